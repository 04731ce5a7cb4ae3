/-! walks, printed by gen.py -/
set_option maxRecDepth 100000
section
variable {E : xE} {p : Program} {l : Launch} {e : Env} {R : Room} {s : State} {m : MethodId} {args : Array Value} {below : List Frame} {meth : Method} {c : Code} {H : Heap} {locs : List Loc} {cells slots : Nat} {ls : Array Slot} {σ0 σ σ9 : xS}
/-! java/util/LinkedList$ListItr.next()Ljava/lang/Object;  -/
theorem o_J13_next {a0 : Nat} {r : Nat} {σ σ9 : xS} (h : (f_J13_next a0).1 σ = some (r, σ9)) : ∃ fs, σ.1 a0 = some (.inl (17, fs)) := xck_of h
theorem w_J13_next {E : xE} {l : Launch} {a0 : Nat} {r : Nat} {σ σ9 : xS} (h : (f_J13_next a0).1 σ = some (r, σ9)) : xMet E l yJ13_next (ws_ yJ13_next cJ13_next 1 (some (.object "java/lang/Object"))) 1 20 [.ref a0] σ σ9 (some (.ref r)) := by
  refine xstart (by decide +kernel) ((f_J13_next a0).2 _ _ _ h) (Nat.le_of_ble_eq_true rfl) ?_
  intro p e s m args below meth c H locs cells slots ls R hX hI hl
  have hx := hX.1.1
  have hb := hX.1.2.1
  have hl : lv_has ls 1 [(0, .ref a0)] := hl
  generalize hσ0 : σ = σ0 at hX hI ⊢
  have h : (f_J13_next a0).1 σ0 = some (r, σ9) := by rw [← hσ0]; exact h
  clear hσ0
  delta f_J13_next at h
  have h := (xck_bd h).2
  refine lv_aload_n hx hb dJ13_next_0 rfl (lv_at hl 0 rfl) ?_
  refine xr_callV (iv := (fun _ => none)) (As := []) (rest := []) h hX hI (fun _ _ h => w_J13_checkForComodification h) (fun _ _ h => o_J13_checkForComodification h) rfl 0 (lw_V q846 q847 q848 q93 q849) ⟨rfl, xd_J13_checkForComodification⟩ ⟨rfl, rfl⟩ rfl hl.1 (Nat.le_of_ble_eq_true rfl) dJ13_next_1 (fun _ H locs σ cells slots h hI => ?_)
  refine lv_aload_n hx hb dJ13_next_4 rfl (lv_at hl 0 rfl) ?_
  refine xr_callV (iv := (fun b => some (.int b))) (As := []) (rest := []) h hX hI (fun _ _ h => w_J13_hasNext h) (fun _ _ h => o_J13_hasNext h) rfl 0 (lw_V q850 q471 q2376 q93 q473) ⟨rfl, xd_J13_hasNext⟩ ⟨rfl, rfl⟩ rfl hl.1 (Nat.le_of_ble_eq_true rfl) dJ13_next_5 (fun v10 H locs σ cells slots h hI => ?_)
  refine W.eq (g2 := F0 m 8 ls [.int v10]) rfl ?_
  refine lv_if_ne (tgt := 19) hx hb dJ13_next_8 (by decide) (fun hc => ?_) (fun hc => ?_)
  · have h := xif_f h hc
    refine lv_aload_n hx hb dJ13_next_19 rfl (lv_at hl 0 rfl) ?_
    refine lv_aload_n hx hb dJ13_next_20 rfl (lv_at hl 0 rfl) ?_
    refine xr_gQ h hX hI xl_J13_29_17.g dJ13_next_21 (fun h => ?_) (fun v11 h => ?_)
    · refine xr_pt h hX hI xl_J13_46_17 (Or.inl rfl) rfl rfl dJ13_next_24 (fun H locs σ h hI => ?_)
      refine lv_aload_n hx hb dJ13_next_27 rfl (lv_at hl 0 rfl) ?_
      refine lv_aload_n hx hb dJ13_next_28 rfl (lv_at hl 0 rfl) ?_
      refine xr_gQ h hX hI xl_J13_29_17.g dJ13_next_29 (fun h => ?_) (fun v12 h => ?_)
      · exact xr_no h
      · refine xr_gQ h hX hI xl_J13_49_18.g dJ13_next_32 (fun h => ?_) (fun v13 h => ?_)
        · refine xr_pt h hX hI xl_J13_29_17 (Or.inl rfl) rfl rfl dJ13_next_35 (fun H locs σ h hI => ?_)
          refine lv_aload_n hx hb dJ13_next_38 rfl (lv_at hl 0 rfl) ?_
          refine lv_dup hx hb dJ13_next_39 rfl ?_
          refine xr_gI h hX hI xl_J13_33_17.g dJ13_next_40 (fun v14 h => ?_)
          refine lv_iconst (v := (1 : Int32)) hx hb dJ13_next_43 (by decide) ?_
          refine lv_iadd hx hb dJ13_next_44 ?_
          refine xr_pt h hX hI xl_J13_33_17 (Or.inl rfl) rfl rfl dJ13_next_45 (fun H locs σ h hI => ?_)
          refine lv_aload_n hx hb dJ13_next_48 rfl (lv_at hl 0 rfl) ?_
          refine xr_gQ h hX hI xl_J13_46_17.g dJ13_next_49 (fun h => ?_) (fun v15 h => ?_)
          · exact xr_no h
          · refine xr_gN h hX hI xl_J13_52_18.g dJ13_next_52 (fun v16 h => ?_)
            exact xr_areturn h hX hI (Or.inl ⟨_, rfl⟩) dJ13_next_55
        · refine xr_pt h hX hI xl_J13_29_17 (Or.inl rfl) rfl rfl dJ13_next_35 (fun H locs σ h hI => ?_)
          refine lv_aload_n hx hb dJ13_next_38 rfl (lv_at hl 0 rfl) ?_
          refine lv_dup hx hb dJ13_next_39 rfl ?_
          refine xr_gI h hX hI xl_J13_33_17.g dJ13_next_40 (fun v17 h => ?_)
          refine lv_iconst (v := (1 : Int32)) hx hb dJ13_next_43 (by decide) ?_
          refine lv_iadd hx hb dJ13_next_44 ?_
          refine xr_pt h hX hI xl_J13_33_17 (Or.inl rfl) rfl rfl dJ13_next_45 (fun H locs σ h hI => ?_)
          refine lv_aload_n hx hb dJ13_next_48 rfl (lv_at hl 0 rfl) ?_
          refine xr_gQ h hX hI xl_J13_46_17.g dJ13_next_49 (fun h => ?_) (fun v18 h => ?_)
          · exact xr_no h
          · refine xr_gN h hX hI xl_J13_52_18.g dJ13_next_52 (fun v19 h => ?_)
            exact xr_areturn h hX hI (Or.inl ⟨_, rfl⟩) dJ13_next_55
    · refine xr_pt h hX hI xl_J13_46_17 (Or.inl rfl) rfl rfl dJ13_next_24 (fun H locs σ h hI => ?_)
      refine lv_aload_n hx hb dJ13_next_27 rfl (lv_at hl 0 rfl) ?_
      refine lv_aload_n hx hb dJ13_next_28 rfl (lv_at hl 0 rfl) ?_
      refine xr_gQ h hX hI xl_J13_29_17.g dJ13_next_29 (fun h => ?_) (fun v20 h => ?_)
      · exact xr_no h
      · refine xr_gQ h hX hI xl_J13_49_18.g dJ13_next_32 (fun h => ?_) (fun v21 h => ?_)
        · refine xr_pt h hX hI xl_J13_29_17 (Or.inl rfl) rfl rfl dJ13_next_35 (fun H locs σ h hI => ?_)
          refine lv_aload_n hx hb dJ13_next_38 rfl (lv_at hl 0 rfl) ?_
          refine lv_dup hx hb dJ13_next_39 rfl ?_
          refine xr_gI h hX hI xl_J13_33_17.g dJ13_next_40 (fun v22 h => ?_)
          refine lv_iconst (v := (1 : Int32)) hx hb dJ13_next_43 (by decide) ?_
          refine lv_iadd hx hb dJ13_next_44 ?_
          refine xr_pt h hX hI xl_J13_33_17 (Or.inl rfl) rfl rfl dJ13_next_45 (fun H locs σ h hI => ?_)
          refine lv_aload_n hx hb dJ13_next_48 rfl (lv_at hl 0 rfl) ?_
          refine xr_gQ h hX hI xl_J13_46_17.g dJ13_next_49 (fun h => ?_) (fun v23 h => ?_)
          · exact xr_no h
          · refine xr_gN h hX hI xl_J13_52_18.g dJ13_next_52 (fun v24 h => ?_)
            exact xr_areturn h hX hI (Or.inl ⟨_, rfl⟩) dJ13_next_55
        · refine xr_pt h hX hI xl_J13_29_17 (Or.inl rfl) rfl rfl dJ13_next_35 (fun H locs σ h hI => ?_)
          refine lv_aload_n hx hb dJ13_next_38 rfl (lv_at hl 0 rfl) ?_
          refine lv_dup hx hb dJ13_next_39 rfl ?_
          refine xr_gI h hX hI xl_J13_33_17.g dJ13_next_40 (fun v25 h => ?_)
          refine lv_iconst (v := (1 : Int32)) hx hb dJ13_next_43 (by decide) ?_
          refine lv_iadd hx hb dJ13_next_44 ?_
          refine xr_pt h hX hI xl_J13_33_17 (Or.inl rfl) rfl rfl dJ13_next_45 (fun H locs σ h hI => ?_)
          refine lv_aload_n hx hb dJ13_next_48 rfl (lv_at hl 0 rfl) ?_
          refine xr_gQ h hX hI xl_J13_46_17.g dJ13_next_49 (fun h => ?_) (fun v26 h => ?_)
          · exact xr_no h
          · refine xr_gN h hX hI xl_J13_52_18.g dJ13_next_52 (fun v27 h => ?_)
            exact xr_areturn h hX hI (Or.inl ⟨_, rfl⟩) dJ13_next_55
  · have h := xif_t h hc
    exact xr_no h
/-! java/util/LinkedList$Node.<init>(Ljava/util/LinkedList$Node;Ljava/lang/Object;Ljava/util/LinkedList$Node;)V  -/
theorem w_J24_init {E : xE} {l : Launch} {a0 : Nat} {a1 : (Option Nat)} {a2 : Nat} {a3 : (Option Nat)} {r : Unit} {σ σ9 : xS} (h : (f_J24_init a0 a1 a2 a3).1 σ = some (r, σ9)) : xMet E l yJ24_init (ws_ yJ24_init cJ24_init 4 none) 1 60 [.ref a0, va_rf a1, .ref a2, va_rf a3] σ σ9 none := by
  rcases a1 with _ | ba1 <;> rcases a3 with _ | ba3
  · refine xstart (by decide +kernel) ((f_J24_init a0 none a2 none).2 _ _ _ h) (Nat.le_of_ble_eq_true rfl) ?_
    intro p e s m args below meth c H locs cells slots ls R hX hI hl
    have hx := hX.1.1
    have hb := hX.1.2.1
    have hl : lv_has ls 4 [(0, .ref a0), (1, .null), (2, .ref a2), (3, .null)] := hl
    generalize hσ0 : σ = σ0 at hX hI ⊢
    have h : (f_J24_init a0 none a2 none).1 σ0 = some (r, σ9) := by rw [← hσ0]; exact h
    clear hσ0
    delta f_J24_init at h
    refine lv_aload_n hx hb dJ24_init_0 rfl (lv_at hl 0 rfl) ?_
    refine xr_objI hX q1147 q123 q124 hl.1 ⟨rfl, rfl⟩ dJ24_init_1 ?_
    refine lv_aload_n hx hb dJ24_init_4 rfl (lv_at hl 0 rfl) ?_
    refine lv_aload_n hx hb dJ24_init_5 rfl (lv_at hl 2 rfl) ?_
    refine xr_pt h hX hI xl_J24_7_18 (Or.inl rfl) rfl rfl dJ24_init_6 (fun H locs σ h hI => ?_)
    refine lv_aload_n hx hb dJ24_init_9 rfl (lv_at hl 0 rfl) ?_
    refine lv_aload_nN hx hb dJ24_init_10 rfl (lv_at hl 3 rfl) ?_
    refine xr_pt h hX hI xl_J24_13_18 (Or.inl rfl) rfl rfl dJ24_init_11 (fun H locs σ h hI => ?_)
    refine lv_aload_n hx hb dJ24_init_14 rfl (lv_at hl 0 rfl) ?_
    refine lv_aload_nN hx hb dJ24_init_15 rfl (lv_at hl 1 rfl) ?_
    refine xr_pt h hX hI xl_J24_17_18 (Or.inl rfl) rfl rfl dJ24_init_16 (fun H locs σ h hI => ?_)
    exact xr_return h hX hI dJ24_init_19
  · refine xstart (by decide +kernel) ((f_J24_init a0 none a2 (some ba3)).2 _ _ _ h) (Nat.le_of_ble_eq_true rfl) ?_
    intro p e s m args below meth c H locs cells slots ls R hX hI hl
    have hx := hX.1.1
    have hb := hX.1.2.1
    have hl : lv_has ls 4 [(0, .ref a0), (1, .null), (2, .ref a2), (3, .ref ba3)] := hl
    generalize hσ0 : σ = σ0 at hX hI ⊢
    have h : (f_J24_init a0 none a2 (some ba3)).1 σ0 = some (r, σ9) := by rw [← hσ0]; exact h
    clear hσ0
    delta f_J24_init at h
    refine lv_aload_n hx hb dJ24_init_0 rfl (lv_at hl 0 rfl) ?_
    refine xr_objI hX q1147 q123 q124 hl.1 ⟨rfl, rfl⟩ dJ24_init_1 ?_
    refine lv_aload_n hx hb dJ24_init_4 rfl (lv_at hl 0 rfl) ?_
    refine lv_aload_n hx hb dJ24_init_5 rfl (lv_at hl 2 rfl) ?_
    refine xr_pt h hX hI xl_J24_7_18 (Or.inl rfl) rfl rfl dJ24_init_6 (fun H locs σ h hI => ?_)
    refine lv_aload_n hx hb dJ24_init_9 rfl (lv_at hl 0 rfl) ?_
    refine lv_aload_n hx hb dJ24_init_10 rfl (lv_at hl 3 rfl) ?_
    refine xr_pt h hX hI xl_J24_13_18 (Or.inl rfl) rfl rfl dJ24_init_11 (fun H locs σ h hI => ?_)
    refine lv_aload_n hx hb dJ24_init_14 rfl (lv_at hl 0 rfl) ?_
    refine lv_aload_nN hx hb dJ24_init_15 rfl (lv_at hl 1 rfl) ?_
    refine xr_pt h hX hI xl_J24_17_18 (Or.inl rfl) rfl rfl dJ24_init_16 (fun H locs σ h hI => ?_)
    exact xr_return h hX hI dJ24_init_19
  · refine xstart (by decide +kernel) ((f_J24_init a0 (some ba1) a2 none).2 _ _ _ h) (Nat.le_of_ble_eq_true rfl) ?_
    intro p e s m args below meth c H locs cells slots ls R hX hI hl
    have hx := hX.1.1
    have hb := hX.1.2.1
    have hl : lv_has ls 4 [(0, .ref a0), (1, .ref ba1), (2, .ref a2), (3, .null)] := hl
    generalize hσ0 : σ = σ0 at hX hI ⊢
    have h : (f_J24_init a0 (some ba1) a2 none).1 σ0 = some (r, σ9) := by rw [← hσ0]; exact h
    clear hσ0
    delta f_J24_init at h
    refine lv_aload_n hx hb dJ24_init_0 rfl (lv_at hl 0 rfl) ?_
    refine xr_objI hX q1147 q123 q124 hl.1 ⟨rfl, rfl⟩ dJ24_init_1 ?_
    refine lv_aload_n hx hb dJ24_init_4 rfl (lv_at hl 0 rfl) ?_
    refine lv_aload_n hx hb dJ24_init_5 rfl (lv_at hl 2 rfl) ?_
    refine xr_pt h hX hI xl_J24_7_18 (Or.inl rfl) rfl rfl dJ24_init_6 (fun H locs σ h hI => ?_)
    refine lv_aload_n hx hb dJ24_init_9 rfl (lv_at hl 0 rfl) ?_
    refine lv_aload_nN hx hb dJ24_init_10 rfl (lv_at hl 3 rfl) ?_
    refine xr_pt h hX hI xl_J24_13_18 (Or.inl rfl) rfl rfl dJ24_init_11 (fun H locs σ h hI => ?_)
    refine lv_aload_n hx hb dJ24_init_14 rfl (lv_at hl 0 rfl) ?_
    refine lv_aload_n hx hb dJ24_init_15 rfl (lv_at hl 1 rfl) ?_
    refine xr_pt h hX hI xl_J24_17_18 (Or.inl rfl) rfl rfl dJ24_init_16 (fun H locs σ h hI => ?_)
    exact xr_return h hX hI dJ24_init_19
  · refine xstart (by decide +kernel) ((f_J24_init a0 (some ba1) a2 (some ba3)).2 _ _ _ h) (Nat.le_of_ble_eq_true rfl) ?_
    intro p e s m args below meth c H locs cells slots ls R hX hI hl
    have hx := hX.1.1
    have hb := hX.1.2.1
    have hl : lv_has ls 4 [(0, .ref a0), (1, .ref ba1), (2, .ref a2), (3, .ref ba3)] := hl
    generalize hσ0 : σ = σ0 at hX hI ⊢
    have h : (f_J24_init a0 (some ba1) a2 (some ba3)).1 σ0 = some (r, σ9) := by rw [← hσ0]; exact h
    clear hσ0
    delta f_J24_init at h
    refine lv_aload_n hx hb dJ24_init_0 rfl (lv_at hl 0 rfl) ?_
    refine xr_objI hX q1147 q123 q124 hl.1 ⟨rfl, rfl⟩ dJ24_init_1 ?_
    refine lv_aload_n hx hb dJ24_init_4 rfl (lv_at hl 0 rfl) ?_
    refine lv_aload_n hx hb dJ24_init_5 rfl (lv_at hl 2 rfl) ?_
    refine xr_pt h hX hI xl_J24_7_18 (Or.inl rfl) rfl rfl dJ24_init_6 (fun H locs σ h hI => ?_)
    refine lv_aload_n hx hb dJ24_init_9 rfl (lv_at hl 0 rfl) ?_
    refine lv_aload_n hx hb dJ24_init_10 rfl (lv_at hl 3 rfl) ?_
    refine xr_pt h hX hI xl_J24_13_18 (Or.inl rfl) rfl rfl dJ24_init_11 (fun H locs σ h hI => ?_)
    refine lv_aload_n hx hb dJ24_init_14 rfl (lv_at hl 0 rfl) ?_
    refine lv_aload_n hx hb dJ24_init_15 rfl (lv_at hl 1 rfl) ?_
    refine xr_pt h hX hI xl_J24_17_18 (Or.inl rfl) rfl rfl dJ24_init_16 (fun H locs σ h hI => ?_)
    exact xr_return h hX hI dJ24_init_19
/-! java/util/LinkedList.linkLast(Ljava/lang/Object;)V  -/
theorem w_J4_linkLast_b38 {a0 : Nat} {r : Unit} (hX : xX E R p m c cJ4_linkLast 4 s args RJ4 "linkLast" meth none 2 83 σ0 σ9)
    (h : (f_J4_linkLast_b38 a0).1 σ = some (r, σ9)) (hI : xI E σ0 σ s H locs cells slots) (hl : lv_has ls 4 [(0, .ref a0)]) : W p l e R s m args below meth c H locs cells slots (xMQ E below args s σ0 σ9 none) (F0 m 38 ls []) := by
  have hx := hX.1.1
  have hb := hX.1.2.1
  delta f_J4_linkLast_b38 at h
  refine lv_aload_n hx hb dJ4_linkLast_38 rfl (lv_at hl 0 rfl) ?_
  refine lv_dup hx hb dJ4_linkLast_39 rfl ?_
  refine xr_gI h hX hI xl_J4_7_13.g dJ4_linkLast_40 (fun v14 h => ?_)
  refine lv_iconst (v := (1 : Int32)) hx hb dJ4_linkLast_43 (by decide) ?_
  refine lv_iadd hx hb dJ4_linkLast_44 ?_
  refine xr_pt h hX hI xl_J4_7_13 (Or.inl rfl) rfl rfl dJ4_linkLast_45 (fun H locs σ h hI => ?_)
  refine lv_aload_n hx hb dJ4_linkLast_48 rfl (lv_at hl 0 rfl) ?_
  refine lv_dup hx hb dJ4_linkLast_49 rfl ?_
  refine xr_gI h hX hI xl_J4_33_13.g dJ4_linkLast_50 (fun v15 h => ?_)
  refine lv_iconst (v := (1 : Int32)) hx hb dJ4_linkLast_53 (by decide) ?_
  refine lv_iadd hx hb dJ4_linkLast_54 ?_
  refine xr_pt h hX hI xl_J4_33_13 (Or.inl rfl) rfl rfl dJ4_linkLast_55 (fun H locs σ h hI => ?_)
  exact xr_return h hX hI dJ4_linkLast_58
theorem o_J4_linkLast {a0 : Nat} {a1 : Nat} {r : Unit} {σ σ9 : xS} (h : (f_J4_linkLast a0 a1).1 σ = some (r, σ9)) : ∃ fs, σ.1 a0 = some (.inl (13, fs)) := xck_of h
theorem w_J4_linkLast {E : xE} {l : Launch} {a0 : Nat} {a1 : Nat} {r : Unit} {σ σ9 : xS} (h : (f_J4_linkLast a0 a1).1 σ = some (r, σ9)) : xMet E l yJ4_linkLast (ws_ yJ4_linkLast cJ4_linkLast 4 none) 2 83 [.ref a0, .ref a1] σ σ9 none := by
  refine xstart (by decide +kernel) ((f_J4_linkLast a0 a1).2 _ _ _ h) (Nat.le_of_ble_eq_true rfl) ?_
  intro p e s m args below meth c H locs cells slots ls R hX hI hl
  have hx := hX.1.1
  have hb := hX.1.2.1
  have hl : lv_has ls 4 [(0, .ref a0), (1, .ref a1)] := hl
  generalize hσ0 : σ = σ0 at hX hI ⊢
  have h : (f_J4_linkLast a0 a1).1 σ0 = some (r, σ9) := by rw [← hσ0]; exact h
  clear hσ0
  delta f_J4_linkLast at h
  have h := (xck_bd h).2
  refine lv_aload_n hx hb dJ4_linkLast_0 rfl (lv_at hl 0 rfl) ?_
  refine xr_gQ h hX hI xl_J4_27_13.g dJ4_linkLast_1 (fun h => ?_) (fun v16 h => ?_)
  · refine lv_astore_nN (lv' := [(2, .null), (0, .ref a0), (1, .ref a1)]) hx hb dJ4_linkLast_4 rfl hl (Nat.le_of_ble_eq_true rfl) rfl (fun ls hl => ?_)
    refine xr_nw h hX hI xn_J4_22 dJ4_linkLast_5 (fun v17 H σ cells slots h hI => ?_)
    refine lv_dup hx hb dJ4_linkLast_8 rfl ?_
    refine lv_aload_nN hx hb dJ4_linkLast_9 rfl (lv_at hl 0 rfl) ?_
    refine lv_aload_n hx hb dJ4_linkLast_10 rfl (lv_at hl 2 rfl) ?_
    refine lv_null hx hb dJ4_linkLast_11 ?_
    refine xr_callI (As := [.null, .ref a1, .null]) (rest := [.ref v17]) h hX hI (fun _ _ h => w_J24_init h) 3 q1144 q1146 q109 q1145 rfl xd_J24_init ⟨rfl, rfl⟩ rfl hl.1 (Nat.le_of_ble_eq_true rfl) dJ4_linkLast_12 (fun _ H locs σ cells slots h hI => ?_)
    refine lv_astore_n (lv' := [(3, .ref v17), (2, .null), (0, .ref a0), (1, .ref a1)]) hx hb dJ4_linkLast_15 rfl hl (Nat.le_of_ble_eq_true rfl) rfl (fun ls hl => ?_)
    refine lv_aload_n hx hb dJ4_linkLast_16 rfl (lv_at hl 2 rfl) ?_
    refine lv_aload_n hx hb dJ4_linkLast_17 rfl (lv_at hl 0 rfl) ?_
    refine xr_pt h hX hI xl_J4_27_13 (Or.inl rfl) rfl rfl dJ4_linkLast_18 (fun H locs σ h hI => ?_)
    refine lv_aload_nN hx hb dJ4_linkLast_21 rfl (lv_at hl 1 rfl) ?_
    refine lv_ifnonnullN hx hb dJ4_linkLast_22 ?_
    refine lv_aload_n hx hb dJ4_linkLast_25 rfl (lv_at hl 2 rfl) ?_
    refine lv_aload_n hx hb dJ4_linkLast_26 rfl (lv_at hl 0 rfl) ?_
    refine xr_pt h hX hI xl_J4_18_13 (Or.inl rfl) rfl rfl dJ4_linkLast_27 (fun H locs σ h hI => ?_)
    refine lv_goto (tgt := 38) hx hb dJ4_linkLast_30 (by decide) ?_
    exact w_J4_linkLast_b38 hX h hI (lv_sub hl [2] rfl)
  · refine lv_astore_n (lv' := [(2, .ref v16), (0, .ref a0), (1, .ref a1)]) hx hb dJ4_linkLast_4 rfl hl (Nat.le_of_ble_eq_true rfl) rfl (fun ls hl => ?_)
    refine xr_nw h hX hI xn_J4_22 dJ4_linkLast_5 (fun v18 H σ cells slots h hI => ?_)
    refine lv_dup hx hb dJ4_linkLast_8 rfl ?_
    refine lv_aload_n hx hb dJ4_linkLast_9 rfl (lv_at hl 0 rfl) ?_
    refine lv_aload_n hx hb dJ4_linkLast_10 rfl (lv_at hl 2 rfl) ?_
    refine lv_null hx hb dJ4_linkLast_11 ?_
    refine xr_callI (As := [.ref v16, .ref a1, .null]) (rest := [.ref v18]) h hX hI (fun _ _ h => w_J24_init h) 3 q1144 q1146 q109 q1145 rfl xd_J24_init ⟨rfl, rfl⟩ rfl hl.1 (Nat.le_of_ble_eq_true rfl) dJ4_linkLast_12 (fun _ H locs σ cells slots h hI => ?_)
    refine lv_astore_n (lv' := [(3, .ref v18), (2, .ref v16), (0, .ref a0), (1, .ref a1)]) hx hb dJ4_linkLast_15 rfl hl (Nat.le_of_ble_eq_true rfl) rfl (fun ls hl => ?_)
    refine lv_aload_n hx hb dJ4_linkLast_16 rfl (lv_at hl 2 rfl) ?_
    refine lv_aload_n hx hb dJ4_linkLast_17 rfl (lv_at hl 0 rfl) ?_
    refine xr_pt h hX hI xl_J4_27_13 (Or.inl rfl) rfl rfl dJ4_linkLast_18 (fun H locs σ h hI => ?_)
    refine lv_aload_n hx hb dJ4_linkLast_21 rfl (lv_at hl 1 rfl) ?_
    refine lv_ifnonnull (tgt := 33) hx hb dJ4_linkLast_22 (by decide) ?_
    refine lv_aload_n hx hb dJ4_linkLast_33 rfl (lv_at hl 1 rfl) ?_
    refine lv_aload_n hx hb dJ4_linkLast_34 rfl (lv_at hl 0 rfl) ?_
    refine xr_pt h hX hI xl_J4_36_18 (Or.inl rfl) rfl rfl dJ4_linkLast_35 (fun H locs σ h hI => ?_)
    exact w_J4_linkLast_b38 hX h hI (lv_sub hl [2] rfl)
/-! java/util/LinkedList.addLast(Ljava/lang/Object;)V  -/
theorem o_J4_addLast {a0 : Nat} {a1 : Nat} {r : Unit} {σ σ9 : xS} (h : (f_J4_addLast a0 a1).1 σ = some (r, σ9)) : ∃ fs, σ.1 a0 = some (.inl (13, fs)) := xck_of h
theorem w_J4_addLast {E : xE} {l : Launch} {a0 : Nat} {a1 : Nat} {r : Unit} {σ σ9 : xS} (h : (f_J4_addLast a0 a1).1 σ = some (r, σ9)) : xMet E l yJ4_addLast (ws_ yJ4_addLast cJ4_addLast 2 none) 3 106 [.ref a0, .ref a1] σ σ9 none := by
  refine xstart (by decide +kernel) ((f_J4_addLast a0 a1).2 _ _ _ h) (Nat.le_of_ble_eq_true rfl) ?_
  intro p e s m args below meth c H locs cells slots ls R hX hI hl
  have hx := hX.1.1
  have hb := hX.1.2.1
  have hl : lv_has ls 2 [(0, .ref a0), (1, .ref a1)] := hl
  generalize hσ0 : σ = σ0 at hX hI ⊢
  have h : (f_J4_addLast a0 a1).1 σ0 = some (r, σ9) := by rw [← hσ0]; exact h
  clear hσ0
  delta f_J4_addLast at h
  have h := (xck_bd h).2
  refine lv_aload_n hx hb dJ4_addLast_0 rfl (lv_at hl 0 rfl) ?_
  refine lv_aload_n hx hb dJ4_addLast_1 rfl (lv_at hl 1 rfl) ?_
  refine xr_callV (iv := (fun _ => none)) (As := [.ref a1]) (rest := []) h hX hI (fun _ _ h => w_J4_linkLast h) (fun _ _ h => o_J4_linkLast h) rfl 1 (lw_V q1138 q1139 q1140 q81 q1141) ⟨rfl, xd_J4_linkLast⟩ ⟨rfl, rfl⟩ rfl hl.1 (Nat.le_of_ble_eq_true rfl) dJ4_addLast_2 (fun _ H locs σ cells slots h hI => ?_)
  exact xr_return h hX hI dJ4_addLast_5
/-! PayMatch$State.copy()LPayMatch$State;  -/
theorem w_X1_copy_b77 {a0 : Nat} {a1 : Nat} {r : Nat} (hX : xX E R p m c cX1_copy 3 s args RX1 "copy" meth (some (.object "PayMatch$State")) 13 416 σ0 σ9)
    (h : (f_X1_copy_b77 a0 a1).1 σ = some (r, σ9)) (hI : xI E σ0 σ s H locs cells slots) (hl : lv_has ls 3 [(0, .ref a0), (1, .ref a1)]) : W p l e R s m args below meth c H locs cells slots (xMQ E below args s σ0 σ9 (some (.ref r))) (F0 m 77 ls []) := by
  have hx := hX.1.1
  have hb := hX.1.2.1
  delta f_X1_copy_b77 at h
  refine lv_aload_n hx hb dX1_copy_77 rfl (lv_at hl 1 rfl) ?_
  refine lv_aload_n hx hb dX1_copy_78 rfl (lv_at hl 0 rfl) ?_
  refine xr_gD h hX hI xl_X1_33_1.g dX1_copy_79 (fun v21 h => ?_)
  refine xr_pt h hX hI xl_X1_33_1 (Or.inl rfl) rfl rfl dX1_copy_82 (fun H locs σ h hI => ?_)
  refine lv_aload_n hx hb dX1_copy_85 rfl (lv_at hl 1 rfl) ?_
  refine lv_aload_n hx hb dX1_copy_86 rfl (lv_at hl 0 rfl) ?_
  refine xr_gI h hX hI xl_X1_37_1.g dX1_copy_87 (fun v22 h => ?_)
  refine xr_pt h hX hI xl_X1_37_1 (Or.inl rfl) rfl rfl dX1_copy_90 (fun H locs σ h hI => ?_)
  refine lv_aload_n hx hb dX1_copy_93 rfl (lv_at hl 1 rfl) ?_
  refine lv_aload_n hx hb dX1_copy_94 rfl (lv_at hl 0 rfl) ?_
  refine xr_gI h hX hI xl_X1_41_1.g dX1_copy_95 (fun v23 h => ?_)
  refine xr_pt h hX hI xl_X1_41_1 (Or.inl rfl) rfl rfl dX1_copy_98 (fun H locs σ h hI => ?_)
  refine lv_aload_n hx hb dX1_copy_101 rfl (lv_at hl 1 rfl) ?_
  refine lv_aload_n hx hb dX1_copy_102 rfl (lv_at hl 0 rfl) ?_
  refine xr_gI h hX hI xl_X1_69_1.g dX1_copy_103 (fun v24 h => ?_)
  refine xr_pt h hX hI xl_X1_69_1 (Or.inl rfl) rfl rfl dX1_copy_106 (fun H locs σ h hI => ?_)
  refine lv_aload_n hx hb dX1_copy_109 rfl (lv_at hl 1 rfl) ?_
  refine lv_aload_n hx hb dX1_copy_110 rfl (lv_at hl 0 rfl) ?_
  refine xr_gI h hX hI xl_X1_72_1.g dX1_copy_111 (fun v25 h => ?_)
  refine xr_pt h hX hI xl_X1_72_1 (Or.inl rfl) rfl rfl dX1_copy_114 (fun H locs σ h hI => ?_)
  refine lv_aload_n hx hb dX1_copy_117 rfl (lv_at hl 1 rfl) ?_
  exact xr_areturn h hX hI (Or.inl ⟨_, rfl⟩) dX1_copy_118
theorem w_X1_copy_b49 {rec49 : Nat → Nat → Nat → xM Nat} {a0 : Nat} {a1 : Nat} {a2 : Nat} {r : Nat} (hX : xX E R p m c cX1_copy 3 s args RX1 "copy" meth (some (.object "PayMatch$State")) 13 416 σ0 σ9) (hrec49 : ∀ (a0 : Nat) (a1 : Nat) (a2 : Nat) (σ : xS) (H : Heap) (locs : List Loc) (cells slots : Nat) (ls : Array Slot), (rec49 a0 a1 a2).1 σ = some (r, σ9) → xI E σ0 σ s H locs cells slots → lv_has ls 3 [(0, .ref a0), (1, .ref a1), (2, .ref a2)] → W p l e R s m args below meth c H locs cells slots (xMQ E below args s σ0 σ9 (some (.ref r))) (F0 m 49 ls []))
    (h : (f_X1_copy_b49 rec49 a0 a1 a2).1 σ = some (r, σ9)) (hI : xI E σ0 σ s H locs cells slots) (hl : lv_has ls 3 [(0, .ref a0), (1, .ref a1), (2, .ref a2)]) : W p l e R s m args below meth c H locs cells slots (xMQ E below args s σ0 σ9 (some (.ref r))) (F0 m 49 ls []) := by
  have hx := hX.1.1
  have hb := hX.1.2.1
  delta f_X1_copy_b49 at h
  refine lv_aload_n hx hb dX1_copy_49 rfl (lv_at hl 2 rfl) ?_
  refine xr_callF (iv := (fun b => some (.int b))) (As := []) (rest := []) h hX hI (fun _ _ h => w_J13_hasNext h) (fun _ _ h => o_J13_hasNext h) rfl 0 xfw_5 q1168 q469 q471 q93 q473 xdi_5 ⟨rfl, rfl⟩ rfl hl.1 (Nat.le_of_ble_eq_true rfl) dX1_copy_50 (fun v18 H locs σ cells slots h hI => ?_)
  refine W.eq (g2 := F0 m 55 ls [.int v18]) rfl ?_
  refine lv_if_eq (tgt := 77) hx hb dX1_copy_55 (by decide) (fun hc => ?_) (fun hc => ?_)
  · have h := xif_t h hc
    exact w_X1_copy_b77 hX h hI (lv_sub hl [0, 1] rfl)
  · have h := xif_f h hc
    refine lv_aload_n hx hb dX1_copy_58 rfl (lv_at hl 1 rfl) ?_
    refine xr_gN h hX hI xl_X1_27_1.g dX1_copy_59 (fun v19 h => ?_)
    refine lv_aload_n hx hb dX1_copy_62 rfl (lv_at hl 2 rfl) ?_
    refine xr_callF (iv := (fun b => some (.ref b))) (As := []) (rest := [.ref v19]) h hX hI (fun _ _ h => w_J13_next h) (fun _ _ h => o_J13_next h) rfl 0 xfw_7 q1170 q841 q843 q93 q845 xdi_7 ⟨rfl, rfl⟩ rfl hl.1 (Nat.le_of_ble_eq_true rfl) dX1_copy_63 (fun v20 H locs σ cells slots h hI => ?_)
    refine W.eq (g2 := F0 m 68 ls [.ref v20, .ref v19]) rfl ?_
    refine xr_cks h hX hI xc_X1_63 dX1_copy_68 (fun h => ?_)
    refine xr_callV (iv := (fun _ => none)) (As := [.ref v20]) (rest := []) h hX hI (fun _ _ h => w_J4_addLast h) (fun _ _ h => o_J4_addLast h) rfl 1 (lw_V q1172 q1173 q1174 q81 q1175) ⟨rfl, xd_J4_addLast⟩ ⟨rfl, rfl⟩ rfl hl.1 (Nat.le_of_ble_eq_true rfl) dX1_copy_71 (fun _ H locs σ cells slots h hI => ?_)
    refine lv_goto (tgt := 49) hx hb dX1_copy_74 (by decide) ?_
    exact hrec49 a0 a1 a2 _ _ _ _ _ _ h hI (lv_sub hl [0, 1, 2] rfl)
theorem w_X1_copy_L49 {r : Nat} (hX : xX E R p m c cX1_copy 3 s args RX1 "copy" meth (some (.object "PayMatch$State")) 13 416 σ0 σ9) : ∀ (n : Nat) (a0 : Nat) (a1 : Nat) (a2 : Nat) (σ : xS) (H : Heap) (locs : List Loc) (cells slots : Nat) (ls : Array Slot), (f_X1_copy_L49 n a0 a1 a2).1 σ = some (r, σ9) → xI E σ0 σ s H locs cells slots → lv_has ls 3 [(0, .ref a0), (1, .ref a1), (2, .ref a2)] → W p l e R s m args below meth c H locs cells slots (xMQ E below args s σ0 σ9 (some (.ref r))) (F0 m 49 ls []) := by
  intro n
  induction n with
  | zero =>
    intro a0 a1 a2 σ H locs cells slots ls h
    exact xr_no h
  | succ n ih =>
    intro a0 a1 a2 σ H locs cells slots ls h hI hl
    exact w_X1_copy_b49 hX ih h hI hl
theorem o_X1_copy {a0 : Nat} {r : Nat} {σ σ9 : xS} (h : (f_X1_copy a0).1 σ = some (r, σ9)) : ∃ fs, σ.1 a0 = some (.inl (1, fs)) := xck_of h
theorem w_X1_copy {E : xE} {l : Launch} {a0 : Nat} {r : Nat} {σ σ9 : xS} (h : (f_X1_copy a0).1 σ = some (r, σ9)) : xMet E l yX1_copy (ws_ yX1_copy cX1_copy 3 (some (.object "PayMatch$State"))) 13 416 [.ref a0] σ σ9 (some (.ref r)) := by
  refine xstart (by decide +kernel) ((f_X1_copy a0).2 _ _ _ h) (Nat.le_of_ble_eq_true rfl) ?_
  intro p e s m args below meth c H locs cells slots ls R hX hI hl
  have hx := hX.1.1
  have hb := hX.1.2.1
  have hl : lv_has ls 3 [(0, .ref a0)] := hl
  generalize hσ0 : σ = σ0 at hX hI ⊢
  have h : (f_X1_copy a0).1 σ0 = some (r, σ9) := by rw [← hσ0]; exact h
  clear hσ0
  delta f_X1_copy at h
  have h := (xck_bd h).2
  refine xr_nw h hX hI xn_X1_13 dX1_copy_0 (fun v26 H σ cells slots h hI => ?_)
  refine lv_dup hx hb dX1_copy_3 rfl ?_
  refine xr_callI (As := []) (rest := [.ref v26]) h hX hI (fun _ _ h => w_X1_init h) 0 q328 q129 q75 q128 rfl xd_X1_init ⟨rfl, rfl⟩ rfl hl.1 (Nat.le_of_ble_eq_true rfl) dX1_copy_4 (fun _ H locs σ cells slots h hI => ?_)
  refine lv_astore_n (lv' := [(1, .ref v26), (0, .ref a0)]) hx hb dX1_copy_7 rfl hl (Nat.le_of_ble_eq_true rfl) rfl (fun ls hl => ?_)
  refine lv_aload_n hx hb dX1_copy_8 rfl (lv_at hl 0 rfl) ?_
  refine lv_aload_n hx hb dX1_copy_9 rfl (lv_at hl 1 rfl) ?_
  refine xr_gN h hX hI xl_X1_12_1.g dX1_copy_10 (fun v27 h => ?_)
  refine xr_callV (iv := (fun b => some (.ref b))) (As := []) (rest := [.ref v26]) h hX hI (fun _ _ h => w_X2_copy_7 h) (fun _ _ h => o_X2_copy_7 h) rfl 0 (lw_V q329 q330 q331 q76 q332) ⟨rfl, xd_X2_copy⟩ ⟨rfl, rfl⟩ rfl hl.1 (Nat.le_of_ble_eq_true rfl) dX1_copy_13 (fun v28 H locs σ cells slots h hI => ?_)
  refine W.eq (g2 := F0 m 16 ls [.ref v28, .ref v26]) rfl ?_
  refine xr_pt h hX hI xl_X1_12_1 (Or.inl rfl) rfl rfl dX1_copy_16 (fun H locs σ h hI => ?_)
  refine lv_aload_n hx hb dX1_copy_19 rfl (lv_at hl 0 rfl) ?_
  refine lv_aload_n hx hb dX1_copy_20 rfl (lv_at hl 1 rfl) ?_
  refine xr_gN h hX hI xl_X1_18_1.g dX1_copy_21 (fun v29 h => ?_)
  refine xr_callV (iv := (fun b => some (.ref b))) (As := []) (rest := [.ref v26]) h hX hI (fun _ _ h => w_X2_copy_6 h) (fun _ _ h => o_X2_copy_6 h) rfl 0 (lw_V q329 q330 q331 q76 q332) ⟨rfl, xd_X2_copy⟩ ⟨rfl, rfl⟩ rfl hl.1 (Nat.le_of_ble_eq_true rfl) dX1_copy_24 (fun v30 H locs σ cells slots h hI => ?_)
  refine W.eq (g2 := F0 m 27 ls [.ref v30, .ref v26]) rfl ?_
  refine xr_pt h hX hI xl_X1_18_1 (Or.inl rfl) rfl rfl dX1_copy_27 (fun H locs σ h hI => ?_)
  refine lv_aload_n hx hb dX1_copy_30 rfl (lv_at hl 0 rfl) ?_
  refine lv_aload_n hx hb dX1_copy_31 rfl (lv_at hl 1 rfl) ?_
  refine xr_gN h hX hI xl_X1_21_1.g dX1_copy_32 (fun v31 h => ?_)
  refine xr_callV (iv := (fun b => some (.ref b))) (As := []) (rest := [.ref v26]) h hX hI (fun _ _ h => w_X2_copy_4 h) (fun _ _ h => o_X2_copy_4 h) rfl 0 (lw_V q329 q330 q331 q76 q332) ⟨rfl, xd_X2_copy⟩ ⟨rfl, rfl⟩ rfl hl.1 (Nat.le_of_ble_eq_true rfl) dX1_copy_35 (fun v32 H locs σ cells slots h hI => ?_)
  refine W.eq (g2 := F0 m 38 ls [.ref v32, .ref v26]) rfl ?_
  refine xr_pt h hX hI xl_X1_21_1 (Or.inl rfl) rfl rfl dX1_copy_38 (fun H locs σ h hI => ?_)
  refine lv_aload_n hx hb dX1_copy_41 rfl (lv_at hl 1 rfl) ?_
  refine xr_gN h hX hI xl_X1_27_1.g dX1_copy_42 (fun v33 h => ?_)
  refine xr_callU (iv := (fun b => some (.ref b))) (As := []) (rest := []) h hX hI (fun _ _ h => w_J3_iterator_c13 h) (fun _ _ h => o_J3_iterator_c13 h) rfl 0 (fun h1 h2 h3 => va_cwU (owner := "java/util/AbstractSequentialList") 0 hX.1.2.2.2.2 (xlwU q1163 q1164 q1166 q367 q80 q369) rfl h1 h2 rfl (by decide +kernel) h3) ⟨rfl, rfl⟩ rfl hl.1 (Nat.le_of_ble_eq_true rfl) dX1_copy_45 (fun v34 H locs σ cells slots h hI => ?_)
  refine W.eq (g2 := F0 m 48 ls [.ref v34]) rfl ?_
  refine lv_astore_n (lv' := [(2, .ref v34), (1, .ref v26), (0, .ref a0)]) hx hb dX1_copy_48 rfl hl (Nat.le_of_ble_eq_true rfl) rfl (fun ls hl => ?_)
  exact w_X1_copy_L49 hX xFU a0 v26 v34 _ _ _ _ _ _ h hI (lv_sub hl [2, 1, 0] rfl)
/-! PayMatch$Supplier.<init>(I)V  -/
theorem w_X7_init_2 {E : xE} {l : Launch} {a0 : Nat} {a1 : Int32} {r : Unit} {σ σ9 : xS} (h : (f_X7_init_2 a0 a1).1 σ = some (r, σ9)) : xMet E l yX7_init_2 (ws_ yX7_init_2 cX7_init_2 2 none) 2 86 [.ref a0, .int a1] σ σ9 none := by
  refine xstart (by decide +kernel) ((f_X7_init_2 a0 a1).2 _ _ _ h) (Nat.le_of_ble_eq_true rfl) ?_
  intro p e s m args below meth c H locs cells slots ls R hX hI hl
  have hx := hX.1.1
  have hb := hX.1.2.1
  have hl : lv_has ls 2 [(0, .ref a0), (1, .int a1)] := hl
  generalize hσ0 : σ = σ0 at hX hI ⊢
  have h : (f_X7_init_2 a0 a1).1 σ0 = some (r, σ9) := by rw [← hσ0]; exact h
  clear hσ0
  delta f_X7_init_2 at h
  refine lv_aload_n hx hb dX7_init_2_0 rfl (lv_at hl 0 rfl) ?_
  refine lv_iload_n hx hb dX7_init_2_1 rfl (lv_at hl 1 rfl) ?_
  refine lv_ldc2d (v := (4617315517961601024 : UInt64)) hx hb hX.1.2.2.2.1 (hX.1.2.2.2.2 _ q1180) dX7_init_2_2 ?_
  refine lv_dconst0 hx hb dX7_init_2_5 ?_
  refine lv_bipush (v := (100 : Int32)) hx hb dX7_init_2_6 (by decide) ?_
  refine xr_callI (As := [.int a1, .double (4617315517961601024 : UInt64), .double FP.dconst0, .int (100 : Int32)]) (rest := []) h hX hI (fun _ _ h => w_X7_init h) 4 q1051 q1053 q108 q1052 rfl xd_X7_init ⟨rfl, rfl⟩ rfl hl.1 (Nat.le_of_ble_eq_true rfl) dX7_init_2_8 (fun _ H locs σ cells slots h hI => ?_)
  exact xr_return h hX hI dX7_init_2_11
/-! java/util/ArrayDeque.inc(II)I  -/
theorem w_J5_inc {E : xE} {l : Launch} {a0 : Int32} {a1 : Int32} {r : Int32} {σ σ9 : xS} (h : (f_J5_inc a0 a1).1 σ = some (r, σ9)) : xMet E l yJ5_inc (ws_ yJ5_inc cJ5_inc 2 (some .int)) 0 0 [.int a0, .int a1] σ σ9 (some (.int r)) := by
  refine xstart (by decide +kernel) ((f_J5_inc a0 a1).2 _ _ _ h) (Nat.le_of_ble_eq_true rfl) ?_
  intro p e s m args below meth c H locs cells slots ls R hX hI hl
  have hx := hX.1.1
  have hb := hX.1.2.1
  have hl : lv_has ls 2 [(0, .int a0), (1, .int a1)] := hl
  generalize hσ0 : σ = σ0 at hX hI ⊢
  have h : (f_J5_inc a0 a1).1 σ0 = some (r, σ9) := by rw [← hσ0]; exact h
  clear hσ0
  delta f_J5_inc at h
  refine lv_iinc (k := 0) (lv' := [(0, .int (a0 + (1 : Int32))), (1, .int a1)]) hx hb dJ5_inc_0 hl rfl (xiinc (by decide)) (Nat.le_of_ble_eq_true rfl) rfl (fun ls hl => ?_)
  refine lv_iload_n hx hb dJ5_inc_3 rfl (lv_at hl 0 rfl) ?_
  refine lv_iload_n hx hb dJ5_inc_4 rfl (lv_at hl 1 rfl) ?_
  refine lv_icmp_lt (tgt := 10) hx hb dJ5_inc_5 (by decide) (fun hc => ?_) (fun hc => ?_)
  · have h := xif_t h hc
    refine lv_iload_n hx hb dJ5_inc_10 rfl (lv_at hl 0 rfl) ?_
    exact xr_ireturn h hX hI dJ5_inc_11
  · have h := xif_f h hc
    refine lv_iconst (v := (0 : Int32)) hx hb dJ5_inc_8 (by decide) ?_
    refine lv_istore_n (lv' := [(0, .int (0 : Int32)), (1, .int a1)]) hx hb dJ5_inc_9 rfl hl (Nat.le_of_ble_eq_true rfl) rfl (fun ls hl => ?_)
    refine lv_iload_n hx hb dJ5_inc_10 rfl (lv_at hl 0 rfl) ?_
    exact xr_ireturn h hX hI dJ5_inc_11
/-! java/util/ArrayDeque.addLast(Ljava/lang/Object;)V  -/
theorem o_J5_addLast {a0 : Nat} {a1 : Nat} {r : Unit} {σ σ9 : xS} (h : (f_J5_addLast a0 a1).1 σ = some (r, σ9)) : ∃ fs, σ.1 a0 = some (.inl (14, fs)) := xck_of h
theorem w_J5_addLast {E : xE} {l : Launch} {a0 : Nat} {a1 : Nat} {r : Unit} {σ σ9 : xS} (h : (f_J5_addLast a0 a1).1 σ = some (r, σ9)) : xMet E l yJ5_addLast (ws_ yJ5_addLast cJ5_addLast 3 none) 1 21 [.ref a0, .ref a1] σ σ9 none := by
  refine xstart (by decide +kernel) ((f_J5_addLast a0 a1).2 _ _ _ h) (Nat.le_of_ble_eq_true rfl) ?_
  intro p e s m args below meth c H locs cells slots ls R hX hI hl
  have hx := hX.1.1
  have hb := hX.1.2.1
  have hl : lv_has ls 3 [(0, .ref a0), (1, .ref a1)] := hl
  generalize hσ0 : σ = σ0 at hX hI ⊢
  have h : (f_J5_addLast a0 a1).1 σ0 = some (r, σ9) := by rw [← hσ0]; exact h
  clear hσ0
  delta f_J5_addLast at h
  have h := (xck_bd h).2
  refine lv_aload_n hx hb dJ5_addLast_0 rfl (lv_at hl 1 rfl) ?_
  refine lv_ifnonnull (tgt := 12) hx hb dJ5_addLast_1 (by decide) ?_
  refine lv_aload_n hx hb dJ5_addLast_12 rfl (lv_at hl 0 rfl) ?_
  refine xr_gN h hX hI xl_J5_3_14.g dJ5_addLast_13 (fun v7 h => ?_)
  refine lv_astore_n (lv' := [(2, .ref v7), (0, .ref a0), (1, .ref a1)]) hx hb dJ5_addLast_16 rfl hl (Nat.le_of_ble_eq_true rfl) rfl (fun ls hl => ?_)
  refine lv_aload_n hx hb dJ5_addLast_17 rfl (lv_at hl 0 rfl) ?_
  refine lv_aload_n hx hb dJ5_addLast_18 rfl (lv_at hl 1 rfl) ?_
  refine xr_gI h hX hI xl_J5_20_14.g dJ5_addLast_19 (fun v8 h => ?_)
  refine lv_aload_n hx hb dJ5_addLast_22 rfl (lv_at hl 2 rfl) ?_
  refine xr_stR h hX hI (by decide) dJ5_addLast_23 (fun H locs σ h hI => ?_)
  refine lv_aload_n hx hb dJ5_addLast_24 rfl (lv_at hl 1 rfl) ?_
  refine xr_gI h hX hI xl_J5_24_14.g dJ5_addLast_25 (fun v9 h => ?_)
  refine lv_aload_n hx hb dJ5_addLast_28 rfl (lv_at hl 1 rfl) ?_
  refine lv_aload_n hx hb dJ5_addLast_29 rfl (lv_at hl 1 rfl) ?_
  refine xr_gI h hX hI xl_J5_20_14.g dJ5_addLast_30 (fun v10 h => ?_)
  refine lv_aload_n hx hb dJ5_addLast_33 rfl (lv_at hl 0 rfl) ?_
  refine xr_ln h hX hI dJ5_addLast_34 (fun v11 h => ?_)
  refine xr_callS (iv := (fun b => some (.int b))) (As := [.int v10, .int v11]) (rest := [.ref a0, .int v9]) h hX hI (fun _ _ h => w_J5_inc h) 2 (lw_S q1190 q826 q82 q827) xd_J5_inc ⟨rfl, rfl⟩ rfl hl.1 (Nat.le_of_ble_eq_true rfl) dJ5_addLast_35 (fun v12 H locs σ cells slots h hI => ?_)
  refine W.eq (g2 := F0 m 38 ls [.int v12, .ref a0, .int v9]) rfl ?_
  refine lv_dup_x1 hx hb dJ5_addLast_38 rfl rfl ?_
  refine xr_pt h hX hI xl_J5_20_14 (Or.inl rfl) rfl rfl dJ5_addLast_39 (fun H locs σ h hI => ?_)
  refine lv_icmp_ne (tgt := 50) hx hb dJ5_addLast_42 (by decide) (fun hc => ?_) (fun hc => ?_)
  · have h := xif_f h hc
    exact xr_return h hX hI dJ5_addLast_50
  · have h := xif_t h hc
    exact xr_no h
/-! java/util/ArrayDeque.sub(III)I  -/
theorem w_J5_sub {E : xE} {l : Launch} {a0 : Int32} {a1 : Int32} {a2 : Int32} {r : Int32} {σ σ9 : xS} (h : (f_J5_sub a0 a1 a2).1 σ = some (r, σ9)) : xMet E l yJ5_sub (ws_ yJ5_sub cJ5_sub 3 (some .int)) 0 0 [.int a0, .int a1, .int a2] σ σ9 (some (.int r)) := by
  refine xstart (by decide +kernel) ((f_J5_sub a0 a1 a2).2 _ _ _ h) (Nat.le_of_ble_eq_true rfl) ?_
  intro p e s m args below meth c H locs cells slots ls R hX hI hl
  have hx := hX.1.1
  have hb := hX.1.2.1
  have hl : lv_has ls 3 [(0, .int a0), (1, .int a1), (2, .int a2)] := hl
  generalize hσ0 : σ = σ0 at hX hI ⊢
  have h : (f_J5_sub a0 a1 a2).1 σ0 = some (r, σ9) := by rw [← hσ0]; exact h
  clear hσ0
  delta f_J5_sub at h
  refine lv_iload_n hx hb dJ5_sub_0 rfl (lv_at hl 0 rfl) ?_
  refine lv_iload_n hx hb dJ5_sub_1 rfl (lv_at hl 1 rfl) ?_
  refine lv_isub hx hb dJ5_sub_2 ?_
  refine lv_dup hx hb dJ5_sub_3 rfl ?_
  refine lv_istore_n (lv' := [(0, .int (a0 - a1)), (1, .int a1), (2, .int a2)]) hx hb dJ5_sub_4 rfl hl (Nat.le_of_ble_eq_true rfl) rfl (fun ls hl => ?_)
  refine lv_if_ge (tgt := 12) hx hb dJ5_sub_5 (by decide) (fun hc => ?_) (fun hc => ?_)
  · have h := xif_t h hc
    refine lv_iload_n hx hb dJ5_sub_12 rfl (lv_at hl 0 rfl) ?_
    exact xr_ireturn h hX hI dJ5_sub_13
  · have h := xif_f h hc
    refine lv_iload_n hx hb dJ5_sub_8 rfl (lv_at hl 0 rfl) ?_
    refine lv_iload_n hx hb dJ5_sub_9 rfl (lv_at hl 2 rfl) ?_
    refine lv_iadd hx hb dJ5_sub_10 ?_
    refine lv_istore_n (lv' := [(0, .int ((a0 - a1) + a2)), (1, .int a1), (2, .int a2)]) hx hb dJ5_sub_11 rfl hl (Nat.le_of_ble_eq_true rfl) rfl (fun ls hl => ?_)
    refine lv_iload_n hx hb dJ5_sub_12 rfl (lv_at hl 0 rfl) ?_
    exact xr_ireturn h hX hI dJ5_sub_13
/-! java/util/ArrayDeque.size()I  -/
theorem o_J5_size {a0 : Nat} {r : Int32} {σ σ9 : xS} (h : (f_J5_size a0).1 σ = some (r, σ9)) : ∃ fs, σ.1 a0 = some (.inl (14, fs)) := xck_of h
theorem w_J5_size {E : xE} {l : Launch} {a0 : Nat} {r : Int32} {σ σ9 : xS} (h : (f_J5_size a0).1 σ = some (r, σ9)) : xMet E l yJ5_size (ws_ yJ5_size cJ5_size 1 (some .int)) 1 22 [.ref a0] σ σ9 (some (.int r)) := by
  refine xstart (by decide +kernel) ((f_J5_size a0).2 _ _ _ h) (Nat.le_of_ble_eq_true rfl) ?_
  intro p e s m args below meth c H locs cells slots ls R hX hI hl
  have hx := hX.1.1
  have hb := hX.1.2.1
  have hl : lv_has ls 1 [(0, .ref a0)] := hl
  generalize hσ0 : σ = σ0 at hX hI ⊢
  have h : (f_J5_size a0).1 σ0 = some (r, σ9) := by rw [← hσ0]; exact h
  clear hσ0
  delta f_J5_size at h
  have h := (xck_bd h).2
  refine lv_aload_n hx hb dJ5_size_0 rfl (lv_at hl 0 rfl) ?_
  refine xr_gI h hX hI xl_J5_20_14.g dJ5_size_1 (fun v6 h => ?_)
  refine lv_aload_n hx hb dJ5_size_4 rfl (lv_at hl 0 rfl) ?_
  refine xr_gI h hX hI xl_J5_24_14.g dJ5_size_5 (fun v7 h => ?_)
  refine lv_aload_n hx hb dJ5_size_8 rfl (lv_at hl 0 rfl) ?_
  refine xr_gN h hX hI xl_J5_3_14.g dJ5_size_9 (fun v8 h => ?_)
  refine xr_ln h hX hI dJ5_size_12 (fun v9 h => ?_)
  refine xr_callS (iv := (fun b => some (.int b))) (As := [.int v6, .int v7, .int v9]) (rest := []) h hX hI (fun _ _ h => w_J5_sub h) 3 (lw_S q1207 q1208 q82 q1209) xd_J5_sub ⟨rfl, rfl⟩ rfl hl.1 (Nat.le_of_ble_eq_true rfl) dJ5_size_13 (fun v10 H locs σ cells slots h hI => ?_)
  refine W.eq (g2 := F0 m 16 ls [.int v10]) rfl ?_
  exact xr_ireturn h hX hI dJ5_size_16
/-! java/util/ArrayDeque.elementAt([Ljava/lang/Object;I)Ljava/lang/Object;  -/
theorem w_J5_elementAt {E : xE} {l : Launch} {a0 : Nat} {a1 : Int32} {r : (Option Nat)} {σ σ9 : xS} (h : (f_J5_elementAt a0 a1).1 σ = some (r, σ9)) : xMet E l yJ5_elementAt (ws_ yJ5_elementAt cJ5_elementAt 2 (some (.object "java/lang/Object"))) 0 0 [.ref a0, .int a1] σ σ9 (some (va_rf r)) := by
  refine xstart (by decide +kernel) ((f_J5_elementAt a0 a1).2 _ _ _ h) (Nat.le_of_ble_eq_true rfl) ?_
  intro p e s m args below meth c H locs cells slots ls R hX hI hl
  have hx := hX.1.1
  have hb := hX.1.2.1
  have hl : lv_has ls 2 [(0, .ref a0), (1, .int a1)] := hl
  generalize hσ0 : σ = σ0 at hX hI ⊢
  have h : (f_J5_elementAt a0 a1).1 σ0 = some (r, σ9) := by rw [← hσ0]; exact h
  clear hσ0
  delta f_J5_elementAt at h
  refine lv_aload_n hx hb dJ5_elementAt_0 rfl (lv_at hl 0 rfl) ?_
  refine lv_iload_n hx hb dJ5_elementAt_1 rfl (lv_at hl 1 rfl) ?_
  refine xr_ldQ h hX hI (by decide) dJ5_elementAt_2 (fun h => ?_) (fun v2 h => ?_)
  · exact xr_areturn0 h hX hI (Or.inl ⟨_, rfl⟩) dJ5_elementAt_3
  · exact xr_areturnQ h hX hI (Or.inl ⟨_, rfl⟩) dJ5_elementAt_3
/-! java/util/ArrayDeque.pollFirst()Ljava/lang/Object;  -/
theorem o_J5_pollFirst {a0 : Nat} {r : (Option Nat)} {σ σ9 : xS} (h : (f_J5_pollFirst a0).1 σ = some (r, σ9)) : ∃ fs, σ.1 a0 = some (.inl (14, fs)) := xck_of h
theorem w_J5_pollFirst {E : xE} {l : Launch} {a0 : Nat} {r : (Option Nat)} {σ σ9 : xS} (h : (f_J5_pollFirst a0).1 σ = some (r, σ9)) : xMet E l yJ5_pollFirst (ws_ yJ5_pollFirst cJ5_pollFirst 4 (some (.object "java/lang/Object"))) 1 21 [.ref a0] σ σ9 (some (va_rf r)) := by
  refine xstart (by decide +kernel) ((f_J5_pollFirst a0).2 _ _ _ h) (Nat.le_of_ble_eq_true rfl) ?_
  intro p e s m args below meth c H locs cells slots ls R hX hI hl
  have hx := hX.1.1
  have hb := hX.1.2.1
  have hl : lv_has ls 4 [(0, .ref a0)] := hl
  generalize hσ0 : σ = σ0 at hX hI ⊢
  have h : (f_J5_pollFirst a0).1 σ0 = some (r, σ9) := by rw [← hσ0]; exact h
  clear hσ0
  delta f_J5_pollFirst at h
  have h := (xck_bd h).2
  refine lv_aload_n hx hb dJ5_pollFirst_0 rfl (lv_at hl 0 rfl) ?_
  refine xr_gN h hX hI xl_J5_3_14.g dJ5_pollFirst_1 (fun v12 h => ?_)
  refine lv_dup hx hb dJ5_pollFirst_4 rfl ?_
  refine lv_astore_n (lv' := [(1, .ref v12), (0, .ref a0)]) hx hb dJ5_pollFirst_5 rfl hl (Nat.le_of_ble_eq_true rfl) rfl (fun ls hl => ?_)
  refine lv_aload_n hx hb dJ5_pollFirst_6 rfl (lv_at hl 1 rfl) ?_
  refine xr_gI h hX hI xl_J5_24_14.g dJ5_pollFirst_7 (fun v13 h => ?_)
  refine lv_dup hx hb dJ5_pollFirst_10 rfl ?_
  refine lv_istore_n (lv' := [(2, .int v13), (1, .ref v12), (0, .ref a0)]) hx hb dJ5_pollFirst_11 rfl hl (Nat.le_of_ble_eq_true rfl) rfl (fun ls hl => ?_)
  refine xr_callS (iv := (fun b => some (va_rf b))) (As := [.ref v12, .int v13]) (rest := []) h hX hI (fun _ _ h => w_J5_elementAt h) 2 (lw_S q1218 q1219 q82 q1220) xd_J5_elementAt ⟨rfl, rfl⟩ rfl hl.1 (Nat.le_of_ble_eq_true rfl) dJ5_pollFirst_12 (fun v14 H locs σ cells slots h hI => ?_)
  cases v14 with
  | none =>
    refine W.eq (g2 := F0 m 15 ls [.null]) rfl ?_
    refine lv_astore_nN (lv' := [(3, .null), (2, .int v13), (1, .ref v12), (0, .ref a0)]) hx hb dJ5_pollFirst_15 rfl hl (Nat.le_of_ble_eq_true rfl) rfl (fun ls hl => ?_)
    refine lv_aload_nN hx hb dJ5_pollFirst_16 rfl (lv_at hl 0 rfl) ?_
    refine lv_ifnullN (tgt := 34) hx hb dJ5_pollFirst_17 (by decide) ?_
    refine lv_aload_nN hx hb dJ5_pollFirst_34 rfl (lv_at hl 0 rfl) ?_
    exact xr_areturn0 h hX hI (Or.inl ⟨_, rfl⟩) dJ5_pollFirst_35
  | some v14n =>
    refine W.eq (g2 := F0 m 15 ls [.ref v14n]) rfl ?_
    refine lv_astore_n (lv' := [(3, .ref v14n), (2, .int v13), (1, .ref v12), (0, .ref a0)]) hx hb dJ5_pollFirst_15 rfl hl (Nat.le_of_ble_eq_true rfl) rfl (fun ls hl => ?_)
    refine lv_aload_n hx hb dJ5_pollFirst_16 rfl (lv_at hl 0 rfl) ?_
    refine lv_ifnull hx hb dJ5_pollFirst_17 ?_
    refine lv_aload_n hx hb dJ5_pollFirst_20 rfl (lv_at hl 2 rfl) ?_
    refine lv_iload_n hx hb dJ5_pollFirst_21 rfl (lv_at hl 1 rfl) ?_
    refine lv_null hx hb dJ5_pollFirst_22 ?_
    refine xr_st0 h hX hI (by decide) dJ5_pollFirst_23 (fun H locs σ h hI => ?_)
    refine lv_aload_n hx hb dJ5_pollFirst_24 rfl (lv_at hl 3 rfl) ?_
    refine lv_iload_n hx hb dJ5_pollFirst_25 rfl (lv_at hl 1 rfl) ?_
    refine lv_aload_n hx hb dJ5_pollFirst_26 rfl (lv_at hl 2 rfl) ?_
    refine xr_ln h hX hI dJ5_pollFirst_27 (fun v15 h => ?_)
    refine xr_callS (iv := (fun b => some (.int b))) (As := [.int v13, .int v15]) (rest := [.ref a0]) h hX hI (fun _ _ h => w_J5_inc h) 2 (lw_S q1190 q826 q82 q827) xd_J5_inc ⟨rfl, rfl⟩ rfl hl.1 (Nat.le_of_ble_eq_true rfl) dJ5_pollFirst_28 (fun v16 H locs σ cells slots h hI => ?_)
    refine W.eq (g2 := F0 m 31 ls [.int v16, .ref a0]) rfl ?_
    refine xr_pt h hX hI xl_J5_24_14 (Or.inl rfl) rfl rfl dJ5_pollFirst_31 (fun H locs σ h hI => ?_)
    refine lv_aload_n hx hb dJ5_pollFirst_34 rfl (lv_at hl 0 rfl) ?_
    exact xr_areturnQ h hX hI (Or.inl ⟨_, rfl⟩) dJ5_pollFirst_35
/-! java/util/ArrayDeque.removeFirst()Ljava/lang/Object;  -/
theorem o_J5_removeFirst {a0 : Nat} {r : Nat} {σ σ9 : xS} (h : (f_J5_removeFirst a0).1 σ = some (r, σ9)) : ∃ fs, σ.1 a0 = some (.inl (14, fs)) := xck_of h
theorem w_J5_removeFirst {E : xE} {l : Launch} {a0 : Nat} {r : Nat} {σ σ9 : xS} (h : (f_J5_removeFirst a0).1 σ = some (r, σ9)) : xMet E l yJ5_removeFirst (ws_ yJ5_removeFirst cJ5_removeFirst 2 (some (.object "java/lang/Object"))) 2 44 [.ref a0] σ σ9 (some (.ref r)) := by
  refine xstart (by decide +kernel) ((f_J5_removeFirst a0).2 _ _ _ h) (Nat.le_of_ble_eq_true rfl) ?_
  intro p e s m args below meth c H locs cells slots ls R hX hI hl
  have hx := hX.1.1
  have hb := hX.1.2.1
  have hl : lv_has ls 2 [(0, .ref a0)] := hl
  generalize hσ0 : σ = σ0 at hX hI ⊢
  have h : (f_J5_removeFirst a0).1 σ0 = some (r, σ9) := by rw [← hσ0]; exact h
  clear hσ0
  delta f_J5_removeFirst at h
  have h := (xck_bd h).2
  refine lv_aload_n hx hb dJ5_removeFirst_0 rfl (lv_at hl 0 rfl) ?_
  refine xr_callV (iv := (fun b => some (va_rf b))) (As := []) (rest := []) h hX hI (fun _ _ h => w_J5_pollFirst h) (fun _ _ h => o_J5_pollFirst h) rfl 0 (lw_V q1214 q1215 q1216 q82 q1217) ⟨rfl, xd_J5_pollFirst⟩ ⟨rfl, rfl⟩ rfl hl.1 (Nat.le_of_ble_eq_true rfl) dJ5_removeFirst_1 (fun v2 H locs σ cells slots h hI => ?_)
  cases v2 with
  | none =>
    refine W.eq (g2 := F0 m 4 ls [.null]) rfl ?_
    refine lv_astore_nN (lv' := [(1, .null), (0, .ref a0)]) hx hb dJ5_removeFirst_4 rfl hl (Nat.le_of_ble_eq_true rfl) rfl (fun ls hl => ?_)
    refine lv_aload_nN hx hb dJ5_removeFirst_5 rfl (lv_at hl 0 rfl) ?_
    refine lv_ifnonnullN hx hb dJ5_removeFirst_6 ?_
    exact xr_no h
  | some v2n =>
    refine W.eq (g2 := F0 m 4 ls [.ref v2n]) rfl ?_
    refine lv_astore_n (lv' := [(1, .ref v2n), (0, .ref a0)]) hx hb dJ5_removeFirst_4 rfl hl (Nat.le_of_ble_eq_true rfl) rfl (fun ls hl => ?_)
    refine lv_aload_n hx hb dJ5_removeFirst_5 rfl (lv_at hl 0 rfl) ?_
    refine lv_ifnonnull (tgt := 17) hx hb dJ5_removeFirst_6 (by decide) ?_
    refine lv_aload_n hx hb dJ5_removeFirst_17 rfl (lv_at hl 0 rfl) ?_
    exact xr_areturn h hX hI (Or.inl ⟨_, rfl⟩) dJ5_removeFirst_18
/-! PayMatch.become(LPayMatch$State;I)I  -/
theorem w_X0_become_b30 {a0 : Nat} {a1 : Nat} {a2 : Int32} {r : Int32} (hX : xX E R p m c cX0_become 3 s args RX0 "become" meth (some .int) 3 65 σ0 σ9)
    (h : (f_X0_become_b30 a0 a1 a2).1 σ = some (r, σ9)) (hI : xI E σ0 σ s H locs cells slots) (hl : lv_has ls 3 [(0, .ref a0), (1, .ref a1), (2, .int a2)]) : W p l e R s m args below meth c H locs cells slots (xMQ E below args s σ0 σ9 (some (.int r))) (F0 m 30 ls []) := by
  have hx := hX.1.1
  have hb := hX.1.2.1
  delta f_X0_become_b30 at h
  refine lv_aload_n hx hb dX0_become_30 rfl (lv_at hl 0 rfl) ?_
  refine lv_aload_n hx hb dX0_become_31 rfl (lv_at hl 1 rfl) ?_
  refine xr_pt h hX hI xl_X0_22_0 (Or.inl rfl) rfl rfl dX0_become_32 (fun H locs σ h hI => ?_)
  refine lv_iload_n hx hb dX0_become_35 rfl (lv_at hl 2 rfl) ?_
  exact xr_ireturn h hX hI dX0_become_36
theorem o_X0_become {a0 : Nat} {a1 : Nat} {a2 : Int32} {r : Int32} {σ σ9 : xS} (h : (f_X0_become a0 a1 a2).1 σ = some (r, σ9)) : ∃ fs, σ.1 a0 = some (.inl (0, fs)) := xck_of h
theorem w_X0_become {E : xE} {l : Launch} {a0 : Nat} {a1 : Nat} {a2 : Int32} {r : Int32} {σ σ9 : xS} (h : (f_X0_become a0 a1 a2).1 σ = some (r, σ9)) : xMet E l yX0_become (ws_ yX0_become cX0_become 3 (some .int)) 3 65 [.ref a0, .ref a1, .int a2] σ σ9 (some (.int r)) := by
  refine xstart (by decide +kernel) ((f_X0_become a0 a1 a2).2 _ _ _ h) (Nat.le_of_ble_eq_true rfl) ?_
  intro p e s m args below meth c H locs cells slots ls R hX hI hl
  have hx := hX.1.1
  have hb := hX.1.2.1
  have hl : lv_has ls 3 [(0, .ref a0), (1, .ref a1), (2, .int a2)] := hl
  generalize hσ0 : σ = σ0 at hX hI ⊢
  have h : (f_X0_become a0 a1 a2).1 σ0 = some (r, σ9) := by rw [← hσ0]; exact h
  clear hσ0
  delta f_X0_become at h
  have h := (xck_bd h).2
  refine lv_aload_n hx hb dX0_become_0 rfl (lv_at hl 0 rfl) ?_
  refine xr_gN h hX hI xl_X0_31_0.g dX0_become_1 (fun v7 h => ?_)
  refine lv_aload_n hx hb dX0_become_4 rfl (lv_at hl 0 rfl) ?_
  refine xr_gN h hX hI xl_X0_22_0.g dX0_become_5 (fun v8 h => ?_)
  refine xr_callV (iv := (fun _ => none)) (As := [.ref v8]) (rest := []) h hX hI (fun _ _ h => w_J5_addLast h) (fun _ _ h => o_J5_addLast h) rfl 1 (lw_V q1186 q1187 q1188 q82 q1189) ⟨rfl, xd_J5_addLast⟩ ⟨rfl, rfl⟩ rfl hl.1 (Nat.le_of_ble_eq_true rfl) dX0_become_8 (fun _ H locs σ cells slots h hI => ?_)
  refine lv_aload_n hx hb dX0_become_11 rfl (lv_at hl 0 rfl) ?_
  refine xr_gN h hX hI xl_X0_31_0.g dX0_become_12 (fun v9 h => ?_)
  refine xr_callV (iv := (fun b => some (.int b))) (As := []) (rest := []) h hX hI (fun _ _ h => w_J5_size h) (fun _ _ h => o_J5_size h) rfl 0 (lw_V q1203 q1204 q1205 q82 q1206) ⟨rfl, xd_J5_size⟩ ⟨rfl, rfl⟩ rfl hl.1 (Nat.le_of_ble_eq_true rfl) dX0_become_15 (fun v10 H locs σ cells slots h hI => ?_)
  refine W.eq (g2 := F0 m 18 ls [.int v10]) rfl ?_
  refine lv_iconst (v := (4 : Int32)) hx hb dX0_become_18 (by decide) ?_
  refine lv_icmp_le (tgt := 30) hx hb dX0_become_19 (by decide) (fun hc => ?_) (fun hc => ?_)
  · have h := xif_t h hc
    exact w_X0_become_b30 hX h hI (lv_sub hl [0, 1, 2] rfl)
  · have h := xif_f h hc
    refine lv_aload_n hx hb dX0_become_22 rfl (lv_at hl 0 rfl) ?_
    refine xr_gN h hX hI xl_X0_31_0.g dX0_become_23 (fun v11 h => ?_)
    refine xr_callV (iv := (fun b => some (.ref b))) (As := []) (rest := []) h hX hI (fun _ _ h => w_J5_removeFirst h) (fun _ _ h => o_J5_removeFirst h) rfl 0 (lw_V q1210 q1211 q1212 q82 q1213) ⟨rfl, xd_J5_removeFirst⟩ ⟨rfl, rfl⟩ rfl hl.1 (Nat.le_of_ble_eq_true rfl) dX0_become_26 (fun v12 H locs σ cells slots h hI => ?_)
    refine W.eq (g2 := F0 m 29 ls [.ref v12]) rfl ?_
    refine lv_pop hx hb dX0_become_29 rfl ?_
    exact w_X0_become_b30 hX h hI (lv_sub hl [0, 1, 2] rfl)
/-! PayMatch.addSupplier()I  -/
theorem o_X0_addSupplier {a0 : Nat} {r : Int32} {σ σ9 : xS} (h : (f_X0_addSupplier a0).1 σ = some (r, σ9)) : ∃ fs, σ.1 a0 = some (.inl (0, fs)) := xck_of h
theorem w_X0_addSupplier {E : xE} {l : Launch} {a0 : Nat} {r : Int32} {σ σ9 : xS} (h : (f_X0_addSupplier a0).1 σ = some (r, σ9)) : xMet E l yX0_addSupplier (ws_ yX0_addSupplier cX0_addSupplier 3 (some .int)) 14 438 [.ref a0] σ σ9 (some (.int r)) := by
  refine xstart (by decide +kernel) ((f_X0_addSupplier a0).2 _ _ _ h) (Nat.le_of_ble_eq_true rfl) ?_
  intro p e s m args below meth c H locs cells slots ls R hX hI hl
  have hx := hX.1.1
  have hb := hX.1.2.1
  have hl : lv_has ls 3 [(0, .ref a0)] := hl
  generalize hσ0 : σ = σ0 at hX hI ⊢
  have h : (f_X0_addSupplier a0).1 σ0 = some (r, σ9) := by rw [← hσ0]; exact h
  clear hσ0
  delta f_X0_addSupplier at h
  have h := (xck_bd h).2
  refine lv_aload_n hx hb dX0_addSupplier_0 rfl (lv_at hl 0 rfl) ?_
  refine xr_gN h hX hI xl_X0_22_0.g dX0_addSupplier_1 (fun v10 h => ?_)
  refine xr_gN h hX hI xl_X0_60_1.g dX0_addSupplier_4 (fun v11 h => ?_)
  refine xr_callV (iv := (fun b => some (.int b))) (As := []) (rest := []) h hX hI (fun _ _ h => w_X2_size h) (fun _ _ h => o_X2_size h) rfl 0 (lw_V q303 q304 q305 q76 q306) ⟨rfl, xd_X2_size⟩ ⟨rfl, rfl⟩ rfl hl.1 (Nat.le_of_ble_eq_true rfl) dX0_addSupplier_7 (fun v12 H locs σ cells slots h hI => ?_)
  refine W.eq (g2 := F0 m 10 ls [.int v12]) rfl ?_
  refine lv_istore_n (lv' := [(1, .int v12), (0, .ref a0)]) hx hb dX0_addSupplier_10 rfl hl (Nat.le_of_ble_eq_true rfl) rfl (fun ls hl => ?_)
  refine lv_iload_n hx hb dX0_addSupplier_11 rfl (lv_at hl 0 rfl) ?_
  refine lv_iconst (v := (5 : Int32)) hx hb dX0_addSupplier_12 (by decide) ?_
  refine lv_icmp_ne (tgt := 19) hx hb dX0_addSupplier_13 (by decide) (fun hc => ?_) (fun hc => ?_)
  · have h := xif_f h hc
    refine lv_aload_n hx hb dX0_addSupplier_19 rfl (lv_at hl 1 rfl) ?_
    refine xr_gN h hX hI xl_X0_22_0.g dX0_addSupplier_20 (fun v13 h => ?_)
    refine xr_callV (iv := (fun b => some (.ref b))) (As := []) (rest := []) h hX hI (fun _ _ h => w_X1_copy h) (fun _ _ h => o_X1_copy h) rfl 0 (lw_V q323 q324 q325 q75 q326) ⟨rfl, xd_X1_copy⟩ ⟨rfl, rfl⟩ rfl hl.1 (Nat.le_of_ble_eq_true rfl) dX0_addSupplier_23 (fun v14 H locs σ cells slots h hI => ?_)
    refine W.eq (g2 := F0 m 26 ls [.ref v14]) rfl ?_
    refine lv_astore_n (lv' := [(2, .ref v14), (1, .int v12), (0, .ref a0)]) hx hb dX0_addSupplier_26 rfl hl (Nat.le_of_ble_eq_true rfl) rfl (fun ls hl => ?_)
    refine lv_aload_n hx hb dX0_addSupplier_27 rfl (lv_at hl 0 rfl) ?_
    refine xr_gN h hX hI xl_X0_60_1.g dX0_addSupplier_28 (fun v15 h => ?_)
    refine xr_nw h hX hI xn_X0_71 dX0_addSupplier_31 (fun v16 H σ cells slots h hI => ?_)
    refine lv_dup hx hb dX0_addSupplier_34 rfl ?_
    refine lv_iload_n hx hb dX0_addSupplier_35 rfl (lv_at hl 1 rfl) ?_
    refine xr_callI (As := [.int v12]) (rest := [.ref v16, .ref v15]) h hX hI (fun _ _ h => w_X7_init_2 h) 1 q1177 q1179 q108 q1178 rfl xd_X7_init_2 ⟨rfl, rfl⟩ rfl hl.1 (Nat.le_of_ble_eq_true rfl) dX0_addSupplier_36 (fun _ H locs σ cells slots h hI => ?_)
    refine xr_callV (iv := (fun b => some (.ref b))) (As := [.ref v16]) (rest := []) h hX hI (fun _ _ h => w_X2_add h) (fun _ _ h => o_X2_add h) rfl 1 (lw_V q1181 q1097 q1098 q76 q1099) ⟨rfl, xd_X2_add⟩ ⟨rfl, rfl⟩ rfl hl.1 (Nat.le_of_ble_eq_true rfl) dX0_addSupplier_39 (fun v17 H locs σ cells slots h hI => ?_)
    refine W.eq (g2 := F0 m 42 ls [.ref v17]) rfl ?_
    refine lv_pop hx hb dX0_addSupplier_42 rfl ?_
    refine lv_aload_n hx hb dX0_addSupplier_43 rfl (lv_at hl 2 rfl) ?_
    refine lv_aload_n hx hb dX0_addSupplier_44 rfl (lv_at hl 0 rfl) ?_
    refine lv_iload_n hx hb dX0_addSupplier_45 rfl (lv_at hl 1 rfl) ?_
    refine xr_callV (iv := (fun b => some (.int b))) (As := [.ref v14, .int v12]) (rest := []) h hX hI (fun _ _ h => w_X0_become h) (fun _ _ h => o_X0_become h) rfl 2 (lw_V q1182 q1184 qs9 q74 q1185) ⟨rfl, xd_X0_become⟩ ⟨rfl, rfl⟩ rfl hl.1 (Nat.le_of_ble_eq_true rfl) dX0_addSupplier_46 (fun v18 H locs σ cells slots h hI => ?_)
    refine W.eq (g2 := F0 m 49 ls [.int v18]) rfl ?_
    exact xr_ireturn h hX hI dX0_addSupplier_49
  · have h := xif_t h hc
    refine lv_bipush (v := (-3 : Int32)) hx hb dX0_addSupplier_16 (by decide) ?_
    exact xr_ireturn h hX hI dX0_addSupplier_18
/-! PayMatchModel.aside()V  -/
theorem w_X3_aside_b7 {rec7 : Nat → Int32 → xM Unit} {a0 : Nat} {a1 : Int32} {r : Unit} (hX : xX E R p m c cX3_aside 2 s args RX3 "aside" meth none 0 0 σ0 σ9) (hrec7 : ∀ (a0 : Nat) (a1 : Int32) (σ : xS) (H : Heap) (locs : List Loc) (cells slots : Nat) (ls : Array Slot), (rec7 a0 a1).1 σ = some (r, σ9) → xI E σ0 σ s H locs cells slots → lv_has ls 2 [(0, .ref a0), (1, .int a1)] → W p l e R s m args below meth c H locs cells slots (xMQ E below args s σ0 σ9 none) (F0 m 7 ls []))
    (h : (f_X3_aside_b7 rec7 a0 a1).1 σ = some (r, σ9)) (hI : xI E σ0 σ s H locs cells slots) (hl : lv_has ls 2 [(0, .ref a0), (1, .int a1)]) : W p l e R s m args below meth c H locs cells slots (xMQ E below args s σ0 σ9 none) (F0 m 7 ls []) := by
  have hx := hX.1.1
  have hb := hX.1.2.1
  delta f_X3_aside_b7 at h
  refine lv_iload_n hx hb dX3_aside_7 rfl (lv_at hl 1 rfl) ?_
  refine lv_sipush (v := (1411 : Int32)) hx hb dX3_aside_8 (by decide) ?_
  refine lv_icmp_ge (tgt := 32) hx hb dX3_aside_11 (by decide) (fun hc => ?_) (fun hc => ?_)
  · have h := xif_t h hc
    exact xr_return h hX hI dX3_aside_32
  · have h := xif_f h hc
    refine lv_aload_n hx hb dX3_aside_14 rfl (lv_at hl 0 rfl) ?_
    refine xr_gN h hX hI xl_X3_17_3.g dX3_aside_15 (fun v4 h => ?_)
    refine lv_iload_n hx hb dX3_aside_18 rfl (lv_at hl 1 rfl) ?_
    refine lv_aload_n hx hb dX3_aside_19 rfl (lv_at hl 0 rfl) ?_
    refine xr_gN h hX hI xl_X3_13_3.g dX3_aside_20 (fun v5 h => ?_)
    refine lv_iload_n hx hb dX3_aside_23 rfl (lv_at hl 1 rfl) ?_
    refine xr_ldL h hX hI dX3_aside_24 (fun v6 h => ?_)
    refine xr_stL h hX hI dX3_aside_25 (fun H locs σ h hI => ?_)
    refine lv_iinc (k := 1) (lv' := [(1, .int (a1 + (1 : Int32))), (0, .ref a0)]) hx hb dX3_aside_26 hl rfl (xiinc (by decide)) (Nat.le_of_ble_eq_true rfl) rfl (fun ls hl => ?_)
    refine lv_goto (tgt := 7) hx hb dX3_aside_29 (by decide) ?_
    exact hrec7 a0 (a1 + (1 : Int32)) _ _ _ _ _ _ h hI (lv_sub hl [1, 0] rfl)
theorem w_X3_aside_L7 {r : Unit} (hX : xX E R p m c cX3_aside 2 s args RX3 "aside" meth none 0 0 σ0 σ9) : ∀ (n : Nat) (a0 : Nat) (a1 : Int32) (σ : xS) (H : Heap) (locs : List Loc) (cells slots : Nat) (ls : Array Slot), (f_X3_aside_L7 n a0 a1).1 σ = some (r, σ9) → xI E σ0 σ s H locs cells slots → lv_has ls 2 [(0, .ref a0), (1, .int a1)] → W p l e R s m args below meth c H locs cells slots (xMQ E below args s σ0 σ9 none) (F0 m 7 ls []) := by
  intro n
  induction n with
  | zero =>
    intro a0 a1 σ H locs cells slots ls h
    exact xr_no h
  | succ n ih =>
    intro a0 a1 σ H locs cells slots ls h hI hl
    exact w_X3_aside_b7 hX ih h hI hl
theorem o_X3_aside {a0 : Nat} {r : Unit} {σ σ9 : xS} (h : (f_X3_aside a0).1 σ = some (r, σ9)) : ∃ fs, σ.1 a0 = some (.inl (3, fs)) := xck_of h
theorem w_X3_aside {E : xE} {l : Launch} {a0 : Nat} {r : Unit} {σ σ9 : xS} (h : (f_X3_aside a0).1 σ = some (r, σ9)) : xMet E l yX3_aside (ws_ yX3_aside cX3_aside 2 none) 0 0 [.ref a0] σ σ9 none := by
  refine xstart (by decide +kernel) ((f_X3_aside a0).2 _ _ _ h) (Nat.le_of_ble_eq_true rfl) ?_
  intro p e s m args below meth c H locs cells slots ls R hX hI hl
  have hx := hX.1.1
  have hb := hX.1.2.1
  have hl : lv_has ls 2 [(0, .ref a0)] := hl
  generalize hσ0 : σ = σ0 at hX hI ⊢
  have h : (f_X3_aside a0).1 σ0 = some (r, σ9) := by rw [← hσ0]; exact h
  clear hσ0
  delta f_X3_aside at h
  have h := (xck_bd h).2
  refine lv_aload_n hx hb dX3_aside_0 rfl (lv_at hl 0 rfl) ?_
  refine lv_iconst (v := (0 : Int32)) hx hb dX3_aside_1 (by decide) ?_
  refine xr_pt h hX hI xl_X3_1_3 (Or.inl rfl) rfl rfl dX3_aside_2 (fun H locs σ h hI => ?_)
  refine lv_iconst (v := (0 : Int32)) hx hb dX3_aside_5 (by decide) ?_
  refine lv_istore_n (lv' := [(1, .int (0 : Int32)), (0, .ref a0)]) hx hb dX3_aside_6 rfl hl (Nat.le_of_ble_eq_true rfl) rfl (fun ls hl => ?_)
  exact w_X3_aside_L7 hX xFU a0 (0 : Int32) _ _ _ _ _ _ h hI (lv_sub hl [1, 0] rfl)
/-! PayMatchModel.at(I)I  -/
theorem o_X3_at {a0 : Nat} {a1 : Int32} {r : Int32} {σ σ9 : xS} (h : (f_X3_at a0 a1).1 σ = some (r, σ9)) : ∃ fs, σ.1 a0 = some (.inl (3, fs)) := xck_of h
theorem w_X3_at {E : xE} {l : Launch} {a0 : Nat} {a1 : Int32} {r : Int32} {σ σ9 : xS} (h : (f_X3_at a0 a1).1 σ = some (r, σ9)) : xMet E l yX3_at (ws_ yX3_at cX3_at 2 (some .int)) 0 0 [.ref a0, .int a1] σ σ9 (some (.int r)) := by
  refine xstart (by decide +kernel) ((f_X3_at a0 a1).2 _ _ _ h) (Nat.le_of_ble_eq_true rfl) ?_
  intro p e s m args below meth c H locs cells slots ls R hX hI hl
  have hx := hX.1.1
  have hb := hX.1.2.1
  have hl : lv_has ls 2 [(0, .ref a0), (1, .int a1)] := hl
  generalize hσ0 : σ = σ0 at hX hI ⊢
  have h : (f_X3_at a0 a1).1 σ0 = some (r, σ9) := by rw [← hσ0]; exact h
  clear hσ0
  delta f_X3_at at h
  have h := (xck_bd h).2
  refine lv_aload_n hx hb dX3_at_0 rfl (lv_at hl 0 rfl) ?_
  refine xr_gN h hX hI xl_X3_13_3.g dX3_at_1 (fun v3 h => ?_)
  refine lv_iload_n hx hb dX3_at_4 rfl (lv_at hl 1 rfl) ?_
  refine xr_ldL h hX hI dX3_at_5 (fun v4 h => ?_)
  refine lv_l2i hx hb dX3_at_6 rfl ?_
  exact xr_ireturn h hX hI dX3_at_7
/-! PayMatchModel.ofSupplier(II)I  -/
theorem w_X3_ofSupplier {E : xE} {l : Launch} {a0 : Int32} {a1 : Int32} {r : Int32} {σ σ9 : xS} (h : (f_X3_ofSupplier a0 a1).1 σ = some (r, σ9)) : xMet E l yX3_ofSupplier (ws_ yX3_ofSupplier cX3_ofSupplier 2 (some .int)) 0 0 [.int a0, .int a1] σ σ9 (some (.int r)) := by
  refine xstart (by decide +kernel) ((f_X3_ofSupplier a0 a1).2 _ _ _ h) (Nat.le_of_ble_eq_true rfl) ?_
  intro p e s m args below meth c H locs cells slots ls R hX hI hl
  have hx := hX.1.1
  have hb := hX.1.2.1
  have hl : lv_has ls 2 [(0, .int a0), (1, .int a1)] := hl
  generalize hσ0 : σ = σ0 at hX hI ⊢
  have h : (f_X3_ofSupplier a0 a1).1 σ0 = some (r, σ9) := by rw [← hσ0]; exact h
  clear hσ0
  delta f_X3_ofSupplier at h
  refine lv_bipush (v := (11 : Int32)) hx hb dX3_ofSupplier_0 (by decide) ?_
  refine lv_bipush (v := (8 : Int32)) hx hb dX3_ofSupplier_2 (by decide) ?_
  refine lv_iload_n hx hb dX3_ofSupplier_4 rfl (lv_at hl 0 rfl) ?_
  refine lv_imul hx hb dX3_ofSupplier_5 ?_
  refine lv_iadd hx hb dX3_ofSupplier_6 ?_
  refine lv_iload_n hx hb dX3_ofSupplier_7 rfl (lv_at hl 1 rfl) ?_
  refine lv_iadd hx hb dX3_ofSupplier_8 ?_
  exact xr_ireturn h hX hI dX3_ofSupplier_9
/-! PayMatchModel.acted(I)I  -/
theorem w_X3_acted_b85 {a0 : Nat} {a1 : Int32} {r : Int32} (hX : xX E R p m c cX3_acted 3 s args RX3 "acted" meth (some .int) 0 0 σ0 σ9)
    (h : (f_X3_acted_b85 a0 a1).1 σ = some (r, σ9)) (hI : xI E σ0 σ s H locs cells slots) (hl : lv_has ls 3 [(0, .ref a0), (1, .int a1)]) : W p l e R s m args below meth c H locs cells slots (xMQ E below args s σ0 σ9 (some (.int r))) (F0 m 85 ls []) := by
  have hx := hX.1.1
  have hb := hX.1.2.1
  delta f_X3_acted_b85 at h
  refine lv_aload_n hx hb dX3_acted_85 rfl (lv_at hl 0 rfl) ?_
  refine lv_dup hx hb dX3_acted_86 rfl ?_
  refine xr_gI h hX hI xl_X3_71_3.g dX3_acted_87 (fun v19 h => ?_)
  refine lv_iconst (v := (1 : Int32)) hx hb dX3_acted_90 (by decide) ?_
  refine lv_iadd hx hb dX3_acted_91 ?_
  refine xr_pt h hX hI xl_X3_71_3 (Or.inl rfl) rfl rfl dX3_acted_92 (fun H locs σ h hI => ?_)
  refine lv_iload_n hx hb dX3_acted_95 rfl (lv_at hl 1 rfl) ?_
  exact xr_ireturn h hX hI dX3_acted_96
theorem w_X3_acted_b51 {rec51 : Nat → Int32 → Int32 → xM Int32} {a0 : Nat} {a1 : Int32} {a2 : Int32} {r : Int32} (hX : xX E R p m c cX3_acted 3 s args RX3 "acted" meth (some .int) 0 0 σ0 σ9) (hrec51 : ∀ (a0 : Nat) (a1 : Int32) (a2 : Int32) (σ : xS) (H : Heap) (locs : List Loc) (cells slots : Nat) (ls : Array Slot), (rec51 a0 a1 a2).1 σ = some (r, σ9) → xI E σ0 σ s H locs cells slots → lv_has ls 3 [(0, .ref a0), (1, .int a1), (2, .int a2)] → W p l e R s m args below meth c H locs cells slots (xMQ E below args s σ0 σ9 (some (.int r))) (F0 m 51 ls []))
    (h : (f_X3_acted_b51 rec51 a0 a1 a2).1 σ = some (r, σ9)) (hI : xI E σ0 σ s H locs cells slots) (hl : lv_has ls 3 [(0, .ref a0), (1, .int a1), (2, .int a2)]) : W p l e R s m args below meth c H locs cells slots (xMQ E below args s σ0 σ9 (some (.int r))) (F0 m 51 ls []) := by
  have hx := hX.1.1
  have hb := hX.1.2.1
  delta f_X3_acted_b51 at h
  refine lv_iload_n hx hb dX3_acted_51 rfl (lv_at hl 2 rfl) ?_
  refine lv_sipush (v := (1411 : Int32)) hx hb dX3_acted_52 (by decide) ?_
  refine lv_icmp_ge (tgt := 85) hx hb dX3_acted_55 (by decide) (fun hc => ?_) (fun hc => ?_)
  · have h := xif_t h hc
    exact w_X3_acted_b85 hX h hI (lv_sub hl [0, 1] rfl)
  · have h := xif_f h hc
    refine lv_aload_n hx hb dX3_acted_58 rfl (lv_at hl 0 rfl) ?_
    refine xr_gN h hX hI xl_X3_23_3.g dX3_acted_59 (fun v15 h => ?_)
    refine lv_sipush (v := (1411 : Int32)) hx hb dX3_acted_62 (by decide) ?_
    refine lv_aload_n hx hb dX3_acted_65 rfl (lv_at hl 0 rfl) ?_
    refine xr_gI h hX hI xl_X3_71_3.g dX3_acted_66 (fun v16 h => ?_)
    refine lv_imul hx hb dX3_acted_69 ?_
    refine lv_iload_n hx hb dX3_acted_70 rfl (lv_at hl 2 rfl) ?_
    refine lv_iadd hx hb dX3_acted_71 ?_
    refine lv_aload_n hx hb dX3_acted_72 rfl (lv_at hl 0 rfl) ?_
    refine xr_gN h hX hI xl_X3_17_3.g dX3_acted_73 (fun v17 h => ?_)
    refine lv_iload_n hx hb dX3_acted_76 rfl (lv_at hl 2 rfl) ?_
    refine xr_ldL h hX hI dX3_acted_77 (fun v18 h => ?_)
    refine xr_stL h hX hI dX3_acted_78 (fun H locs σ h hI => ?_)
    refine lv_iinc (k := 2) (lv' := [(2, .int (a2 + (1 : Int32))), (0, .ref a0), (1, .int a1)]) hx hb dX3_acted_79 hl rfl (xiinc (by decide)) (Nat.le_of_ble_eq_true rfl) rfl (fun ls hl => ?_)
    refine lv_goto (tgt := 51) hx hb dX3_acted_82 (by decide) ?_
    exact hrec51 a0 a1 (a2 + (1 : Int32)) _ _ _ _ _ _ h hI (lv_sub hl [1, 2, 0] rfl)
theorem w_X3_acted_L51 {r : Int32} (hX : xX E R p m c cX3_acted 3 s args RX3 "acted" meth (some .int) 0 0 σ0 σ9) : ∀ (n : Nat) (a0 : Nat) (a1 : Int32) (a2 : Int32) (σ : xS) (H : Heap) (locs : List Loc) (cells slots : Nat) (ls : Array Slot), (f_X3_acted_L51 n a0 a1 a2).1 σ = some (r, σ9) → xI E σ0 σ s H locs cells slots → lv_has ls 3 [(0, .ref a0), (1, .int a1), (2, .int a2)] → W p l e R s m args below meth c H locs cells slots (xMQ E below args s σ0 σ9 (some (.int r))) (F0 m 51 ls []) := by
  intro n
  induction n with
  | zero =>
    intro a0 a1 a2 σ H locs cells slots ls h
    exact xr_no h
  | succ n ih =>
    intro a0 a1 a2 σ H locs cells slots ls h hI hl
    exact w_X3_acted_b51 hX ih h hI hl
theorem w_X3_acted_b49 {a0 : Nat} {a1 : Int32} {r : Int32} (hX : xX E R p m c cX3_acted 3 s args RX3 "acted" meth (some .int) 0 0 σ0 σ9)
    (h : (f_X3_acted_b49 a0 a1).1 σ = some (r, σ9)) (hI : xI E σ0 σ s H locs cells slots) (hl : lv_has ls 3 [(0, .ref a0), (1, .int a1)]) : W p l e R s m args below meth c H locs cells slots (xMQ E below args s σ0 σ9 (some (.int r))) (F0 m 49 ls []) := by
  have hx := hX.1.1
  have hb := hX.1.2.1
  delta f_X3_acted_b49 at h
  refine lv_iconst (v := (0 : Int32)) hx hb dX3_acted_49 (by decide) ?_
  refine lv_istore_n (lv' := [(2, .int (0 : Int32)), (0, .ref a0), (1, .int a1)]) hx hb dX3_acted_50 rfl hl (Nat.le_of_ble_eq_true rfl) rfl (fun ls hl => ?_)
  exact w_X3_acted_L51 hX xFU a0 a1 (0 : Int32) _ _ _ _ _ _ h hI (lv_sub hl [1, 2, 0] rfl)
theorem w_X3_acted_b39 {a0 : Nat} {a1 : Int32} {r : Int32} (hX : xX E R p m c cX3_acted 3 s args RX3 "acted" meth (some .int) 0 0 σ0 σ9)
    (h : (f_X3_acted_b39 a0 a1).1 σ = some (r, σ9)) (hI : xI E σ0 σ s H locs cells slots) (hl : lv_has ls 3 [(0, .ref a0), (1, .int a1)]) : W p l e R s m args below meth c H locs cells slots (xMQ E below args s σ0 σ9 (some (.int r))) (F0 m 39 ls []) := by
  have hx := hX.1.1
  have hb := hX.1.2.1
  delta f_X3_acted_b39 at h
  refine lv_aload_n hx hb dX3_acted_39 rfl (lv_at hl 0 rfl) ?_
  refine lv_dup hx hb dX3_acted_40 rfl ?_
  refine xr_gI h hX hI xl_X3_71_3.g dX3_acted_41 (fun v14 h => ?_)
  refine lv_iconst (v := (1 : Int32)) hx hb dX3_acted_44 (by decide) ?_
  refine lv_isub hx hb dX3_acted_45 ?_
  refine xr_pt h hX hI xl_X3_71_3 (Or.inl rfl) rfl rfl dX3_acted_46 (fun H locs σ h hI => ?_)
  exact w_X3_acted_b49 hX h hI (lv_sub hl [0, 1] rfl)
theorem w_X3_acted_b10 {rec10 : Nat → Int32 → Int32 → xM Int32} {a0 : Nat} {a1 : Int32} {a2 : Int32} {r : Int32} (hX : xX E R p m c cX3_acted 3 s args RX3 "acted" meth (some .int) 0 0 σ0 σ9) (hrec10 : ∀ (a0 : Nat) (a1 : Int32) (a2 : Int32) (σ : xS) (H : Heap) (locs : List Loc) (cells slots : Nat) (ls : Array Slot), (rec10 a0 a1 a2).1 σ = some (r, σ9) → xI E σ0 σ s H locs cells slots → lv_has ls 3 [(0, .ref a0), (1, .int a1), (2, .int a2)] → W p l e R s m args below meth c H locs cells slots (xMQ E below args s σ0 σ9 (some (.int r))) (F0 m 10 ls []))
    (h : (f_X3_acted_b10 rec10 a0 a1 a2).1 σ = some (r, σ9)) (hI : xI E σ0 σ s H locs cells slots) (hl : lv_has ls 3 [(0, .ref a0), (1, .int a1), (2, .int a2)]) : W p l e R s m args below meth c H locs cells slots (xMQ E below args s σ0 σ9 (some (.int r))) (F0 m 10 ls []) := by
  have hx := hX.1.1
  have hb := hX.1.2.1
  delta f_X3_acted_b10 at h
  refine lv_iload_n hx hb dX3_acted_10 rfl (lv_at hl 2 rfl) ?_
  refine lv_sipush (v := (4233 : Int32)) hx hb dX3_acted_11 (by decide) ?_
  refine lv_icmp_ge (tgt := 39) hx hb dX3_acted_14 (by decide) (fun hc => ?_) (fun hc => ?_)
  · have h := xif_t h hc
    exact w_X3_acted_b39 hX h hI (lv_sub hl [0, 1] rfl)
  · have h := xif_f h hc
    refine lv_aload_n hx hb dX3_acted_17 rfl (lv_at hl 0 rfl) ?_
    refine xr_gN h hX hI xl_X3_23_3.g dX3_acted_18 (fun v11 h => ?_)
    refine lv_iload_n hx hb dX3_acted_21 rfl (lv_at hl 2 rfl) ?_
    refine lv_aload_n hx hb dX3_acted_22 rfl (lv_at hl 0 rfl) ?_
    refine xr_gN h hX hI xl_X3_23_3.g dX3_acted_23 (fun v12 h => ?_)
    refine lv_iload_n hx hb dX3_acted_26 rfl (lv_at hl 2 rfl) ?_
    refine lv_sipush (v := (1411 : Int32)) hx hb dX3_acted_27 (by decide) ?_
    refine lv_iadd hx hb dX3_acted_30 ?_
    refine xr_ldL h hX hI dX3_acted_31 (fun v13 h => ?_)
    refine xr_stL h hX hI dX3_acted_32 (fun H locs σ h hI => ?_)
    refine lv_iinc (k := 2) (lv' := [(2, .int (a2 + (1 : Int32))), (0, .ref a0), (1, .int a1)]) hx hb dX3_acted_33 hl rfl (xiinc (by decide)) (Nat.le_of_ble_eq_true rfl) rfl (fun ls hl => ?_)
    refine lv_goto (tgt := 10) hx hb dX3_acted_36 (by decide) ?_
    exact hrec10 a0 a1 (a2 + (1 : Int32)) _ _ _ _ _ _ h hI (lv_sub hl [1, 2, 0] rfl)
theorem w_X3_acted_L10 {r : Int32} (hX : xX E R p m c cX3_acted 3 s args RX3 "acted" meth (some .int) 0 0 σ0 σ9) : ∀ (n : Nat) (a0 : Nat) (a1 : Int32) (a2 : Int32) (σ : xS) (H : Heap) (locs : List Loc) (cells slots : Nat) (ls : Array Slot), (f_X3_acted_L10 n a0 a1 a2).1 σ = some (r, σ9) → xI E σ0 σ s H locs cells slots → lv_has ls 3 [(0, .ref a0), (1, .int a1), (2, .int a2)] → W p l e R s m args below meth c H locs cells slots (xMQ E below args s σ0 σ9 (some (.int r))) (F0 m 10 ls []) := by
  intro n
  induction n with
  | zero =>
    intro a0 a1 a2 σ H locs cells slots ls h
    exact xr_no h
  | succ n ih =>
    intro a0 a1 a2 σ H locs cells slots ls h hI hl
    exact w_X3_acted_b10 hX ih h hI hl
theorem o_X3_acted {a0 : Nat} {a1 : Int32} {r : Int32} {σ σ9 : xS} (h : (f_X3_acted a0 a1).1 σ = some (r, σ9)) : ∃ fs, σ.1 a0 = some (.inl (3, fs)) := xck_of h
theorem w_X3_acted {E : xE} {l : Launch} {a0 : Nat} {a1 : Int32} {r : Int32} {σ σ9 : xS} (h : (f_X3_acted a0 a1).1 σ = some (r, σ9)) : xMet E l yX3_acted (ws_ yX3_acted cX3_acted 3 (some .int)) 0 0 [.ref a0, .int a1] σ σ9 (some (.int r)) := by
  refine xstart (by decide +kernel) ((f_X3_acted a0 a1).2 _ _ _ h) (Nat.le_of_ble_eq_true rfl) ?_
  intro p e s m args below meth c H locs cells slots ls R hX hI hl
  have hx := hX.1.1
  have hb := hX.1.2.1
  have hl : lv_has ls 3 [(0, .ref a0), (1, .int a1)] := hl
  generalize hσ0 : σ = σ0 at hX hI ⊢
  have h : (f_X3_acted a0 a1).1 σ0 = some (r, σ9) := by rw [← hσ0]; exact h
  clear hσ0
  delta f_X3_acted at h
  have h := (xck_bd h).2
  refine lv_aload_n hx hb dX3_acted_0 rfl (lv_at hl 0 rfl) ?_
  refine xr_gI h hX hI xl_X3_71_3.g dX3_acted_1 (fun v20 h => ?_)
  refine lv_iconst (v := (4 : Int32)) hx hb dX3_acted_4 (by decide) ?_
  refine lv_icmp_ne (tgt := 49) hx hb dX3_acted_5 (by decide) (fun hc => ?_) (fun hc => ?_)
  · have h := xif_f h hc
    exact w_X3_acted_b49 hX h hI (lv_sub hl [0, 1] rfl)
  · have h := xif_t h hc
    refine lv_iconst (v := (0 : Int32)) hx hb dX3_acted_8 (by decide) ?_
    refine lv_istore_n (lv' := [(2, .int (0 : Int32)), (0, .ref a0), (1, .int a1)]) hx hb dX3_acted_9 rfl hl (Nat.le_of_ble_eq_true rfl) rfl (fun ls hl => ?_)
    exact w_X3_acted_L10 hX xFU a0 a1 (0 : Int32) _ _ _ _ _ _ h hI (lv_sub hl [1, 2, 0] rfl)
/-! PayMatchModel.addSupplier()I  -/
theorem o_X3_addSupplier {a0 : Nat} {r : Int32} {σ σ9 : xS} (h : (f_X3_addSupplier a0).1 σ = some (r, σ9)) : ∃ fs, σ.1 a0 = some (.inl (3, fs)) := xck_of h
theorem w_X3_addSupplier {E : xE} {l : Launch} {a0 : Nat} {r : Int32} {σ σ9 : xS} (h : (f_X3_addSupplier a0).1 σ = some (r, σ9)) : xMet E l yX3_addSupplier (ws_ yX3_addSupplier cX3_addSupplier 2 (some .int)) 1 60 [.ref a0] σ σ9 (some (.int r)) := by
  refine xstart (by decide +kernel) ((f_X3_addSupplier a0).2 _ _ _ h) (Nat.le_of_ble_eq_true rfl) ?_
  intro p e s m args below meth c H locs cells slots ls R hX hI hl
  have hx := hX.1.1
  have hb := hX.1.2.1
  have hl : lv_has ls 2 [(0, .ref a0)] := hl
  generalize hσ0 : σ = σ0 at hX hI ⊢
  have h : (f_X3_addSupplier a0).1 σ0 = some (r, σ9) := by rw [← hσ0]; exact h
  clear hσ0
  delta f_X3_addSupplier at h
  have h := (xck_bd h).2
  refine lv_aload_n hx hb dX3_addSupplier_0 rfl (lv_at hl 0 rfl) ?_
  refine xr_callV (iv := (fun _ => none)) (As := []) (rest := []) h hX hI (fun _ _ h => w_X3_aside h) (fun _ _ h => o_X3_aside h) rfl 0 (lw_V q2018 q2020 qs30 q87 q2021) ⟨rfl, xd_X3_aside⟩ ⟨rfl, rfl⟩ rfl hl.1 (Nat.le_of_ble_eq_true rfl) dX3_addSupplier_1 (fun _ H locs σ cells slots h hI => ?_)
  refine lv_aload_n hx hb dX3_addSupplier_4 rfl (lv_at hl 0 rfl) ?_
  refine lv_iconst (v := (1 : Int32)) hx hb dX3_addSupplier_5 (by decide) ?_
  refine xr_callV (iv := (fun b => some (.int b))) (As := [.int (1 : Int32)]) (rest := []) h hX hI (fun _ _ h => w_X3_at h) (fun _ _ h => o_X3_at h) rfl 1 (lw_V q2022 q2024 qs31 q87 q2025) ⟨rfl, xd_X3_at⟩ ⟨rfl, rfl⟩ rfl hl.1 (Nat.le_of_ble_eq_true rfl) dX3_addSupplier_6 (fun v10 H locs σ cells slots h hI => ?_)
  refine W.eq (g2 := F0 m 9 ls [.int v10]) rfl ?_
  refine lv_iconst (v := (5 : Int32)) hx hb dX3_addSupplier_9 (by decide) ?_
  refine lv_icmp_ne (tgt := 16) hx hb dX3_addSupplier_10 (by decide) (fun hc => ?_) (fun hc => ?_)
  · have h := xif_f h hc
    refine lv_aload_n hx hb dX3_addSupplier_16 rfl (lv_at hl 0 rfl) ?_
    refine lv_iconst (v := (1 : Int32)) hx hb dX3_addSupplier_17 (by decide) ?_
    refine xr_callV (iv := (fun b => some (.int b))) (As := [.int (1 : Int32)]) (rest := []) h hX hI (fun _ _ h => w_X3_at h) (fun _ _ h => o_X3_at h) rfl 1 (lw_V q2022 q2024 qs31 q87 q2025) ⟨rfl, xd_X3_at⟩ ⟨rfl, rfl⟩ rfl hl.1 (Nat.le_of_ble_eq_true rfl) dX3_addSupplier_18 (fun v11 H locs σ cells slots h hI => ?_)
    refine W.eq (g2 := F0 m 21 ls [.int v11]) rfl ?_
    refine lv_istore_n (lv' := [(1, .int v11), (0, .ref a0)]) hx hb dX3_addSupplier_21 rfl hl (Nat.le_of_ble_eq_true rfl) rfl (fun ls hl => ?_)
    refine lv_aload_n hx hb dX3_addSupplier_22 rfl (lv_at hl 1 rfl) ?_
    refine xr_gN h hX hI xl_X3_13_3.g dX3_addSupplier_23 (fun v12 h => ?_)
    refine lv_iload_n hx hb dX3_addSupplier_26 rfl (lv_at hl 0 rfl) ?_
    refine lv_iconst (v := (0 : Int32)) hx hb dX3_addSupplier_27 (by decide) ?_
    refine xr_callS (iv := (fun b => some (.int b))) (As := [.int v11, .int (0 : Int32)]) (rest := [.ref v12]) h hX hI (fun _ _ h => w_X3_ofSupplier h) 2 (lw_S q2026 q2027 q87 q2028) xd_X3_ofSupplier ⟨rfl, rfl⟩ rfl hl.1 (Nat.le_of_ble_eq_true rfl) dX3_addSupplier_28 (fun v13 H locs σ cells slots h hI => ?_)
    refine W.eq (g2 := F0 m 31 ls [.int v13, .ref v12]) rfl ?_
    refine lv_ldc2d (v := (4617315517961601024 : UInt64)) hx hb hX.1.2.2.2.1 (hX.1.2.2.2.2 _ q2029) dX3_addSupplier_31 ?_
    refine xr_d2l hX q1970 q1972 q1971 q88 hl.1 ⟨rfl, rfl⟩ dX3_addSupplier_34 ?_
    refine xr_stL h hX hI dX3_addSupplier_37 (fun H locs σ h hI => ?_)
    refine lv_aload_n hx hb dX3_addSupplier_38 rfl (lv_at hl 1 rfl) ?_
    refine xr_gN h hX hI xl_X3_13_3.g dX3_addSupplier_39 (fun v14 h => ?_)
    refine lv_iload_n hx hb dX3_addSupplier_42 rfl (lv_at hl 0 rfl) ?_
    refine lv_iconst (v := (2 : Int32)) hx hb dX3_addSupplier_43 (by decide) ?_
    refine xr_callS (iv := (fun b => some (.int b))) (As := [.int v11, .int (2 : Int32)]) (rest := [.ref v14]) h hX hI (fun _ _ h => w_X3_ofSupplier h) 2 (lw_S q2026 q2027 q87 q2028) xd_X3_ofSupplier ⟨rfl, rfl⟩ rfl hl.1 (Nat.le_of_ble_eq_true rfl) dX3_addSupplier_44 (fun v15 H locs σ cells slots h hI => ?_)
    refine W.eq (g2 := F0 m 47 ls [.int v15, .ref v14]) rfl ?_
    refine lv_ldc2 (v := (100 : Int64)) hx hb hX.1.2.2.2.1 (hX.1.2.2.2.2 _ q2030) dX3_addSupplier_47 ?_
    refine xr_stL h hX hI dX3_addSupplier_50 (fun H locs σ h hI => ?_)
    refine lv_aload_n hx hb dX3_addSupplier_51 rfl (lv_at hl 1 rfl) ?_
    refine xr_gN h hX hI xl_X3_13_3.g dX3_addSupplier_52 (fun v16 h => ?_)
    refine lv_iconst (v := (1 : Int32)) hx hb dX3_addSupplier_55 (by decide) ?_
    refine lv_dup2_11 hx hb dX3_addSupplier_56 rfl rfl ?_
    refine xr_ldL h hX hI dX3_addSupplier_57 (fun v17 h => ?_)
    refine lv_lconst (v := (1 : Int64)) hx hb dX3_addSupplier_58 (by decide) ?_
    refine lv_ladd hx hb dX3_addSupplier_59 ?_
    refine xr_stL h hX hI dX3_addSupplier_60 (fun H locs σ h hI => ?_)
    refine lv_aload_n hx hb dX3_addSupplier_61 rfl (lv_at hl 1 rfl) ?_
    refine lv_iload_n hx hb dX3_addSupplier_62 rfl (lv_at hl 0 rfl) ?_
    refine xr_callV (iv := (fun b => some (.int b))) (As := [.int v11]) (rest := []) h hX hI (fun _ _ h => w_X3_acted h) (fun _ _ h => o_X3_acted h) rfl 1 (lw_V q2031 q2033 qs32 q87 q2034) ⟨rfl, xd_X3_acted⟩ ⟨rfl, rfl⟩ rfl hl.1 (Nat.le_of_ble_eq_true rfl) dX3_addSupplier_63 (fun v18 H locs σ cells slots h hI => ?_)
    refine W.eq (g2 := F0 m 66 ls [.int v18]) rfl ?_
    exact xr_ireturn h hX hI dX3_addSupplier_66
  · have h := xif_t h hc
    refine lv_bipush (v := (-3 : Int32)) hx hb dX3_addSupplier_13 (by decide) ?_
    exact xr_ireturn h hX hI dX3_addSupplier_15
/-! PayMatch.inRange(III)Z  -/
theorem w_X0_inRange {E : xE} {l : Launch} {a0 : Int32} {a1 : Int32} {a2 : Int32} {r : Int32} {σ σ9 : xS} (h : (f_X0_inRange a0 a1 a2).1 σ = some (r, σ9)) : xMet E l yX0_inRange (ws_ yX0_inRange cX0_inRange 3 (some .boolean)) 0 0 [.int a0, .int a1, .int a2] σ σ9 (some (.int r)) := by
  refine xstart (by decide +kernel) ((f_X0_inRange a0 a1 a2).2 _ _ _ h) (Nat.le_of_ble_eq_true rfl) ?_
  intro p e s m args below meth c H locs cells slots ls R hX hI hl
  have hx := hX.1.1
  have hb := hX.1.2.1
  have hl : lv_has ls 3 [(0, .int a0), (1, .int a1), (2, .int a2)] := hl
  generalize hσ0 : σ = σ0 at hX hI ⊢
  have h : (f_X0_inRange a0 a1 a2).1 σ0 = some (r, σ9) := by rw [← hσ0]; exact h
  clear hσ0
  delta f_X0_inRange at h
  refine lv_iload_n hx hb dX0_inRange_0 rfl (lv_at hl 0 rfl) ?_
  refine lv_iload_n hx hb dX0_inRange_1 rfl (lv_at hl 1 rfl) ?_
  refine lv_icmp_lt (tgt := 14) hx hb dX0_inRange_2 (by decide) (fun hc => ?_) (fun hc => ?_)
  · have h := xif_t h hc
    refine lv_iconst (v := (0 : Int32)) hx hb dX0_inRange_14 (by decide) ?_
    exact xr_zreturn h hX hI dX0_inRange_15
  · have h := xif_f h hc
    refine lv_iload_n hx hb dX0_inRange_5 rfl (lv_at hl 0 rfl) ?_
    refine lv_iload_n hx hb dX0_inRange_6 rfl (lv_at hl 2 rfl) ?_
    refine lv_icmp_gt (tgt := 14) hx hb dX0_inRange_7 (by decide) (fun hc => ?_) (fun hc => ?_)
    · have h := xif_t h hc
      refine lv_iconst (v := (0 : Int32)) hx hb dX0_inRange_14 (by decide) ?_
      exact xr_zreturn h hX hI dX0_inRange_15
    · have h := xif_f h hc
      refine lv_iconst (v := (1 : Int32)) hx hb dX0_inRange_10 (by decide) ?_
      refine lv_goto (tgt := 15) hx hb dX0_inRange_11 (by decide) ?_
      exact xr_zreturn h hX hI dX0_inRange_15
/-! PayMatch$Book.has(I)Z  -/
theorem o_X2_has {a0 : Nat} {a1 : Int32} {r : Int32} {σ σ9 : xS} (h : (f_X2_has a0 a1).1 σ = some (r, σ9)) : ∃ fs, σ.1 a0 = some (.inl (2, fs)) := xck_of h
theorem w_X2_has {E : xE} {l : Launch} {a0 : Nat} {a1 : Int32} {r : Int32} {σ σ9 : xS} (h : (f_X2_has a0 a1).1 σ = some (r, σ9)) : xMet E l yX2_has (ws_ yX2_has cX2_has 2 (some .boolean)) 1 22 [.ref a0, .int a1] σ σ9 (some (.int r)) := by
  refine xstart (by decide +kernel) ((f_X2_has a0 a1).2 _ _ _ h) (Nat.le_of_ble_eq_true rfl) ?_
  intro p e s m args below meth c H locs cells slots ls R hX hI hl
  have hx := hX.1.1
  have hb := hX.1.2.1
  have hl : lv_has ls 2 [(0, .ref a0), (1, .int a1)] := hl
  generalize hσ0 : σ = σ0 at hX hI ⊢
  have h : (f_X2_has a0 a1).1 σ0 = some (r, σ9) := by rw [← hσ0]; exact h
  clear hσ0
  delta f_X2_has at h
  have h := (xck_bd h).2
  refine lv_iload_n hx hb dX2_has_0 rfl (lv_at hl 1 rfl) ?_
  refine lv_iconst (v := (0 : Int32)) hx hb dX2_has_1 (by decide) ?_
  refine lv_aload_n hx hb dX2_has_2 rfl (lv_at hl 0 rfl) ?_
  refine xr_gN h hX hI xl_X2_10_2.g dX2_has_3 (fun v4 h => ?_)
  refine xr_callF (iv := (fun b => some (.int b))) (As := []) (rest := [.int (0 : Int32), .int a1]) h hX hI (fun _ _ h => w_J2_size h) (fun _ _ h => o_J2_size h) rfl 0 xfw_0 q308 q312 q314 q79 q316 xdi_0 ⟨rfl, rfl⟩ rfl hl.1 (Nat.le_of_ble_eq_true rfl) dX2_has_6 (fun v5 H locs σ cells slots h hI => ?_)
  refine W.eq (g2 := F0 m 11 ls [.int v5, .int (0 : Int32), .int a1]) rfl ?_
  refine lv_iconst (v := (1 : Int32)) hx hb dX2_has_11 (by decide) ?_
  refine lv_isub hx hb dX2_has_12 ?_
  refine xr_callSN (iv := (fun b => some (.int b))) (As := [.int a1, .int (0 : Int32), .int (v5 - (1 : Int32))]) (rest := []) h hX hI (fun _ _ h => w_X0_inRange h) 3 q1229 q1231 q74 q1230 xd_X0_inRange ⟨rfl, rfl⟩ rfl hl.1 (Nat.le_of_ble_eq_true rfl) dX2_has_13 (fun v6 H locs σ cells slots h hI => ?_)
  refine W.eq (g2 := F0 m 16 ls [.int v6]) rfl ?_
  exact xr_zreturn h hX hI dX2_has_16
/-! PayMatch.isPercent(JD)Z  -/
theorem w_X0_isPercent {E : xE} {l : Launch} {a0 : Int64} {a2 : UInt64} {r : Int32} {σ σ9 : xS} (h : (f_X0_isPercent a0 a2).1 σ = some (r, σ9)) : xMet E l yX0_isPercent (ws_ yX0_isPercent cX0_isPercent 6 (some .boolean)) 1 60 [.long a0, .double a2] σ σ9 (some (.int r)) := by
  refine xstart (by decide +kernel) ((f_X0_isPercent a0 a2).2 _ _ _ h) (Nat.le_of_ble_eq_true rfl) ?_
  intro p e s m args below meth c H locs cells slots ls R hX hI hl
  have hx := hX.1.1
  have hb := hX.1.2.1
  have hl : lv_has ls 6 [(0, .long a0), (2, .double a2)] := hl
  generalize hσ0 : σ = σ0 at hX hI ⊢
  have h : (f_X0_isPercent a0 a2).1 σ0 = some (r, σ9) := by rw [← hσ0]; exact h
  clear hσ0
  delta f_X0_isPercent at h
  refine lv_lload_n hx hb dX0_isPercent_0 rfl (lv_at hl 0 rfl) ?_
  refine lv_lconst (v := (0 : Int64)) hx hb dX0_isPercent_1 (by decide) ?_
  refine W.lcmp hx hb dX0_isPercent_2 ?_
  refine lv_if_lt (tgt := 18) hx hb dX0_isPercent_3 (by decide) (fun hc => ?_) (fun hc => ?_)
  · have h := xif_t h hc
    refine lv_iconst (v := (0 : Int32)) hx hb dX0_isPercent_18 (by decide) ?_
    exact xr_zreturn h hX hI dX0_isPercent_19
  · have h := xif_f h hc
    refine lv_lload_n hx hb dX0_isPercent_6 rfl (lv_at hl 0 rfl) ?_
    refine lv_ldc2 (v := (9223372036854775807 : Int64)) hx hb hX.1.2.2.2.1 (hX.1.2.2.2.2 _ q1236) dX0_isPercent_7 ?_
    refine lv_land hx hb dX0_isPercent_10 ?_
    refine lv_ldc2 (v := (9218868437227405312 : Int64)) hx hb hX.1.2.2.2.1 (hX.1.2.2.2.2 _ q1237) dX0_isPercent_11 ?_
    refine W.lcmp hx hb dX0_isPercent_14 ?_
    refine lv_if_le (tgt := 20) hx hb dX0_isPercent_15 (by decide) (fun hc => ?_) (fun hc => ?_)
    · have h := xif_t h hc
      refine lv_lload_n hx hb dX0_isPercent_20 rfl (lv_at hl 0 rfl) ?_
      refine xr_l2d h hX q1238 q1240 q1239 q88 hl.1 ⟨rfl, rfl⟩ dX0_isPercent_21 (fun h => ?_)
      refine lv_dstore (lv' := [(4, .double a0.toUInt64), (0, .long a0), (2, .double a2)]) hx hb dX0_isPercent_24 hl (Nat.le_of_ble_eq_true rfl) rfl (fun ls hl => ?_)
      refine lv_dload hx hb dX0_isPercent_26 (lv_at hl 0 rfl) ?_
      refine lv_dload_n hx hb dX0_isPercent_28 rfl (lv_at hl 2 rfl) ?_
      refine lv_dcmp hx hb dX0_isPercent_29 ?_
      refine lv_if_gt (tgt := 37) hx hb dX0_isPercent_30 (by decide) (fun hc => ?_) (fun hc => ?_)
      · have h := xif_t h hc
        refine lv_iconst (v := (0 : Int32)) hx hb dX0_isPercent_37 (by decide) ?_
        exact xr_zreturn h hX hI dX0_isPercent_38
      · have h := xif_f h hc
        refine lv_iconst (v := (1 : Int32)) hx hb dX0_isPercent_33 (by decide) ?_
        refine lv_goto (tgt := 38) hx hb dX0_isPercent_34 (by decide) ?_
        exact xr_zreturn h hX hI dX0_isPercent_38
    · have h := xif_f h hc
      refine lv_iconst (v := (0 : Int32)) hx hb dX0_isPercent_18 (by decide) ?_
      exact xr_zreturn h hX hI dX0_isPercent_19
/-! PayMatch.nothing()D  -/
theorem w_X0_nothing {E : xE} {l : Launch} {r : UInt64} {σ σ9 : xS} (h : (f_X0_nothing).1 σ = some (r, σ9)) : xMet E l yX0_nothing (ws_ yX0_nothing cX0_nothing 0 (some .double)) 0 0 [] σ σ9 (some (.double r)) := by
  refine xstart (by decide +kernel) ((f_X0_nothing).2 _ _ _ h) (Nat.le_of_ble_eq_true rfl) ?_
  intro p e s m args below meth c H locs cells slots ls R hX hI hl
  have hx := hX.1.1
  have hb := hX.1.2.1
  have hl : lv_has ls 0 [] := hl
  generalize hσ0 : σ = σ0 at hX hI ⊢
  have h : (f_X0_nothing).1 σ0 = some (r, σ9) := by rw [← hσ0]; exact h
  clear hσ0
  delta f_X0_nothing at h
  refine lv_ldc2d (v := (9221120237041090560 : UInt64)) hx hb hX.1.2.2.2.1 (hX.1.2.2.2.2 _ q1248) dX0_nothing_0 ?_
  exact xr_dreturn h hX hI dX0_nothing_3
/-! jdk/internal/util/Preconditions.checkIndex(IILjava/util/function/BiFunction;)I  -/
theorem w_J15_checkIndex {E : xE} {l : Launch} {a0 : Int32} {a1 : Int32} {a2 : (Option Nat)} {r : Int32} {σ σ9 : xS} (h : (f_J15_checkIndex a0 a1).1 σ = some (r, σ9)) : xMet E l yJ15_checkIndex (ws_ yJ15_checkIndex cJ15_checkIndex 3 (some .int)) 0 0 [.int a0, .int a1, va_rf a2] σ σ9 (some (.int r)) := by
  rcases a2 with _ | ba2
  · refine xstart (by decide +kernel) ((f_J15_checkIndex a0 a1).2 _ _ _ h) (Nat.le_of_ble_eq_true rfl) ?_
    intro p e s m args below meth c H locs cells slots ls R hX hI hl
    have hx := hX.1.1
    have hb := hX.1.2.1
    have hl : lv_has ls 3 [(0, .int a0), (1, .int a1), (2, .null)] := hl
    generalize hσ0 : σ = σ0 at hX hI ⊢
    have h : (f_J15_checkIndex a0 a1).1 σ0 = some (r, σ9) := by rw [← hσ0]; exact h
    clear hσ0
    delta f_J15_checkIndex at h
    refine lv_iload_n hx hb dJ15_checkIndex_0 rfl (lv_at hl 0 rfl) ?_
    refine lv_if_lt (tgt := 9) hx hb dJ15_checkIndex_1 (by decide) (fun hc => ?_) (fun hc => ?_)
    · have h := xif_t h hc
      exact xr_no h
    · have h := xif_f h hc
      refine lv_iload_n hx hb dJ15_checkIndex_4 rfl (lv_at hl 0 rfl) ?_
      refine lv_iload_n hx hb dJ15_checkIndex_5 rfl (lv_at hl 1 rfl) ?_
      refine lv_icmp_lt (tgt := 16) hx hb dJ15_checkIndex_6 (by decide) (fun hc => ?_) (fun hc => ?_)
      · have h := xif_t h hc
        refine lv_iload_n hx hb dJ15_checkIndex_16 rfl (lv_at hl 0 rfl) ?_
        exact xr_ireturn h hX hI dJ15_checkIndex_17
      · have h := xif_f h hc
        exact xr_no h
  · refine xstart (by decide +kernel) ((f_J15_checkIndex a0 a1).2 _ _ _ h) (Nat.le_of_ble_eq_true rfl) ?_
    intro p e s m args below meth c H locs cells slots ls R hX hI hl
    have hx := hX.1.1
    have hb := hX.1.2.1
    have hl : lv_has ls 3 [(0, .int a0), (1, .int a1), (2, .ref ba2)] := hl
    generalize hσ0 : σ = σ0 at hX hI ⊢
    have h : (f_J15_checkIndex a0 a1).1 σ0 = some (r, σ9) := by rw [← hσ0]; exact h
    clear hσ0
    delta f_J15_checkIndex at h
    refine lv_iload_n hx hb dJ15_checkIndex_0 rfl (lv_at hl 0 rfl) ?_
    refine lv_if_lt (tgt := 9) hx hb dJ15_checkIndex_1 (by decide) (fun hc => ?_) (fun hc => ?_)
    · have h := xif_t h hc
      exact xr_no h
    · have h := xif_f h hc
      refine lv_iload_n hx hb dJ15_checkIndex_4 rfl (lv_at hl 0 rfl) ?_
      refine lv_iload_n hx hb dJ15_checkIndex_5 rfl (lv_at hl 1 rfl) ?_
      refine lv_icmp_lt (tgt := 16) hx hb dJ15_checkIndex_6 (by decide) (fun hc => ?_) (fun hc => ?_)
      · have h := xif_t h hc
        refine lv_iload_n hx hb dJ15_checkIndex_16 rfl (lv_at hl 0 rfl) ?_
        exact xr_ireturn h hX hI dJ15_checkIndex_17
      · have h := xif_f h hc
        exact xr_no h
/-! java/util/Objects.checkIndex(II)I  -/
theorem w_J14_checkIndex {E : xE} {l : Launch} {a0 : Int32} {a1 : Int32} {r : Int32} {σ σ9 : xS} (h : (f_J14_checkIndex a0 a1).1 σ = some (r, σ9)) : xMet E l yJ14_checkIndex (ws_ yJ14_checkIndex cJ14_checkIndex 2 (some .int)) 1 22 [.int a0, .int a1] σ σ9 (some (.int r)) := by
  refine xstart (by decide +kernel) ((f_J14_checkIndex a0 a1).2 _ _ _ h) (Nat.le_of_ble_eq_true rfl) ?_
  intro p e s m args below meth c H locs cells slots ls R hX hI hl
  have hx := hX.1.1
  have hb := hX.1.2.1
  have hl : lv_has ls 2 [(0, .int a0), (1, .int a1)] := hl
  generalize hσ0 : σ = σ0 at hX hI ⊢
  have h : (f_J14_checkIndex a0 a1).1 σ0 = some (r, σ9) := by rw [← hσ0]; exact h
  clear hσ0
  delta f_J14_checkIndex at h
  refine lv_iload_n hx hb dJ14_checkIndex_0 rfl (lv_at hl 0 rfl) ?_
  refine lv_iload_n hx hb dJ14_checkIndex_1 rfl (lv_at hl 1 rfl) ?_
  refine lv_null hx hb dJ14_checkIndex_2 ?_
  refine xr_callS (iv := (fun b => some (.int b))) (As := [.int a0, .int a1, .null]) (rest := []) h hX hI (fun _ _ h => w_J15_checkIndex (a2 := none) h) 3 (lw_S q497 q498 q95 q499) xd_J15_checkIndex ⟨rfl, rfl⟩ rfl hl.1 (Nat.le_of_ble_eq_true rfl) dJ14_checkIndex_3 (fun v2 H locs σ cells slots h hI => ?_)
  refine W.eq (g2 := F0 m 6 ls [.int v2]) rfl ?_
  exact xr_ireturn h hX hI dJ14_checkIndex_6
/-! java/util/ArrayList.elementData(I)Ljava/lang/Object;  -/
theorem o_J2_elementData {a0 : Nat} {a1 : Int32} {r : Nat} {σ σ9 : xS} (h : (f_J2_elementData a0 a1).1 σ = some (r, σ9)) : ∃ fs, σ.1 a0 = some (.inl (12, fs)) := xck_of h
theorem w_J2_elementData {E : xE} {l : Launch} {a0 : Nat} {a1 : Int32} {r : Nat} {σ σ9 : xS} (h : (f_J2_elementData a0 a1).1 σ = some (r, σ9)) : xMet E l yJ2_elementData (ws_ yJ2_elementData cJ2_elementData 2 (some (.object "java/lang/Object"))) 0 0 [.ref a0, .int a1] σ σ9 (some (.ref r)) := by
  refine xstart (by decide +kernel) ((f_J2_elementData a0 a1).2 _ _ _ h) (Nat.le_of_ble_eq_true rfl) ?_
  intro p e s m args below meth c H locs cells slots ls R hX hI hl
  have hx := hX.1.1
  have hb := hX.1.2.1
  have hl : lv_has ls 2 [(0, .ref a0), (1, .int a1)] := hl
  generalize hσ0 : σ = σ0 at hX hI ⊢
  have h : (f_J2_elementData a0 a1).1 σ0 = some (r, σ9) := by rw [← hσ0]; exact h
  clear hσ0
  delta f_J2_elementData at h
  have h := (xck_bd h).2
  refine lv_aload_n hx hb dJ2_elementData_0 rfl (lv_at hl 0 rfl) ?_
  refine xr_gN h hX hI xl_J2_9_12.g dJ2_elementData_1 (fun v3 h => ?_)
  refine lv_iload_n hx hb dJ2_elementData_4 rfl (lv_at hl 1 rfl) ?_
  refine xr_ldN h hX hI (by decide) dJ2_elementData_5 (fun v4 h => ?_)
  exact xr_areturn h hX hI (Or.inl ⟨_, rfl⟩) dJ2_elementData_6
/-! java/util/ArrayList.get(I)Ljava/lang/Object;  -/
theorem o_J2_get {a0 : Nat} {a1 : Int32} {r : Nat} {σ σ9 : xS} (h : (f_J2_get a0 a1).1 σ = some (r, σ9)) : ∃ fs, σ.1 a0 = some (.inl (12, fs)) := xck_of h
theorem w_J2_get {E : xE} {l : Launch} {a0 : Nat} {a1 : Int32} {r : Nat} {σ σ9 : xS} (h : (f_J2_get a0 a1).1 σ = some (r, σ9)) : xMet E l yJ2_get (ws_ yJ2_get cJ2_get 2 (some (.object "java/lang/Object"))) 2 43 [.ref a0, .int a1] σ σ9 (some (.ref r)) := by
  refine xstart (by decide +kernel) ((f_J2_get a0 a1).2 _ _ _ h) (Nat.le_of_ble_eq_true rfl) ?_
  intro p e s m args below meth c H locs cells slots ls R hX hI hl
  have hx := hX.1.1
  have hb := hX.1.2.1
  have hl : lv_has ls 2 [(0, .ref a0), (1, .int a1)] := hl
  generalize hσ0 : σ = σ0 at hX hI ⊢
  have h : (f_J2_get a0 a1).1 σ0 = some (r, σ9) := by rw [← hσ0]; exact h
  clear hσ0
  delta f_J2_get at h
  have h := (xck_bd h).2
  refine lv_iload_n hx hb dJ2_get_0 rfl (lv_at hl 1 rfl) ?_
  refine lv_aload_n hx hb dJ2_get_1 rfl (lv_at hl 0 rfl) ?_
  refine xr_gI h hX hI xl_J2_48_12.g dJ2_get_2 (fun v4 h => ?_)
  refine xr_callS (iv := (fun b => some (.int b))) (As := [.int a1, .int v4]) (rest := []) h hX hI (fun _ _ h => w_J14_checkIndex h) 2 (lw_S q494 q495 q94 q496) xd_J14_checkIndex ⟨rfl, rfl⟩ rfl hl.1 (Nat.le_of_ble_eq_true rfl) dJ2_get_5 (fun v5 H locs σ cells slots h hI => ?_)
  refine W.eq (g2 := F0 m 8 ls [.int v5]) rfl ?_
  refine lv_pop hx hb dJ2_get_8 rfl ?_
  refine lv_aload_n hx hb dJ2_get_9 rfl (lv_at hl 0 rfl) ?_
  refine lv_iload_n hx hb dJ2_get_10 rfl (lv_at hl 1 rfl) ?_
  refine xr_callV (iv := (fun b => some (.ref b))) (As := [.int a1]) (rest := []) h hX hI (fun _ _ h => w_J2_elementData h) (fun _ _ h => o_J2_elementData h) rfl 1 (lw_V q500 q501 q502 q79 q503) ⟨rfl, xd_J2_elementData⟩ ⟨rfl, rfl⟩ rfl hl.1 (Nat.le_of_ble_eq_true rfl) dJ2_get_11 (fun v6 H locs σ cells slots h hI => ?_)
  refine W.eq (g2 := F0 m 14 ls [.ref v6]) rfl ?_
  exact xr_areturn h hX hI (Or.inl ⟨_, rfl⟩) dJ2_get_14
/-! PayMatch$Book.get(I)LPayMatch$Paper;  -/
theorem o_X2_get {a0 : Nat} {a1 : Int32} {r : Nat} {σ σ9 : xS} (h : (f_X2_get a0 a1).1 σ = some (r, σ9)) : ∃ fs, σ.1 a0 = some (.inl (2, fs)) := xck_of h
theorem w_X2_get {E : xE} {l : Launch} {a0 : Nat} {a1 : Int32} {r : Nat} {σ σ9 : xS} (h : (f_X2_get a0 a1).1 σ = some (r, σ9)) : xMet E l yX2_get (ws_ yX2_get cX2_get 2 (some (.object "PayMatch$Paper"))) 3 64 [.ref a0, .int a1] σ σ9 (some (.ref r)) := by
  refine xstart (by decide +kernel) ((f_X2_get a0 a1).2 _ _ _ h) (Nat.le_of_ble_eq_true rfl) ?_
  intro p e s m args below meth c H locs cells slots ls R hX hI hl
  have hx := hX.1.1
  have hb := hX.1.2.1
  have hl : lv_has ls 2 [(0, .ref a0), (1, .int a1)] := hl
  generalize hσ0 : σ = σ0 at hX hI ⊢
  have h : (f_X2_get a0 a1).1 σ0 = some (r, σ9) := by rw [← hσ0]; exact h
  clear hσ0
  delta f_X2_get at h
  have h := (xck_bd h).2
  refine lv_aload_n hx hb dX2_get_0 rfl (lv_at hl 0 rfl) ?_
  refine xr_gN h hX hI xl_X2_10_2.g dX2_get_1 (fun v3 h => ?_)
  refine lv_iload_n hx hb dX2_get_4 rfl (lv_at hl 1 rfl) ?_
  refine xr_callF (iv := (fun b => some (.ref b))) (As := [.int a1]) (rest := []) h hX hI (fun _ _ h => w_J2_get h) (fun _ _ h => o_J2_get h) rfl 1 xfw_14 q1254 q1257 q492 q79 q493 xdi_14 ⟨rfl, rfl⟩ rfl hl.1 (Nat.le_of_ble_eq_true rfl) dX2_get_5 (fun v4 H locs σ cells slots h hI => ?_)
  refine W.eq (g2 := F0 m 10 ls [.ref v4]) rfl ?_
  refine xr_cks h hX hI xc_X2_26 dX2_get_10 (fun h => ?_)
  exact xr_areturn h hX hI (Or.inl ⟨_, rfl⟩) dX2_get_13
/-! PayMatch.tolerance(IZ)D  -/
theorem o_X0_tolerance {a0 : Nat} {a1 : Int32} {a2 : Int32} {r : UInt64} {σ σ9 : xS} (h : (f_X0_tolerance a0 a1 a2).1 σ = some (r, σ9)) : ∃ fs, σ.1 a0 = some (.inl (0, fs)) := xck_of h
theorem w_X0_tolerance {E : xE} {l : Launch} {a0 : Nat} {a1 : Int32} {a2 : Int32} {r : UInt64} {σ σ9 : xS} (h : (f_X0_tolerance a0 a1 a2).1 σ = some (r, σ9)) : xMet E l yX0_tolerance (ws_ yX0_tolerance cX0_tolerance 3 (some .double)) 4 85 [.ref a0, .int a1, .int a2] σ σ9 (some (.double r)) := by
  refine xstart (by decide +kernel) ((f_X0_tolerance a0 a1 a2).2 _ _ _ h) (Nat.le_of_ble_eq_true rfl) ?_
  intro p e s m args below meth c H locs cells slots ls R hX hI hl
  have hx := hX.1.1
  have hb := hX.1.2.1
  have hl : lv_has ls 3 [(0, .ref a0), (1, .int a1), (2, .int a2)] := hl
  generalize hσ0 : σ = σ0 at hX hI ⊢
  have h : (f_X0_tolerance a0 a1 a2).1 σ0 = some (r, σ9) := by rw [← hσ0]; exact h
  clear hσ0
  delta f_X0_tolerance at h
  have h := (xck_bd h).2
  refine lv_aload_n hx hb dX0_tolerance_0 rfl (lv_at hl 0 rfl) ?_
  refine xr_gN h hX hI xl_X0_22_0.g dX0_tolerance_1 (fun v13 h => ?_)
  refine xr_gN h hX hI xl_X0_60_1.g dX0_tolerance_4 (fun v14 h => ?_)
  refine lv_iload_n hx hb dX0_tolerance_7 rfl (lv_at hl 1 rfl) ?_
  refine xr_callV (iv := (fun b => some (.int b))) (As := [.int a1]) (rest := []) h hX hI (fun _ _ h => w_X2_has h) (fun _ _ h => o_X2_has h) rfl 1 (lw_V q1225 q1226 q1227 q76 q1228) ⟨rfl, xd_X2_has⟩ ⟨rfl, rfl⟩ rfl hl.1 (Nat.le_of_ble_eq_true rfl) dX0_tolerance_8 (fun v15 H locs σ cells slots h hI => ?_)
  refine W.eq (g2 := F0 m 11 ls [.int v15]) rfl ?_
  refine lv_if_ne (tgt := 18) hx hb dX0_tolerance_11 (by decide) (fun hc => ?_) (fun hc => ?_)
  · have h := xif_f h hc
    refine lv_iload_n hx hb dX0_tolerance_18 rfl (lv_at hl 2 rfl) ?_
    refine lv_if_eq (tgt := 42) hx hb dX0_tolerance_19 (by decide) (fun hc => ?_) (fun hc => ?_)
    · have h := xif_t h hc
      refine lv_aload_n hx hb dX0_tolerance_42 rfl (lv_at hl 0 rfl) ?_
      refine xr_gN h hX hI xl_X0_22_0.g dX0_tolerance_43 (fun v16 h => ?_)
      refine xr_gN h hX hI xl_X0_60_1.g dX0_tolerance_46 (fun v17 h => ?_)
      refine lv_iload_n hx hb dX0_tolerance_49 rfl (lv_at hl 1 rfl) ?_
      refine xr_callV (iv := (fun b => some (.ref b))) (As := [.int a1]) (rest := []) h hX hI (fun _ _ h => w_X2_get h) (fun _ _ h => o_X2_get h) rfl 1 (lw_V q1249 q1250 q1251 q76 q1252) ⟨rfl, xd_X2_get⟩ ⟨rfl, rfl⟩ rfl hl.1 (Nat.le_of_ble_eq_true rfl) dX0_tolerance_50 (fun v18 H locs σ cells slots h hI => ?_)
      refine W.eq (g2 := F0 m 53 ls [.ref v18]) rfl ?_
      refine xr_cks h hX hI xc_X0_71 dX0_tolerance_53 (fun h => ?_)
      refine xr_gD h hX hI xl_X0_104_7.g dX0_tolerance_56 (fun v19 h => ?_)
      exact xr_dreturn h hX hI dX0_tolerance_59
    · have h := xif_f h hc
      refine lv_aload_n hx hb dX0_tolerance_22 rfl (lv_at hl 0 rfl) ?_
      refine xr_gN h hX hI xl_X0_22_0.g dX0_tolerance_23 (fun v20 h => ?_)
      refine xr_gN h hX hI xl_X0_60_1.g dX0_tolerance_26 (fun v21 h => ?_)
      refine lv_iload_n hx hb dX0_tolerance_29 rfl (lv_at hl 1 rfl) ?_
      refine xr_callV (iv := (fun b => some (.ref b))) (As := [.int a1]) (rest := []) h hX hI (fun _ _ h => w_X2_get h) (fun _ _ h => o_X2_get h) rfl 1 (lw_V q1249 q1250 q1251 q76 q1252) ⟨rfl, xd_X2_get⟩ ⟨rfl, rfl⟩ rfl hl.1 (Nat.le_of_ble_eq_true rfl) dX0_tolerance_30 (fun v22 H locs σ cells slots h hI => ?_)
      refine W.eq (g2 := F0 m 33 ls [.ref v22]) rfl ?_
      refine xr_cks h hX hI xc_X0_71 dX0_tolerance_33 (fun h => ?_)
      refine xr_gD h hX hI xl_X0_100_7.g dX0_tolerance_36 (fun v23 h => ?_)
      refine lv_goto (tgt := 59) hx hb dX0_tolerance_39 (by decide) ?_
      exact xr_dreturn h hX hI dX0_tolerance_59
  · have h := xif_t h hc
    refine xr_callS (iv := (fun b => some (.double b))) (As := []) (rest := []) h hX hI (fun _ _ h => w_X0_nothing h) 0 (lw_S q1245 q1246 q74 q1247) xd_X0_nothing ⟨rfl, rfl⟩ rfl hl.1 (Nat.le_of_ble_eq_true rfl) dX0_tolerance_14 (fun v24 H locs σ cells slots h hI => ?_)
    refine W.eq (g2 := F0 m 17 ls [.double v24]) rfl ?_
    exact xr_dreturn h hX hI dX0_tolerance_17
/-! PayMatch.setTolerance(IZJ)I  -/
theorem w_X0_setTolerance_b100 {a0 : Nat} {a7 : Nat} {r : Int32} (hX : xX E R p m c cX0_setTolerance 8 s args RX0 "setTolerance" meth (some .int) 14 438 σ0 σ9)
    (h : (f_X0_setTolerance_b100 a0 a7).1 σ = some (r, σ9)) (hI : xI E σ0 σ s H locs cells slots) (hl : lv_has ls 8 [(0, .ref a0), (7, .ref a7)]) : W p l e R s m args below meth c H locs cells slots (xMQ E below args s σ0 σ9 (some (.int r))) (F0 m 100 ls []) := by
  have hx := hX.1.1
  have hb := hX.1.2.1
  delta f_X0_setTolerance_b100 at h
  refine lv_aload_n hx hb dX0_setTolerance_100 rfl (lv_at hl 0 rfl) ?_
  refine lv_aload hx hb dX0_setTolerance_101 (lv_at hl 1 rfl) ?_
  refine lv_iconst (v := (1 : Int32)) hx hb dX0_setTolerance_103 (by decide) ?_
  refine xr_callV (iv := (fun b => some (.int b))) (As := [.ref a7, .int (1 : Int32)]) (rest := []) h hX hI (fun _ _ h => w_X0_become h) (fun _ _ h => o_X0_become h) rfl 2 (lw_V q1182 q1184 qs9 q74 q1185) ⟨rfl, xd_X0_become⟩ ⟨rfl, rfl⟩ rfl hl.1 (Nat.le_of_ble_eq_true rfl) dX0_setTolerance_104 (fun v13 H locs σ cells slots h hI => ?_)
  refine W.eq (g2 := F0 m 107 ls [.int v13]) rfl ?_
  exact xr_ireturn h hX hI dX0_setTolerance_107
theorem o_X0_setTolerance {a0 : Nat} {a1 : Int32} {a2 : Int32} {a3 : Int64} {r : Int32} {σ σ9 : xS} (h : (f_X0_setTolerance a0 a1 a2 a3).1 σ = some (r, σ9)) : ∃ fs, σ.1 a0 = some (.inl (0, fs)) := xck_of h
theorem w_X0_setTolerance {E : xE} {l : Launch} {a0 : Nat} {a1 : Int32} {a2 : Int32} {a3 : Int64} {r : Int32} {σ σ9 : xS} (h : (f_X0_setTolerance a0 a1 a2 a3).1 σ = some (r, σ9)) : xMet E l yX0_setTolerance (ws_ yX0_setTolerance cX0_setTolerance 8 (some .int)) 14 438 [.ref a0, .int a1, .int a2, .long a3] σ σ9 (some (.int r)) := by
  refine xstart (by decide +kernel) ((f_X0_setTolerance a0 a1 a2 a3).2 _ _ _ h) (Nat.le_of_ble_eq_true rfl) ?_
  intro p e s m args below meth c H locs cells slots ls R hX hI hl
  have hx := hX.1.1
  have hb := hX.1.2.1
  have hl : lv_has ls 8 [(0, .ref a0), (1, .int a1), (2, .int a2), (3, .long a3)] := hl
  generalize hσ0 : σ = σ0 at hX hI ⊢
  have h : (f_X0_setTolerance a0 a1 a2 a3).1 σ0 = some (r, σ9) := by rw [← hσ0]; exact h
  clear hσ0
  delta f_X0_setTolerance at h
  have h := (xck_bd h).2
  refine lv_aload_n hx hb dX0_setTolerance_0 rfl (lv_at hl 0 rfl) ?_
  refine xr_gN h hX hI xl_X0_22_0.g dX0_setTolerance_1 (fun v14 h => ?_)
  refine xr_gN h hX hI xl_X0_60_1.g dX0_setTolerance_4 (fun v15 h => ?_)
  refine lv_iload_n hx hb dX0_setTolerance_7 rfl (lv_at hl 1 rfl) ?_
  refine xr_callV (iv := (fun b => some (.int b))) (As := [.int a1]) (rest := []) h hX hI (fun _ _ h => w_X2_has h) (fun _ _ h => o_X2_has h) rfl 1 (lw_V q1225 q1226 q1227 q76 q1228) ⟨rfl, xd_X2_has⟩ ⟨rfl, rfl⟩ rfl hl.1 (Nat.le_of_ble_eq_true rfl) dX0_setTolerance_8 (fun v16 H locs σ cells slots h hI => ?_)
  refine W.eq (g2 := F0 m 11 ls [.int v16]) rfl ?_
  refine lv_if_ne (tgt := 16) hx hb dX0_setTolerance_11 (by decide) (fun hc => ?_) (fun hc => ?_)
  · have h := xif_f h hc
    refine lv_lload_n hx hb dX0_setTolerance_16 rfl (lv_at hl 3 rfl) ?_
    refine lv_ldc2d (v := (4632233691727265792 : UInt64)) hx hb hX.1.2.2.2.1 (hX.1.2.2.2.2 _ q1232) dX0_setTolerance_17 ?_
    refine xr_callS (iv := (fun b => some (.int b))) (As := [.long a3, .double (4632233691727265792 : UInt64)]) (rest := []) h hX hI (fun _ _ h => w_X0_isPercent h) 2 (lw_S q1233 q1234 q74 q1235) xd_X0_isPercent ⟨rfl, rfl⟩ rfl hl.1 (Nat.le_of_ble_eq_true rfl) dX0_setTolerance_20 (fun v17 H locs σ cells slots h hI => ?_)
    refine W.eq (g2 := F0 m 23 ls [.int v17]) rfl ?_
    refine lv_if_ne (tgt := 29) hx hb dX0_setTolerance_23 (by decide) (fun hc => ?_) (fun hc => ?_)
    · have h := xif_f h hc
      refine lv_lload_n hx hb dX0_setTolerance_29 rfl (lv_at hl 3 rfl) ?_
      refine xr_l2d h hX q1238 q1240 q1239 q88 hl.1 ⟨rfl, rfl⟩ dX0_setTolerance_30 (fun h => ?_)
      refine lv_dstore (lv' := [(5, .double a3.toUInt64), (0, .ref a0), (1, .int a1), (2, .int a2), (3, .long a3)]) hx hb dX0_setTolerance_33 hl (Nat.le_of_ble_eq_true rfl) rfl (fun ls hl => ?_)
      refine lv_aload_n hx hb dX0_setTolerance_35 rfl (lv_at hl 1 rfl) ?_
      refine lv_iload_n hx hb dX0_setTolerance_36 rfl (lv_at hl 2 rfl) ?_
      refine lv_iload_n hx hb dX0_setTolerance_37 rfl (lv_at hl 3 rfl) ?_
      refine xr_callV (iv := (fun b => some (.double b))) (As := [.int a1, .int a2]) (rest := []) h hX hI (fun _ _ h => w_X0_tolerance h) (fun _ _ h => o_X0_tolerance h) rfl 2 (lw_V q1241 q1242 q1243 q74 q1244) ⟨rfl, xd_X0_tolerance⟩ ⟨rfl, rfl⟩ rfl hl.1 (Nat.le_of_ble_eq_true rfl) dX0_setTolerance_38 (fun v18 H locs σ cells slots h hI => ?_)
      refine W.eq (g2 := F0 m 41 ls [.double v18]) rfl ?_
      refine lv_dload hx hb dX0_setTolerance_41 (lv_at hl 0 rfl) ?_
      refine lv_dcmp hx hb dX0_setTolerance_43 ?_
      refine lv_if_ne (tgt := 50) hx hb dX0_setTolerance_44 (by decide) (fun hc => ?_) (fun hc => ?_)
      · have h := xif_f h hc
        refine lv_aload_n hx hb dX0_setTolerance_50 rfl (lv_at hl 1 rfl) ?_
        refine xr_gN h hX hI xl_X0_22_0.g dX0_setTolerance_51 (fun v19 h => ?_)
        refine xr_callV (iv := (fun b => some (.ref b))) (As := []) (rest := []) h hX hI (fun _ _ h => w_X1_copy h) (fun _ _ h => o_X1_copy h) rfl 0 (lw_V q323 q324 q325 q75 q326) ⟨rfl, xd_X1_copy⟩ ⟨rfl, rfl⟩ rfl hl.1 (Nat.le_of_ble_eq_true rfl) dX0_setTolerance_54 (fun v20 H locs σ cells slots h hI => ?_)
        refine W.eq (g2 := F0 m 57 ls [.ref v20]) rfl ?_
        refine lv_astore (lv' := [(7, .ref v20), (5, .double a3.toUInt64), (0, .ref a0), (1, .int a1), (2, .int a2), (3, .long a3)]) hx hb dX0_setTolerance_57 hl (Nat.le_of_ble_eq_true rfl) rfl (fun ls hl => ?_)
        refine lv_iload_n hx hb dX0_setTolerance_59 rfl (lv_at hl 4 rfl) ?_
        refine lv_if_eq (tgt := 83) hx hb dX0_setTolerance_60 (by decide) (fun hc => ?_) (fun hc => ?_)
        · have h := xif_t h hc
          refine lv_aload hx hb dX0_setTolerance_83 (lv_at hl 0 rfl) ?_
          refine xr_gN h hX hI xl_X0_60_1.g dX0_setTolerance_85 (fun v21 h => ?_)
          refine lv_iload_n hx hb dX0_setTolerance_88 rfl (lv_at hl 3 rfl) ?_
          refine xr_callV (iv := (fun b => some (.ref b))) (As := [.int a1]) (rest := []) h hX hI (fun _ _ h => w_X2_get h) (fun _ _ h => o_X2_get h) rfl 1 (lw_V q1249 q1250 q1251 q76 q1252) ⟨rfl, xd_X2_get⟩ ⟨rfl, rfl⟩ rfl hl.1 (Nat.le_of_ble_eq_true rfl) dX0_setTolerance_89 (fun v22 H locs σ cells slots h hI => ?_)
          refine W.eq (g2 := F0 m 92 ls [.ref v22]) rfl ?_
          refine xr_cks h hX hI xc_X0_71 dX0_setTolerance_92 (fun h => ?_)
          refine lv_dload hx hb dX0_setTolerance_95 (lv_at hl 1 rfl) ?_
          refine xr_pt h hX hI xl_X0_104_7 (Or.inl rfl) rfl rfl dX0_setTolerance_97 (fun H locs σ h hI => ?_)
          exact w_X0_setTolerance_b100 hX h hI (lv_sub hl [2, 0] rfl)
        · have h := xif_f h hc
          refine lv_aload hx hb dX0_setTolerance_63 (lv_at hl 0 rfl) ?_
          refine xr_gN h hX hI xl_X0_60_1.g dX0_setTolerance_65 (fun v23 h => ?_)
          refine lv_iload_n hx hb dX0_setTolerance_68 rfl (lv_at hl 3 rfl) ?_
          refine xr_callV (iv := (fun b => some (.ref b))) (As := [.int a1]) (rest := []) h hX hI (fun _ _ h => w_X2_get h) (fun _ _ h => o_X2_get h) rfl 1 (lw_V q1249 q1250 q1251 q76 q1252) ⟨rfl, xd_X2_get⟩ ⟨rfl, rfl⟩ rfl hl.1 (Nat.le_of_ble_eq_true rfl) dX0_setTolerance_69 (fun v24 H locs σ cells slots h hI => ?_)
          refine W.eq (g2 := F0 m 72 ls [.ref v24]) rfl ?_
          refine xr_cks h hX hI xc_X0_71 dX0_setTolerance_72 (fun h => ?_)
          refine lv_dload hx hb dX0_setTolerance_75 (lv_at hl 1 rfl) ?_
          refine xr_pt h hX hI xl_X0_100_7 (Or.inl rfl) rfl rfl dX0_setTolerance_77 (fun H locs σ h hI => ?_)
          refine lv_goto (tgt := 100) hx hb dX0_setTolerance_80 (by decide) ?_
          exact w_X0_setTolerance_b100 hX h hI (lv_sub hl [2, 0] rfl)
      · have h := xif_t h hc
        refine lv_bipush (v := (-5 : Int32)) hx hb dX0_setTolerance_47 (by decide) ?_
        exact xr_ireturn h hX hI dX0_setTolerance_49
    · have h := xif_t h hc
      refine lv_bipush (v := (-2 : Int32)) hx hb dX0_setTolerance_26 (by decide) ?_
      exact xr_ireturn h hX hI dX0_setTolerance_28
  · have h := xif_t h hc
    refine lv_iconst (v := (-1 : Int32)) hx hb dX0_setTolerance_14 (by decide) ?_
    exact xr_ireturn h hX hI dX0_setTolerance_15
/-! PayMatchModel.in(III)Z  -/
theorem w_X3_in {E : xE} {l : Launch} {a0 : Int32} {a1 : Int32} {a2 : Int32} {r : Int32} {σ σ9 : xS} (h : (f_X3_in a0 a1 a2).1 σ = some (r, σ9)) : xMet E l yX3_in (ws_ yX3_in cX3_in 3 (some .boolean)) 0 0 [.int a0, .int a1, .int a2] σ σ9 (some (.int r)) := by
  refine xstart (by decide +kernel) ((f_X3_in a0 a1 a2).2 _ _ _ h) (Nat.le_of_ble_eq_true rfl) ?_
  intro p e s m args below meth c H locs cells slots ls R hX hI hl
  have hx := hX.1.1
  have hb := hX.1.2.1
  have hl : lv_has ls 3 [(0, .int a0), (1, .int a1), (2, .int a2)] := hl
  generalize hσ0 : σ = σ0 at hX hI ⊢
  have h : (f_X3_in a0 a1 a2).1 σ0 = some (r, σ9) := by rw [← hσ0]; exact h
  clear hσ0
  delta f_X3_in at h
  refine lv_iload_n hx hb dX3_in_0 rfl (lv_at hl 0 rfl) ?_
  refine lv_iload_n hx hb dX3_in_1 rfl (lv_at hl 1 rfl) ?_
  refine lv_icmp_lt (tgt := 14) hx hb dX3_in_2 (by decide) (fun hc => ?_) (fun hc => ?_)
  · have h := xif_t h hc
    refine lv_iconst (v := (0 : Int32)) hx hb dX3_in_14 (by decide) ?_
    exact xr_zreturn h hX hI dX3_in_15
  · have h := xif_f h hc
    refine lv_iload_n hx hb dX3_in_5 rfl (lv_at hl 0 rfl) ?_
    refine lv_iload_n hx hb dX3_in_6 rfl (lv_at hl 2 rfl) ?_
    refine lv_icmp_gt (tgt := 14) hx hb dX3_in_7 (by decide) (fun hc => ?_) (fun hc => ?_)
    · have h := xif_t h hc
      refine lv_iconst (v := (0 : Int32)) hx hb dX3_in_14 (by decide) ?_
      exact xr_zreturn h hX hI dX3_in_15
    · have h := xif_f h hc
      refine lv_iconst (v := (1 : Int32)) hx hb dX3_in_10 (by decide) ?_
      refine lv_goto (tgt := 15) hx hb dX3_in_11 (by decide) ?_
      exact xr_zreturn h hX hI dX3_in_15
/-! PayMatchModel.isSupplier(I)Z  -/
theorem o_X3_isSupplier {a0 : Nat} {a1 : Int32} {r : Int32} {σ σ9 : xS} (h : (f_X3_isSupplier a0 a1).1 σ = some (r, σ9)) : ∃ fs, σ.1 a0 = some (.inl (3, fs)) := xck_of h
theorem w_X3_isSupplier {E : xE} {l : Launch} {a0 : Nat} {a1 : Int32} {r : Int32} {σ σ9 : xS} (h : (f_X3_isSupplier a0 a1).1 σ = some (r, σ9)) : xMet E l yX3_isSupplier (ws_ yX3_isSupplier cX3_isSupplier 2 (some .boolean)) 1 22 [.ref a0, .int a1] σ σ9 (some (.int r)) := by
  refine xstart (by decide +kernel) ((f_X3_isSupplier a0 a1).2 _ _ _ h) (Nat.le_of_ble_eq_true rfl) ?_
  intro p e s m args below meth c H locs cells slots ls R hX hI hl
  have hx := hX.1.1
  have hb := hX.1.2.1
  have hl : lv_has ls 2 [(0, .ref a0), (1, .int a1)] := hl
  generalize hσ0 : σ = σ0 at hX hI ⊢
  have h : (f_X3_isSupplier a0 a1).1 σ0 = some (r, σ9) := by rw [← hσ0]; exact h
  clear hσ0
  delta f_X3_isSupplier at h
  have h := (xck_bd h).2
  refine lv_iload_n hx hb dX3_isSupplier_0 rfl (lv_at hl 1 rfl) ?_
  refine lv_iconst (v := (0 : Int32)) hx hb dX3_isSupplier_1 (by decide) ?_
  refine lv_aload_n hx hb dX3_isSupplier_2 rfl (lv_at hl 0 rfl) ?_
  refine lv_iconst (v := (1 : Int32)) hx hb dX3_isSupplier_3 (by decide) ?_
  refine xr_callV (iv := (fun b => some (.int b))) (As := [.int (1 : Int32)]) (rest := [.int (0 : Int32), .int a1]) h hX hI (fun _ _ h => w_X3_at h) (fun _ _ h => o_X3_at h) rfl 1 (lw_V q2022 q2024 qs31 q87 q2025) ⟨rfl, xd_X3_at⟩ ⟨rfl, rfl⟩ rfl hl.1 (Nat.le_of_ble_eq_true rfl) dX3_isSupplier_4 (fun v3 H locs σ cells slots h hI => ?_)
  refine W.eq (g2 := F0 m 7 ls [.int v3, .int (0 : Int32), .int a1]) rfl ?_
  refine lv_iconst (v := (1 : Int32)) hx hb dX3_isSupplier_7 (by decide) ?_
  refine lv_isub hx hb dX3_isSupplier_8 ?_
  refine xr_callS (iv := (fun b => some (.int b))) (As := [.int a1, .int (0 : Int32), .int (v3 - (1 : Int32))]) (rest := []) h hX hI (fun _ _ h => w_X3_in h) 3 (lw_S q2043 q2044 q87 q2045) xd_X3_in ⟨rfl, rfl⟩ rfl hl.1 (Nat.le_of_ble_eq_true rfl) dX3_isSupplier_9 (fun v4 H locs σ cells slots h hI => ?_)
  refine W.eq (g2 := F0 m 12 ls [.int v4]) rfl ?_
  exact xr_zreturn h hX hI dX3_isSupplier_12
/-! PayMatchModel.isFrom(JD)Z  -/
theorem w_X3_isFrom {E : xE} {l : Launch} {a0 : Int64} {a2 : UInt64} {r : Int32} {σ σ9 : xS} (h : (f_X3_isFrom a0 a2).1 σ = some (r, σ9)) : xMet E l yX3_isFrom (ws_ yX3_isFrom cX3_isFrom 4 (some .boolean)) 1 60 [.long a0, .double a2] σ σ9 (some (.int r)) := by
  refine xstart (by decide +kernel) ((f_X3_isFrom a0 a2).2 _ _ _ h) (Nat.le_of_ble_eq_true rfl) ?_
  intro p e s m args below meth c H locs cells slots ls R hX hI hl
  have hx := hX.1.1
  have hb := hX.1.2.1
  have hl : lv_has ls 4 [(0, .long a0), (2, .double a2)] := hl
  generalize hσ0 : σ = σ0 at hX hI ⊢
  have h : (f_X3_isFrom a0 a2).1 σ0 = some (r, σ9) := by rw [← hσ0]; exact h
  clear hσ0
  delta f_X3_isFrom at h
  refine lv_lload_n hx hb dX3_isFrom_0 rfl (lv_at hl 0 rfl) ?_
  refine lv_lconst (v := (0 : Int64)) hx hb dX3_isFrom_1 (by decide) ?_
  refine W.lcmp hx hb dX3_isFrom_2 ?_
  refine lv_if_lt (tgt := 27) hx hb dX3_isFrom_3 (by decide) (fun hc => ?_) (fun hc => ?_)
  · have h := xif_t h hc
    refine lv_iconst (v := (0 : Int32)) hx hb dX3_isFrom_27 (by decide) ?_
    exact xr_zreturn h hX hI dX3_isFrom_28
  · have h := xif_f h hc
    refine lv_lload_n hx hb dX3_isFrom_6 rfl (lv_at hl 0 rfl) ?_
    refine lv_ldc2 (v := (9218868437227405312 : Int64)) hx hb hX.1.2.2.2.1 (hX.1.2.2.2.2 _ q2050) dX3_isFrom_7 ?_
    refine W.lcmp hx hb dX3_isFrom_10 ?_
    refine lv_if_gt (tgt := 27) hx hb dX3_isFrom_11 (by decide) (fun hc => ?_) (fun hc => ?_)
    · have h := xif_t h hc
      refine lv_iconst (v := (0 : Int32)) hx hb dX3_isFrom_27 (by decide) ?_
      exact xr_zreturn h hX hI dX3_isFrom_28
    · have h := xif_f h hc
      refine lv_lload_n hx hb dX3_isFrom_14 rfl (lv_at hl 0 rfl) ?_
      refine xr_l2d h hX q2051 q1240 q1239 q88 hl.1 ⟨rfl, rfl⟩ dX3_isFrom_15 (fun h => ?_)
      refine lv_dload_n hx hb dX3_isFrom_18 rfl (lv_at hl 1 rfl) ?_
      refine lv_dcmp hx hb dX3_isFrom_19 ?_
      refine lv_if_gt (tgt := 27) hx hb dX3_isFrom_20 (by decide) (fun hc => ?_) (fun hc => ?_)
      · have h := xif_t h hc
        refine lv_iconst (v := (0 : Int32)) hx hb dX3_isFrom_27 (by decide) ?_
        exact xr_zreturn h hX hI dX3_isFrom_28
      · have h := xif_f h hc
        refine lv_iconst (v := (1 : Int32)) hx hb dX3_isFrom_23 (by decide) ?_
        refine lv_goto (tgt := 28) hx hb dX3_isFrom_24 (by decide) ?_
        exact xr_zreturn h hX hI dX3_isFrom_28
/-! PayMatchModel.setTolerance(IZJ)I  -/
theorem w_X3_setTolerance_b37 {t0 : Int32} {t1 : Int32} {a0 : Nat} {a3 : Int64} {r : Int32} (hX : xX E R p m c cX3_setTolerance 6 s args RX3 "setTolerance" meth (some .int) 2 83 σ0 σ9)
    (h : (f_X3_setTolerance_b37 t0 t1 a0 a3).1 σ = some (r, σ9)) (hI : xI E σ0 σ s H locs cells slots) (hl : lv_has ls 6 [(0, .ref a0), (3, .long a3)]) : W p l e R s m args below meth c H locs cells slots (xMQ E below args s σ0 σ9 (some (.int r))) (F0 m 37 ls [.int t1, .int t0]) := by
  have hx := hX.1.1
  have hb := hX.1.2.1
  delta f_X3_setTolerance_b37 at h
  refine xr_callS (iv := (fun b => some (.int b))) (As := [.int t0, .int t1]) (rest := []) h hX hI (fun _ _ h => w_X3_ofSupplier h) 2 (lw_S q2026 q2027 q87 q2028) xd_X3_ofSupplier ⟨rfl, rfl⟩ rfl hl.1 (Nat.le_of_ble_eq_true rfl) dX3_setTolerance_37 (fun v8 H locs σ cells slots h hI => ?_)
  refine W.eq (g2 := F0 m 40 ls [.int v8]) rfl ?_
  refine lv_istore (lv' := [(5, .int v8), (0, .ref a0), (3, .long a3)]) hx hb dX3_setTolerance_40 hl (Nat.le_of_ble_eq_true rfl) rfl (fun ls hl => ?_)
  refine lv_aload_n hx hb dX3_setTolerance_42 rfl (lv_at hl 1 rfl) ?_
  refine xr_gN h hX hI xl_X3_13_3.g dX3_setTolerance_43 (fun v9 h => ?_)
  refine lv_iload hx hb dX3_setTolerance_46 (lv_at hl 0 rfl) ?_
  refine xr_ldL h hX hI dX3_setTolerance_48 (fun v10 h => ?_)
  refine lv_lload_n hx hb dX3_setTolerance_49 rfl (lv_at hl 2 rfl) ?_
  refine W.lcmp hx hb dX3_setTolerance_50 ?_
  refine lv_if_ne (tgt := 57) hx hb dX3_setTolerance_51 (by decide) (fun hc => ?_) (fun hc => ?_)
  · have h := xif_f h hc
    refine lv_aload_n hx hb dX3_setTolerance_57 rfl (lv_at hl 1 rfl) ?_
    refine xr_gN h hX hI xl_X3_13_3.g dX3_setTolerance_58 (fun v11 h => ?_)
    refine lv_iload hx hb dX3_setTolerance_61 (lv_at hl 0 rfl) ?_
    refine lv_lload_n hx hb dX3_setTolerance_63 rfl (lv_at hl 2 rfl) ?_
    refine xr_stL h hX hI dX3_setTolerance_64 (fun H locs σ h hI => ?_)
    refine lv_aload_n hx hb dX3_setTolerance_65 rfl (lv_at hl 1 rfl) ?_
    refine lv_iconst (v := (1 : Int32)) hx hb dX3_setTolerance_66 (by decide) ?_
    refine xr_callV (iv := (fun b => some (.int b))) (As := [.int (1 : Int32)]) (rest := []) h hX hI (fun _ _ h => w_X3_acted h) (fun _ _ h => o_X3_acted h) rfl 1 (lw_V q2031 q2033 qs32 q87 q2034) ⟨rfl, xd_X3_acted⟩ ⟨rfl, rfl⟩ rfl hl.1 (Nat.le_of_ble_eq_true rfl) dX3_setTolerance_67 (fun v12 H locs σ cells slots h hI => ?_)
    refine W.eq (g2 := F0 m 70 ls [.int v12]) rfl ?_
    exact xr_ireturn h hX hI dX3_setTolerance_70
  · have h := xif_t h hc
    refine lv_bipush (v := (-5 : Int32)) hx hb dX3_setTolerance_54 (by decide) ?_
    exact xr_ireturn h hX hI dX3_setTolerance_56
theorem o_X3_setTolerance {a0 : Nat} {a1 : Int32} {a2 : Int32} {a3 : Int64} {r : Int32} {σ σ9 : xS} (h : (f_X3_setTolerance a0 a1 a2 a3).1 σ = some (r, σ9)) : ∃ fs, σ.1 a0 = some (.inl (3, fs)) := xck_of h
theorem w_X3_setTolerance {E : xE} {l : Launch} {a0 : Nat} {a1 : Int32} {a2 : Int32} {a3 : Int64} {r : Int32} {σ σ9 : xS} (h : (f_X3_setTolerance a0 a1 a2 a3).1 σ = some (r, σ9)) : xMet E l yX3_setTolerance (ws_ yX3_setTolerance cX3_setTolerance 6 (some .int)) 2 83 [.ref a0, .int a1, .int a2, .long a3] σ σ9 (some (.int r)) := by
  refine xstart (by decide +kernel) ((f_X3_setTolerance a0 a1 a2 a3).2 _ _ _ h) (Nat.le_of_ble_eq_true rfl) ?_
  intro p e s m args below meth c H locs cells slots ls R hX hI hl
  have hx := hX.1.1
  have hb := hX.1.2.1
  have hl : lv_has ls 6 [(0, .ref a0), (1, .int a1), (2, .int a2), (3, .long a3)] := hl
  generalize hσ0 : σ = σ0 at hX hI ⊢
  have h : (f_X3_setTolerance a0 a1 a2 a3).1 σ0 = some (r, σ9) := by rw [← hσ0]; exact h
  clear hσ0
  delta f_X3_setTolerance at h
  have h := (xck_bd h).2
  refine lv_aload_n hx hb dX3_setTolerance_0 rfl (lv_at hl 0 rfl) ?_
  refine xr_callV (iv := (fun _ => none)) (As := []) (rest := []) h hX hI (fun _ _ h => w_X3_aside h) (fun _ _ h => o_X3_aside h) rfl 0 (lw_V q2018 q2020 qs30 q87 q2021) ⟨rfl, xd_X3_aside⟩ ⟨rfl, rfl⟩ rfl hl.1 (Nat.le_of_ble_eq_true rfl) dX3_setTolerance_1 (fun _ H locs σ cells slots h hI => ?_)
  refine lv_aload_n hx hb dX3_setTolerance_4 rfl (lv_at hl 0 rfl) ?_
  refine lv_iload_n hx hb dX3_setTolerance_5 rfl (lv_at hl 1 rfl) ?_
  refine xr_callV (iv := (fun b => some (.int b))) (As := [.int a1]) (rest := []) h hX hI (fun _ _ h => w_X3_isSupplier h) (fun _ _ h => o_X3_isSupplier h) rfl 1 (lw_V q2039 q2041 qs33 q87 q2042) ⟨rfl, xd_X3_isSupplier⟩ ⟨rfl, rfl⟩ rfl hl.1 (Nat.le_of_ble_eq_true rfl) dX3_setTolerance_6 (fun v13 H locs σ cells slots h hI => ?_)
  refine W.eq (g2 := F0 m 9 ls [.int v13]) rfl ?_
  refine lv_if_ne (tgt := 14) hx hb dX3_setTolerance_9 (by decide) (fun hc => ?_) (fun hc => ?_)
  · have h := xif_f h hc
    refine lv_lload_n hx hb dX3_setTolerance_14 rfl (lv_at hl 3 rfl) ?_
    refine lv_ldc2d (v := (4632233691727265792 : UInt64)) hx hb hX.1.2.2.2.1 (hX.1.2.2.2.2 _ q2046) dX3_setTolerance_15 ?_
    refine xr_callS (iv := (fun b => some (.int b))) (As := [.long a3, .double (4632233691727265792 : UInt64)]) (rest := []) h hX hI (fun _ _ h => w_X3_isFrom h) 2 (lw_S q2047 q2048 q87 q2049) xd_X3_isFrom ⟨rfl, rfl⟩ rfl hl.1 (Nat.le_of_ble_eq_true rfl) dX3_setTolerance_18 (fun v14 H locs σ cells slots h hI => ?_)
    refine W.eq (g2 := F0 m 21 ls [.int v14]) rfl ?_
    refine lv_if_ne (tgt := 27) hx hb dX3_setTolerance_21 (by decide) (fun hc => ?_) (fun hc => ?_)
    · have h := xif_f h hc
      refine lv_iload_n hx hb dX3_setTolerance_27 rfl (lv_at hl 1 rfl) ?_
      refine lv_iload_n hx hb dX3_setTolerance_28 rfl (lv_at hl 2 rfl) ?_
      refine lv_if_eq (tgt := 36) hx hb dX3_setTolerance_29 (by decide) (fun hc => ?_) (fun hc => ?_)
      · have h := xif_t h hc
        refine lv_iconst (v := (0 : Int32)) hx hb dX3_setTolerance_36 (by decide) ?_
        exact w_X3_setTolerance_b37 hX h hI (lv_sub hl [0, 3] rfl)
      · have h := xif_f h hc
        refine lv_iconst (v := (1 : Int32)) hx hb dX3_setTolerance_32 (by decide) ?_
        refine lv_goto (tgt := 37) hx hb dX3_setTolerance_33 (by decide) ?_
        exact w_X3_setTolerance_b37 hX h hI (lv_sub hl [0, 3] rfl)
    · have h := xif_t h hc
      refine lv_bipush (v := (-2 : Int32)) hx hb dX3_setTolerance_24 (by decide) ?_
      exact xr_ireturn h hX hI dX3_setTolerance_26
  · have h := xif_t h hc
    refine lv_iconst (v := (-1 : Int32)) hx hb dX3_setTolerance_12 (by decide) ?_
    exact xr_ireturn h hX hI dX3_setTolerance_13
/-! PayMatch.setTrifle(II)I  -/
theorem o_X0_setTrifle {a0 : Nat} {a1 : Int32} {a2 : Int32} {r : Int32} {σ σ9 : xS} (h : (f_X0_setTrifle a0 a1 a2).1 σ = some (r, σ9)) : ∃ fs, σ.1 a0 = some (.inl (0, fs)) := xck_of h
theorem w_X0_setTrifle {E : xE} {l : Launch} {a0 : Nat} {a1 : Int32} {a2 : Int32} {r : Int32} {σ σ9 : xS} (h : (f_X0_setTrifle a0 a1 a2).1 σ = some (r, σ9)) : xMet E l yX0_setTrifle (ws_ yX0_setTrifle cX0_setTrifle 5 (some .int)) 14 438 [.ref a0, .int a1, .int a2] σ σ9 (some (.int r)) := by
  refine xstart (by decide +kernel) ((f_X0_setTrifle a0 a1 a2).2 _ _ _ h) (Nat.le_of_ble_eq_true rfl) ?_
  intro p e s m args below meth c H locs cells slots ls R hX hI hl
  have hx := hX.1.1
  have hb := hX.1.2.1
  have hl : lv_has ls 5 [(0, .ref a0), (1, .int a1), (2, .int a2)] := hl
  generalize hσ0 : σ = σ0 at hX hI ⊢
  have h : (f_X0_setTrifle a0 a1 a2).1 σ0 = some (r, σ9) := by rw [← hσ0]; exact h
  clear hσ0
  delta f_X0_setTrifle at h
  have h := (xck_bd h).2
  refine lv_aload_n hx hb dX0_setTrifle_0 rfl (lv_at hl 0 rfl) ?_
  refine xr_gN h hX hI xl_X0_22_0.g dX0_setTrifle_1 (fun v14 h => ?_)
  refine xr_gN h hX hI xl_X0_60_1.g dX0_setTrifle_4 (fun v15 h => ?_)
  refine lv_iload_n hx hb dX0_setTrifle_7 rfl (lv_at hl 1 rfl) ?_
  refine xr_callV (iv := (fun b => some (.int b))) (As := [.int a1]) (rest := []) h hX hI (fun _ _ h => w_X2_has h) (fun _ _ h => o_X2_has h) rfl 1 (lw_V q1225 q1226 q1227 q76 q1228) ⟨rfl, xd_X2_has⟩ ⟨rfl, rfl⟩ rfl hl.1 (Nat.le_of_ble_eq_true rfl) dX0_setTrifle_8 (fun v16 H locs σ cells slots h hI => ?_)
  refine W.eq (g2 := F0 m 11 ls [.int v16]) rfl ?_
  refine lv_if_ne (tgt := 16) hx hb dX0_setTrifle_11 (by decide) (fun hc => ?_) (fun hc => ?_)
  · have h := xif_f h hc
    refine lv_iload_n hx hb dX0_setTrifle_16 rfl (lv_at hl 2 rfl) ?_
    refine lv_iconst (v := (0 : Int32)) hx hb dX0_setTrifle_17 (by decide) ?_
    refine lv_sipush (v := (9999 : Int32)) hx hb dX0_setTrifle_18 (by decide) ?_
    refine xr_callS (iv := (fun b => some (.int b))) (As := [.int a2, .int (0 : Int32), .int (9999 : Int32)]) (rest := []) h hX hI (fun _ _ h => w_X0_inRange h) 3 (lw_S q1267 q1230 q74 q1231) xd_X0_inRange ⟨rfl, rfl⟩ rfl hl.1 (Nat.le_of_ble_eq_true rfl) dX0_setTrifle_21 (fun v17 H locs σ cells slots h hI => ?_)
    refine W.eq (g2 := F0 m 24 ls [.int v17]) rfl ?_
    refine lv_if_ne (tgt := 30) hx hb dX0_setTrifle_24 (by decide) (fun hc => ?_) (fun hc => ?_)
    · have h := xif_f h hc
      refine lv_aload_n hx hb dX0_setTrifle_30 rfl (lv_at hl 0 rfl) ?_
      refine xr_gN h hX hI xl_X0_22_0.g dX0_setTrifle_31 (fun v18 h => ?_)
      refine xr_gN h hX hI xl_X0_60_1.g dX0_setTrifle_34 (fun v19 h => ?_)
      refine lv_iload_n hx hb dX0_setTrifle_37 rfl (lv_at hl 1 rfl) ?_
      refine xr_callV (iv := (fun b => some (.ref b))) (As := [.int a1]) (rest := []) h hX hI (fun _ _ h => w_X2_get h) (fun _ _ h => o_X2_get h) rfl 1 (lw_V q1249 q1250 q1251 q76 q1252) ⟨rfl, xd_X2_get⟩ ⟨rfl, rfl⟩ rfl hl.1 (Nat.le_of_ble_eq_true rfl) dX0_setTrifle_38 (fun v20 H locs σ cells slots h hI => ?_)
      refine W.eq (g2 := F0 m 41 ls [.ref v20]) rfl ?_
      refine xr_cks h hX hI xc_X0_71 dX0_setTrifle_41 (fun h => ?_)
      refine xr_gI h hX hI xl_X0_107_7.g dX0_setTrifle_44 (fun v21 h => ?_)
      refine lv_istore_n (lv' := [(3, .int v21), (0, .ref a0), (1, .int a1), (2, .int a2)]) hx hb dX0_setTrifle_47 rfl hl (Nat.le_of_ble_eq_true rfl) rfl (fun ls hl => ?_)
      refine lv_iload_n hx hb dX0_setTrifle_48 rfl (lv_at hl 0 rfl) ?_
      refine lv_iload_n hx hb dX0_setTrifle_49 rfl (lv_at hl 3 rfl) ?_
      refine lv_icmp_ne (tgt := 56) hx hb dX0_setTrifle_50 (by decide) (fun hc => ?_) (fun hc => ?_)
      · have h := xif_f h hc
        refine lv_aload_n hx hb dX0_setTrifle_56 rfl (lv_at hl 1 rfl) ?_
        refine xr_gN h hX hI xl_X0_22_0.g dX0_setTrifle_57 (fun v22 h => ?_)
        refine xr_callV (iv := (fun b => some (.ref b))) (As := []) (rest := []) h hX hI (fun _ _ h => w_X1_copy h) (fun _ _ h => o_X1_copy h) rfl 0 (lw_V q323 q324 q325 q75 q326) ⟨rfl, xd_X1_copy⟩ ⟨rfl, rfl⟩ rfl hl.1 (Nat.le_of_ble_eq_true rfl) dX0_setTrifle_60 (fun v23 H locs σ cells slots h hI => ?_)
        refine W.eq (g2 := F0 m 63 ls [.ref v23]) rfl ?_
        refine lv_astore (lv' := [(4, .ref v23), (3, .int v21), (0, .ref a0), (1, .int a1), (2, .int a2)]) hx hb dX0_setTrifle_63 hl (Nat.le_of_ble_eq_true rfl) rfl (fun ls hl => ?_)
        refine lv_aload hx hb dX0_setTrifle_65 (lv_at hl 0 rfl) ?_
        refine xr_gN h hX hI xl_X0_60_1.g dX0_setTrifle_67 (fun v24 h => ?_)
        refine lv_iload_n hx hb dX0_setTrifle_70 rfl (lv_at hl 3 rfl) ?_
        refine xr_callV (iv := (fun b => some (.ref b))) (As := [.int a1]) (rest := []) h hX hI (fun _ _ h => w_X2_get h) (fun _ _ h => o_X2_get h) rfl 1 (lw_V q1249 q1250 q1251 q76 q1252) ⟨rfl, xd_X2_get⟩ ⟨rfl, rfl⟩ rfl hl.1 (Nat.le_of_ble_eq_true rfl) dX0_setTrifle_71 (fun v25 H locs σ cells slots h hI => ?_)
        refine W.eq (g2 := F0 m 74 ls [.ref v25]) rfl ?_
        refine xr_cks h hX hI xc_X0_71 dX0_setTrifle_74 (fun h => ?_)
        refine lv_iload_n hx hb dX0_setTrifle_77 rfl (lv_at hl 4 rfl) ?_
        refine xr_pt h hX hI xl_X0_107_7 (Or.inl rfl) rfl rfl dX0_setTrifle_78 (fun H locs σ h hI => ?_)
        refine lv_aload_n hx hb dX0_setTrifle_81 rfl (lv_at hl 2 rfl) ?_
        refine lv_aload hx hb dX0_setTrifle_82 (lv_at hl 0 rfl) ?_
        refine lv_iload_n hx hb dX0_setTrifle_84 rfl (lv_at hl 1 rfl) ?_
        refine xr_callV (iv := (fun b => some (.int b))) (As := [.ref v23, .int v21]) (rest := []) h hX hI (fun _ _ h => w_X0_become h) (fun _ _ h => o_X0_become h) rfl 2 (lw_V q1182 q1184 qs9 q74 q1185) ⟨rfl, xd_X0_become⟩ ⟨rfl, rfl⟩ rfl hl.1 (Nat.le_of_ble_eq_true rfl) dX0_setTrifle_85 (fun v26 H locs σ cells slots h hI => ?_)
        refine W.eq (g2 := F0 m 88 ls [.int v26]) rfl ?_
        exact xr_ireturn h hX hI dX0_setTrifle_88
      · have h := xif_t h hc
        refine lv_bipush (v := (-5 : Int32)) hx hb dX0_setTrifle_53 (by decide) ?_
        exact xr_ireturn h hX hI dX0_setTrifle_55
    · have h := xif_t h hc
      refine lv_bipush (v := (-2 : Int32)) hx hb dX0_setTrifle_27 (by decide) ?_
      exact xr_ireturn h hX hI dX0_setTrifle_29
  · have h := xif_t h hc
    refine lv_iconst (v := (-1 : Int32)) hx hb dX0_setTrifle_14 (by decide) ?_
    exact xr_ireturn h hX hI dX0_setTrifle_15
/-! PayMatchModel.setTrifle(II)I  -/
theorem o_X3_setTrifle {a0 : Nat} {a1 : Int32} {a2 : Int32} {r : Int32} {σ σ9 : xS} (h : (f_X3_setTrifle a0 a1 a2).1 σ = some (r, σ9)) : ∃ fs, σ.1 a0 = some (.inl (3, fs)) := xck_of h
theorem w_X3_setTrifle {E : xE} {l : Launch} {a0 : Nat} {a1 : Int32} {a2 : Int32} {r : Int32} {σ σ9 : xS} (h : (f_X3_setTrifle a0 a1 a2).1 σ = some (r, σ9)) : xMet E l yX3_setTrifle (ws_ yX3_setTrifle cX3_setTrifle 4 (some .int)) 2 43 [.ref a0, .int a1, .int a2] σ σ9 (some (.int r)) := by
  refine xstart (by decide +kernel) ((f_X3_setTrifle a0 a1 a2).2 _ _ _ h) (Nat.le_of_ble_eq_true rfl) ?_
  intro p e s m args below meth c H locs cells slots ls R hX hI hl
  have hx := hX.1.1
  have hb := hX.1.2.1
  have hl : lv_has ls 4 [(0, .ref a0), (1, .int a1), (2, .int a2)] := hl
  generalize hσ0 : σ = σ0 at hX hI ⊢
  have h : (f_X3_setTrifle a0 a1 a2).1 σ0 = some (r, σ9) := by rw [← hσ0]; exact h
  clear hσ0
  delta f_X3_setTrifle at h
  have h := (xck_bd h).2
  refine lv_aload_n hx hb dX3_setTrifle_0 rfl (lv_at hl 0 rfl) ?_
  refine xr_callV (iv := (fun _ => none)) (As := []) (rest := []) h hX hI (fun _ _ h => w_X3_aside h) (fun _ _ h => o_X3_aside h) rfl 0 (lw_V q2018 q2020 qs30 q87 q2021) ⟨rfl, xd_X3_aside⟩ ⟨rfl, rfl⟩ rfl hl.1 (Nat.le_of_ble_eq_true rfl) dX3_setTrifle_1 (fun _ H locs σ cells slots h hI => ?_)
  refine lv_aload_n hx hb dX3_setTrifle_4 rfl (lv_at hl 0 rfl) ?_
  refine lv_iload_n hx hb dX3_setTrifle_5 rfl (lv_at hl 1 rfl) ?_
  refine xr_callV (iv := (fun b => some (.int b))) (As := [.int a1]) (rest := []) h hX hI (fun _ _ h => w_X3_isSupplier h) (fun _ _ h => o_X3_isSupplier h) rfl 1 (lw_V q2039 q2041 qs33 q87 q2042) ⟨rfl, xd_X3_isSupplier⟩ ⟨rfl, rfl⟩ rfl hl.1 (Nat.le_of_ble_eq_true rfl) dX3_setTrifle_6 (fun v8 H locs σ cells slots h hI => ?_)
  refine W.eq (g2 := F0 m 9 ls [.int v8]) rfl ?_
  refine lv_if_ne (tgt := 14) hx hb dX3_setTrifle_9 (by decide) (fun hc => ?_) (fun hc => ?_)
  · have h := xif_f h hc
    refine lv_iload_n hx hb dX3_setTrifle_14 rfl (lv_at hl 2 rfl) ?_
    refine lv_iconst (v := (0 : Int32)) hx hb dX3_setTrifle_15 (by decide) ?_
    refine lv_sipush (v := (9999 : Int32)) hx hb dX3_setTrifle_16 (by decide) ?_
    refine xr_callS (iv := (fun b => some (.int b))) (As := [.int a2, .int (0 : Int32), .int (9999 : Int32)]) (rest := []) h hX hI (fun _ _ h => w_X3_in h) 3 (lw_S q2043 q2044 q87 q2045) xd_X3_in ⟨rfl, rfl⟩ rfl hl.1 (Nat.le_of_ble_eq_true rfl) dX3_setTrifle_19 (fun v9 H locs σ cells slots h hI => ?_)
    refine W.eq (g2 := F0 m 22 ls [.int v9]) rfl ?_
    refine lv_if_ne (tgt := 28) hx hb dX3_setTrifle_22 (by decide) (fun hc => ?_) (fun hc => ?_)
    · have h := xif_f h hc
      refine lv_aload_n hx hb dX3_setTrifle_28 rfl (lv_at hl 0 rfl) ?_
      refine lv_iload_n hx hb dX3_setTrifle_29 rfl (lv_at hl 1 rfl) ?_
      refine lv_iconst (v := (2 : Int32)) hx hb dX3_setTrifle_30 (by decide) ?_
      refine xr_callS (iv := (fun b => some (.int b))) (As := [.int a1, .int (2 : Int32)]) (rest := [.ref a0]) h hX hI (fun _ _ h => w_X3_ofSupplier h) 2 (lw_S q2026 q2027 q87 q2028) xd_X3_ofSupplier ⟨rfl, rfl⟩ rfl hl.1 (Nat.le_of_ble_eq_true rfl) dX3_setTrifle_31 (fun v10 H locs σ cells slots h hI => ?_)
      refine W.eq (g2 := F0 m 34 ls [.int v10, .ref a0]) rfl ?_
      refine xr_callV (iv := (fun b => some (.int b))) (As := [.int v10]) (rest := []) h hX hI (fun _ _ h => w_X3_at h) (fun _ _ h => o_X3_at h) rfl 1 (lw_V q2022 q2024 qs31 q87 q2025) ⟨rfl, xd_X3_at⟩ ⟨rfl, rfl⟩ rfl hl.1 (Nat.le_of_ble_eq_true rfl) dX3_setTrifle_34 (fun v11 H locs σ cells slots h hI => ?_)
      refine W.eq (g2 := F0 m 37 ls [.int v11]) rfl ?_
      refine lv_istore_n (lv' := [(3, .int v11), (0, .ref a0), (1, .int a1), (2, .int a2)]) hx hb dX3_setTrifle_37 rfl hl (Nat.le_of_ble_eq_true rfl) rfl (fun ls hl => ?_)
      refine lv_iload_n hx hb dX3_setTrifle_38 rfl (lv_at hl 0 rfl) ?_
      refine lv_iload_n hx hb dX3_setTrifle_39 rfl (lv_at hl 3 rfl) ?_
      refine lv_icmp_ne (tgt := 46) hx hb dX3_setTrifle_40 (by decide) (fun hc => ?_) (fun hc => ?_)
      · have h := xif_f h hc
        refine lv_aload_n hx hb dX3_setTrifle_46 rfl (lv_at hl 1 rfl) ?_
        refine xr_gN h hX hI xl_X3_13_3.g dX3_setTrifle_47 (fun v12 h => ?_)
        refine lv_iload_n hx hb dX3_setTrifle_50 rfl (lv_at hl 2 rfl) ?_
        refine lv_iconst (v := (2 : Int32)) hx hb dX3_setTrifle_51 (by decide) ?_
        refine xr_callS (iv := (fun b => some (.int b))) (As := [.int a1, .int (2 : Int32)]) (rest := [.ref v12]) h hX hI (fun _ _ h => w_X3_ofSupplier h) 2 (lw_S q2026 q2027 q87 q2028) xd_X3_ofSupplier ⟨rfl, rfl⟩ rfl hl.1 (Nat.le_of_ble_eq_true rfl) dX3_setTrifle_52 (fun v13 H locs σ cells slots h hI => ?_)
        refine W.eq (g2 := F0 m 55 ls [.int v13, .ref v12]) rfl ?_
        refine lv_iload_n hx hb dX3_setTrifle_55 rfl (lv_at hl 3 rfl) ?_
        refine lv_i2l hx hb dX3_setTrifle_56 rfl ?_
        refine xr_stL h hX hI dX3_setTrifle_57 (fun H locs σ h hI => ?_)
        refine lv_aload_n hx hb dX3_setTrifle_58 rfl (lv_at hl 1 rfl) ?_
        refine lv_iload_n hx hb dX3_setTrifle_59 rfl (lv_at hl 0 rfl) ?_
        refine xr_callV (iv := (fun b => some (.int b))) (As := [.int v11]) (rest := []) h hX hI (fun _ _ h => w_X3_acted h) (fun _ _ h => o_X3_acted h) rfl 1 (lw_V q2031 q2033 qs32 q87 q2034) ⟨rfl, xd_X3_acted⟩ ⟨rfl, rfl⟩ rfl hl.1 (Nat.le_of_ble_eq_true rfl) dX3_setTrifle_60 (fun v14 H locs σ cells slots h hI => ?_)
        refine W.eq (g2 := F0 m 63 ls [.int v14]) rfl ?_
        exact xr_ireturn h hX hI dX3_setTrifle_63
      · have h := xif_t h hc
        refine lv_bipush (v := (-5 : Int32)) hx hb dX3_setTrifle_43 (by decide) ?_
        exact xr_ireturn h hX hI dX3_setTrifle_45
    · have h := xif_t h hc
      refine lv_bipush (v := (-2 : Int32)) hx hb dX3_setTrifle_25 (by decide) ?_
      exact xr_ireturn h hX hI dX3_setTrifle_27
  · have h := xif_t h hc
    refine lv_iconst (v := (-1 : Int32)) hx hb dX3_setTrifle_12 (by decide) ?_
    exact xr_ireturn h hX hI dX3_setTrifle_13
/-! PayMatch$Book.iterator()Ljava/util/Iterator;  -/
theorem o_X2_iterator {a0 : Nat} {r : Nat} {σ σ9 : xS} (h : (f_X2_iterator a0).1 σ = some (r, σ9)) : ∃ fs, σ.1 a0 = some (.inl (2, fs)) := xck_of h
theorem w_X2_iterator {E : xE} {l : Launch} {a0 : Nat} {r : Nat} {σ σ9 : xS} (h : (f_X2_iterator a0).1 σ = some (r, σ9)) : xMet E l yX2_iterator (ws_ yX2_iterator cX2_iterator 1 (some (.object "java/util/Iterator"))) 3 101 [.ref a0] σ σ9 (some (.ref r)) := by
  refine xstart (by decide +kernel) ((f_X2_iterator a0).2 _ _ _ h) (Nat.le_of_ble_eq_true rfl) ?_
  intro p e s m args below meth c H locs cells slots ls R hX hI hl
  have hx := hX.1.1
  have hb := hX.1.2.1
  have hl : lv_has ls 1 [(0, .ref a0)] := hl
  generalize hσ0 : σ = σ0 at hX hI ⊢
  have h : (f_X2_iterator a0).1 σ0 = some (r, σ9) := by rw [← hσ0]; exact h
  clear hσ0
  delta f_X2_iterator at h
  have h := (xck_bd h).2
  refine lv_aload_n hx hb dX2_iterator_0 rfl (lv_at hl 0 rfl) ?_
  refine xr_gN h hX hI xl_X2_10_2.g dX2_iterator_1 (fun v3 h => ?_)
  refine xr_callF (iv := (fun b => some (.ref b))) (As := []) (rest := []) h hX hI (fun _ _ h => w_J2_iterator h) (fun _ _ h => o_J2_iterator h) rfl 0 xfw_2 q336 q339 q341 q79 q343 xdi_2 ⟨rfl, rfl⟩ rfl hl.1 (Nat.le_of_ble_eq_true rfl) dX2_iterator_4 (fun v4 H locs σ cells slots h hI => ?_)
  refine W.eq (g2 := F0 m 9 ls [.ref v4]) rfl ?_
  exact xr_areturn h hX hI (Or.inl ⟨_, rfl⟩) dX2_iterator_9
/-! PayMatch$State.invoicesOf(IZ)I  -/
theorem w_X1_invoicesOf_b83 {rec11 : Nat → Int32 → Int32 → Int32 → Nat → xM Int32} {t0 : Int32} {t1 : Int32} {a0 : Nat} {a1 : Int32} {a2 : Int32} {a4 : Nat} {r : Int32} (hX : xX E R p m c cX1_invoicesOf 6 s args RX1 "invoicesOf" meth (some .int) 4 121 σ0 σ9) (hrec11 : ∀ (a0 : Nat) (a1 : Int32) (a2 : Int32) (a3 : Int32) (a4 : Nat) (σ : xS) (H : Heap) (locs : List Loc) (cells slots : Nat) (ls : Array Slot), (rec11 a0 a1 a2 a3 a4).1 σ = some (r, σ9) → xI E σ0 σ s H locs cells slots → lv_has ls 6 [(0, .ref a0), (1, .int a1), (2, .int a2), (3, .int a3), (4, .ref a4)] → W p l e R s m args below meth c H locs cells slots (xMQ E below args s σ0 σ9 (some (.int r))) (F0 m 11 ls []))
    (h : (f_X1_invoicesOf_b83 rec11 t0 t1 a0 a1 a2 a4).1 σ = some (r, σ9)) (hI : xI E σ0 σ s H locs cells slots) (hl : lv_has ls 6 [(0, .ref a0), (1, .int a1), (2, .int a2), (4, .ref a4)]) : W p l e R s m args below meth c H locs cells slots (xMQ E below args s σ0 σ9 (some (.int r))) (F0 m 83 ls [.int t1, .int t0]) := by
  have hx := hX.1.1
  have hb := hX.1.2.1
  delta f_X1_invoicesOf_b83 at h
  refine lv_iadd hx hb dX1_invoicesOf_83 ?_
  refine lv_istore_n (lv' := [(3, .int (t0 + t1)), (0, .ref a0), (1, .int a1), (2, .int a2), (4, .ref a4)]) hx hb dX1_invoicesOf_84 rfl hl (Nat.le_of_ble_eq_true rfl) rfl (fun ls hl => ?_)
  refine lv_goto (tgt := 11) hx hb dX1_invoicesOf_85 (by decide) ?_
  exact hrec11 a0 a1 a2 (t0 + t1) a4 _ _ _ _ _ _ h hI (lv_sub hl [1, 2, 3, 0, 4] rfl)
theorem w_X1_invoicesOf_b78 {rec11 : Nat → Int32 → Int32 → Int32 → Nat → xM Int32} {t0 : Int32} {a0 : Nat} {a1 : Int32} {a2 : Int32} {a4 : Nat} {r : Int32} (hX : xX E R p m c cX1_invoicesOf 6 s args RX1 "invoicesOf" meth (some .int) 4 121 σ0 σ9) (hrec11 : ∀ (a0 : Nat) (a1 : Int32) (a2 : Int32) (a3 : Int32) (a4 : Nat) (σ : xS) (H : Heap) (locs : List Loc) (cells slots : Nat) (ls : Array Slot), (rec11 a0 a1 a2 a3 a4).1 σ = some (r, σ9) → xI E σ0 σ s H locs cells slots → lv_has ls 6 [(0, .ref a0), (1, .int a1), (2, .int a2), (3, .int a3), (4, .ref a4)] → W p l e R s m args below meth c H locs cells slots (xMQ E below args s σ0 σ9 (some (.int r))) (F0 m 11 ls []))
    (h : (f_X1_invoicesOf_b78 rec11 t0 a0 a1 a2 a4).1 σ = some (r, σ9)) (hI : xI E σ0 σ s H locs cells slots) (hl : lv_has ls 6 [(0, .ref a0), (1, .int a1), (2, .int a2), (4, .ref a4)]) : W p l e R s m args below meth c H locs cells slots (xMQ E below args s σ0 σ9 (some (.int r))) (F0 m 78 ls [.int t0]) := by
  have hx := hX.1.1
  have hb := hX.1.2.1
  delta f_X1_invoicesOf_b78 at h
  refine lv_iconst (v := (1 : Int32)) hx hb dX1_invoicesOf_78 (by decide) ?_
  refine lv_goto (tgt := 83) hx hb dX1_invoicesOf_79 (by decide) ?_
  exact w_X1_invoicesOf_b83 hX hrec11 h hI (lv_sub hl [0, 1, 2, 3] rfl)
theorem w_X1_invoicesOf_b82 {rec11 : Nat → Int32 → Int32 → Int32 → Nat → xM Int32} {t0 : Int32} {a0 : Nat} {a1 : Int32} {a2 : Int32} {a4 : Nat} {r : Int32} (hX : xX E R p m c cX1_invoicesOf 6 s args RX1 "invoicesOf" meth (some .int) 4 121 σ0 σ9) (hrec11 : ∀ (a0 : Nat) (a1 : Int32) (a2 : Int32) (a3 : Int32) (a4 : Nat) (σ : xS) (H : Heap) (locs : List Loc) (cells slots : Nat) (ls : Array Slot), (rec11 a0 a1 a2 a3 a4).1 σ = some (r, σ9) → xI E σ0 σ s H locs cells slots → lv_has ls 6 [(0, .ref a0), (1, .int a1), (2, .int a2), (3, .int a3), (4, .ref a4)] → W p l e R s m args below meth c H locs cells slots (xMQ E below args s σ0 σ9 (some (.int r))) (F0 m 11 ls []))
    (h : (f_X1_invoicesOf_b82 rec11 t0 a0 a1 a2 a4).1 σ = some (r, σ9)) (hI : xI E σ0 σ s H locs cells slots) (hl : lv_has ls 6 [(0, .ref a0), (1, .int a1), (2, .int a2), (4, .ref a4)]) : W p l e R s m args below meth c H locs cells slots (xMQ E below args s σ0 σ9 (some (.int r))) (F0 m 82 ls [.int t0]) := by
  have hx := hX.1.1
  have hb := hX.1.2.1
  delta f_X1_invoicesOf_b82 at h
  refine lv_iconst (v := (0 : Int32)) hx hb dX1_invoicesOf_82 (by decide) ?_
  exact w_X1_invoicesOf_b83 hX hrec11 h hI (lv_sub hl [0, 1, 2, 3] rfl)
theorem w_X1_invoicesOf_b11 {rec11 : Nat → Int32 → Int32 → Int32 → Nat → xM Int32} {a0 : Nat} {a1 : Int32} {a2 : Int32} {a3 : Int32} {a4 : Nat} {r : Int32} (hX : xX E R p m c cX1_invoicesOf 6 s args RX1 "invoicesOf" meth (some .int) 4 121 σ0 σ9) (hrec11 : ∀ (a0 : Nat) (a1 : Int32) (a2 : Int32) (a3 : Int32) (a4 : Nat) (σ : xS) (H : Heap) (locs : List Loc) (cells slots : Nat) (ls : Array Slot), (rec11 a0 a1 a2 a3 a4).1 σ = some (r, σ9) → xI E σ0 σ s H locs cells slots → lv_has ls 6 [(0, .ref a0), (1, .int a1), (2, .int a2), (3, .int a3), (4, .ref a4)] → W p l e R s m args below meth c H locs cells slots (xMQ E below args s σ0 σ9 (some (.int r))) (F0 m 11 ls []))
    (h : (f_X1_invoicesOf_b11 rec11 a0 a1 a2 a3 a4).1 σ = some (r, σ9)) (hI : xI E σ0 σ s H locs cells slots) (hl : lv_has ls 6 [(0, .ref a0), (1, .int a1), (2, .int a2), (3, .int a3), (4, .ref a4)]) : W p l e R s m args below meth c H locs cells slots (xMQ E below args s σ0 σ9 (some (.int r))) (F0 m 11 ls []) := by
  have hx := hX.1.1
  have hb := hX.1.2.1
  delta f_X1_invoicesOf_b11 at h
  refine lv_aload hx hb dX1_invoicesOf_11 (lv_at hl 4 rfl) ?_
  refine xr_callF (iv := (fun b => some (.int b))) (As := []) (rest := []) h hX hI (fun _ _ h => w_J10_hasNext h) (fun _ _ h => o_J10_hasNext h) rfl 0 xfw_4 q1168 q460 q462 q89 q464 xdi_4 ⟨rfl, rfl⟩ rfl hl.1 (Nat.le_of_ble_eq_true rfl) dX1_invoicesOf_13 (fun v11 H locs σ cells slots h hI => ?_)
  refine W.eq (g2 := F0 m 18 ls [.int v11]) rfl ?_
  refine lv_if_eq (tgt := 88) hx hb dX1_invoicesOf_18 (by decide) (fun hc => ?_) (fun hc => ?_)
  · have h := xif_t h hc
    refine lv_iload_n hx hb dX1_invoicesOf_88 rfl (lv_at hl 3 rfl) ?_
    exact xr_ireturn h hX hI dX1_invoicesOf_89
  · have h := xif_f h hc
    refine lv_aload hx hb dX1_invoicesOf_21 (lv_at hl 4 rfl) ?_
    refine xr_callF (iv := (fun b => some (.ref b))) (As := []) (rest := []) h hX hI (fun _ _ h => w_J10_next h) (fun _ _ h => o_J10_next h) rfl 0 xfw_6 q1170 q828 q830 q89 q832 xdi_6 ⟨rfl, rfl⟩ rfl hl.1 (Nat.le_of_ble_eq_true rfl) dX1_invoicesOf_23 (fun v12 H locs σ cells slots h hI => ?_)
    refine W.eq (g2 := F0 m 28 ls [.ref v12]) rfl ?_
    refine xr_cks h hX hI xc_X1_109 dX1_invoicesOf_28 (fun h => ?_)
    refine lv_astore (lv' := [(5, .ref v12), (0, .ref a0), (1, .int a1), (2, .int a2), (3, .int a3), (4, .ref a4)]) hx hb dX1_invoicesOf_31 hl (Nat.le_of_ble_eq_true rfl) rfl (fun ls hl => ?_)
    refine lv_iload_n hx hb dX1_invoicesOf_33 rfl (lv_at hl 4 rfl) ?_
    refine lv_aload_n hx hb dX1_invoicesOf_34 rfl (lv_at hl 1 rfl) ?_
    refine xr_gN h hX hI xl_X1_18_1.g dX1_invoicesOf_35 (fun v13 h => ?_)
    refine lv_aload hx hb dX1_invoicesOf_38 (lv_at hl 0 rfl) ?_
    refine xr_gI h hX hI xl_X1_108_4 dX1_invoicesOf_40 (fun v14 h => ?_)
    refine xr_callV (iv := (fun b => some (.ref b))) (As := [.int v14]) (rest := [.int a3]) h hX hI (fun _ _ h => w_X2_get h) (fun _ _ h => o_X2_get h) rfl 1 (lw_V q1281 q1250 q1251 q76 q1252) ⟨rfl, xd_X2_get⟩ ⟨rfl, rfl⟩ rfl hl.1 (Nat.le_of_ble_eq_true rfl) dX1_invoicesOf_43 (fun v15 H locs σ cells slots h hI => ?_)
    refine W.eq (g2 := F0 m 46 ls [.ref v15, .int a3]) rfl ?_
    refine xr_cks h hX hI xc_X1_92 dX1_invoicesOf_46 (fun h => ?_)
    refine xr_gI h hX hI xl_X1_94_6 dX1_invoicesOf_49 (fun v16 h => ?_)
    refine lv_iload_n hx hb dX1_invoicesOf_52 rfl (lv_at hl 2 rfl) ?_
    refine lv_icmp_ne (tgt := 82) hx hb dX1_invoicesOf_53 (by decide) (fun hc => ?_) (fun hc => ?_)
    · have h := xif_f h hc
      exact w_X1_invoicesOf_b82 hX hrec11 h hI (lv_sub hl [1, 2, 3, 5] rfl)
    · have h := xif_t h hc
      refine lv_iload_n hx hb dX1_invoicesOf_56 rfl (lv_at hl 3 rfl) ?_
      refine lv_if_ne (tgt := 78) hx hb dX1_invoicesOf_57 (by decide) (fun hc => ?_) (fun hc => ?_)
      · have h := xif_f h hc
        exact w_X1_invoicesOf_b78 hX hrec11 h hI (lv_sub hl [1, 2, 3, 5] rfl)
      · have h := xif_t h hc
        refine lv_aload hx hb dX1_invoicesOf_60 (lv_at hl 0 rfl) ?_
        refine xr_gI h hX hI xl_X1_168_4.g dX1_invoicesOf_62 (fun v17 h => ?_)
        refine lv_iconst (v := (3 : Int32)) hx hb dX1_invoicesOf_65 (by decide) ?_
        refine lv_icmp_eq (tgt := 82) hx hb dX1_invoicesOf_66 (by decide) (fun hc => ?_) (fun hc => ?_)
        · have h := xif_t h hc
          exact w_X1_invoicesOf_b82 hX hrec11 h hI (lv_sub hl [1, 2, 3, 5] rfl)
        · have h := xif_f h hc
          refine lv_aload hx hb dX1_invoicesOf_69 (lv_at hl 0 rfl) ?_
          refine xr_gI h hX hI xl_X1_168_4.g dX1_invoicesOf_71 (fun v18 h => ?_)
          refine lv_iconst (v := (4 : Int32)) hx hb dX1_invoicesOf_74 (by decide) ?_
          refine lv_icmp_eq (tgt := 82) hx hb dX1_invoicesOf_75 (by decide) (fun hc => ?_) (fun hc => ?_)
          · have h := xif_t h hc
            exact w_X1_invoicesOf_b82 hX hrec11 h hI (lv_sub hl [1, 2, 3, 5] rfl)
          · have h := xif_f h hc
            exact w_X1_invoicesOf_b78 hX hrec11 h hI (lv_sub hl [1, 2, 3, 5] rfl)
theorem w_X1_invoicesOf_L11 {r : Int32} (hX : xX E R p m c cX1_invoicesOf 6 s args RX1 "invoicesOf" meth (some .int) 4 121 σ0 σ9) : ∀ (n : Nat) (a0 : Nat) (a1 : Int32) (a2 : Int32) (a3 : Int32) (a4 : Nat) (σ : xS) (H : Heap) (locs : List Loc) (cells slots : Nat) (ls : Array Slot), (f_X1_invoicesOf_L11 n a0 a1 a2 a3 a4).1 σ = some (r, σ9) → xI E σ0 σ s H locs cells slots → lv_has ls 6 [(0, .ref a0), (1, .int a1), (2, .int a2), (3, .int a3), (4, .ref a4)] → W p l e R s m args below meth c H locs cells slots (xMQ E below args s σ0 σ9 (some (.int r))) (F0 m 11 ls []) := by
  intro n
  induction n with
  | zero =>
    intro a0 a1 a2 a3 a4 σ H locs cells slots ls h
    exact xr_no h
  | succ n ih =>
    intro a0 a1 a2 a3 a4 σ H locs cells slots ls h hI hl
    exact w_X1_invoicesOf_b11 hX ih h hI hl
theorem o_X1_invoicesOf {a0 : Nat} {a1 : Int32} {a2 : Int32} {r : Int32} {σ σ9 : xS} (h : (f_X1_invoicesOf a0 a1 a2).1 σ = some (r, σ9)) : ∃ fs, σ.1 a0 = some (.inl (1, fs)) := xck_of h
theorem w_X1_invoicesOf {E : xE} {l : Launch} {a0 : Nat} {a1 : Int32} {a2 : Int32} {r : Int32} {σ σ9 : xS} (h : (f_X1_invoicesOf a0 a1 a2).1 σ = some (r, σ9)) : xMet E l yX1_invoicesOf (ws_ yX1_invoicesOf cX1_invoicesOf 6 (some .int)) 4 121 [.ref a0, .int a1, .int a2] σ σ9 (some (.int r)) := by
  refine xstart (by decide +kernel) ((f_X1_invoicesOf a0 a1 a2).2 _ _ _ h) (Nat.le_of_ble_eq_true rfl) ?_
  intro p e s m args below meth c H locs cells slots ls R hX hI hl
  have hx := hX.1.1
  have hb := hX.1.2.1
  have hl : lv_has ls 6 [(0, .ref a0), (1, .int a1), (2, .int a2)] := hl
  generalize hσ0 : σ = σ0 at hX hI ⊢
  have h : (f_X1_invoicesOf a0 a1 a2).1 σ0 = some (r, σ9) := by rw [← hσ0]; exact h
  clear hσ0
  delta f_X1_invoicesOf at h
  have h := (xck_bd h).2
  refine lv_iconst (v := (0 : Int32)) hx hb dX1_invoicesOf_0 (by decide) ?_
  refine lv_istore_n (lv' := [(3, .int (0 : Int32)), (0, .ref a0), (1, .int a1), (2, .int a2)]) hx hb dX1_invoicesOf_1 rfl hl (Nat.le_of_ble_eq_true rfl) rfl (fun ls hl => ?_)
  refine lv_aload_n hx hb dX1_invoicesOf_2 rfl (lv_at hl 1 rfl) ?_
  refine xr_gN h hX hI xl_X1_21_1.g dX1_invoicesOf_3 (fun v19 h => ?_)
  refine xr_callV (iv := (fun b => some (.ref b))) (As := []) (rest := []) h hX hI (fun _ _ h => w_X2_iterator h) (fun _ _ h => o_X2_iterator h) rfl 0 (lw_V q1276 q1277 q1278 q76 q1279) ⟨rfl, xd_X2_iterator⟩ ⟨rfl, rfl⟩ rfl hl.1 (Nat.le_of_ble_eq_true rfl) dX1_invoicesOf_6 (fun v20 H locs σ cells slots h hI => ?_)
  refine W.eq (g2 := F0 m 9 ls [.ref v20]) rfl ?_
  refine lv_astore (lv' := [(4, .ref v20), (3, .int (0 : Int32)), (0, .ref a0), (1, .int a1), (2, .int a2)]) hx hb dX1_invoicesOf_9 hl (Nat.le_of_ble_eq_true rfl) rfl (fun ls hl => ?_)
  exact w_X1_invoicesOf_L11 hX xFU a0 a1 a2 (0 : Int32) v20 _ _ _ _ _ _ h hI (lv_sub hl [2, 3, 4, 1, 0] rfl)
end
