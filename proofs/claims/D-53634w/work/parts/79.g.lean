/-! walks, printed by gen.py -/
set_option maxRecDepth 100000
section
variable {E : xE} {p : Program} {l : Launch} {e : Env} {R : Room} {s : State} {m : MethodId} {args : Array Value} {below : List Frame} {meth : Method} {c : Code} {H : Heap} {locs : List Loc} {cells slots : Nat} {ls : Array Slot} {σ0 σ σ9 : xS}
/-! PayMatchModel.type(C)I  -/
theorem o_X3_type {a0 : Nat} {a1 : Int32} {r : Int32} {σ σ9 : xS} (h : (f_X3_type a0 a1).1 σ = some (r, σ9)) : ∃ fs, σ.1 a0 = some (.inl (3, fs)) := xck_of h
theorem w_X3_type {E : xE} {l : Launch} {a0 : Nat} {a1 : Int32} {r : Int32} {σ σ9 : xS} (h : (f_X3_type a0 a1).1 σ = some (r, σ9)) : xMet E l yX3_type (ws_ yX3_type cX3_type 2 (some .int)) 0 0 [.ref a0, .int a1] σ σ9 (some (.int r)) := by
  refine xstart (by decide +kernel) ((f_X3_type a0 a1).2 _ _ _ h) (Nat.le_of_ble_eq_true rfl) ?_
  intro p e s m args below meth c H locs cells slots ls R hX hI hl
  have hx := hX.1.1
  have hb := hX.1.2.1
  have hl : lv_has ls 2 [(0, .ref a0), (1, .int a1)] := hl
  generalize hσ0 : σ = σ0 at hX hI ⊢
  have h : (f_X3_type a0 a1).1 σ0 = some (r, σ9) := by rw [← hσ0]; exact h
  clear hσ0
  delta f_X3_type at h
  have h := (xck_bd h).2
  refine lv_aload_n hx hb dX3_type_0 rfl (lv_at hl 0 rfl) ?_
  refine lv_iconst (v := (0 : Int32)) hx hb dX3_type_1 (by decide) ?_
  refine xr_pt h hX hI xl_X3_1_3 (Or.inl rfl) rfl rfl dX3_type_2 (fun H locs σ h hI => ?_)
  refine lv_aload_n hx hb dX3_type_5 rfl (lv_at hl 0 rfl) ?_
  refine xr_gI h hX hI xl_X3_198_3.g dX3_type_6 (fun v6 h => ?_)
  refine lv_bipush (v := (60 : Int32)) hx hb dX3_type_9 (by decide) ?_
  refine lv_icmp_ne (tgt := 17) hx hb dX3_type_11 (by decide) (fun hc => ?_) (fun hc => ?_)
  · have h := xif_f h hc
    refine lv_aload_n hx hb dX3_type_17 rfl (lv_at hl 0 rfl) ?_
    refine xr_gN h hX hI xl_X3_26_3.g dX3_type_18 (fun v7 h => ?_)
    refine lv_aload_n hx hb dX3_type_21 rfl (lv_at hl 0 rfl) ?_
    refine xr_gI h hX hI xl_X3_198_3.g dX3_type_22 (fun v8 h => ?_)
    refine lv_iload_n hx hb dX3_type_25 rfl (lv_at hl 1 rfl) ?_
    refine xr_stI h hX hI dX3_type_26 (fun H locs σ h hI => ?_)
    refine lv_aload_n hx hb dX3_type_27 rfl (lv_at hl 0 rfl) ?_
    refine lv_dup hx hb dX3_type_28 rfl ?_
    refine xr_gI h hX hI xl_X3_198_3.g dX3_type_29 (fun v9 h => ?_)
    refine lv_iconst (v := (1 : Int32)) hx hb dX3_type_32 (by decide) ?_
    refine lv_iadd hx hb dX3_type_33 ?_
    refine xr_pt h hX hI xl_X3_198_3 (Or.inl rfl) rfl rfl dX3_type_34 (fun H locs σ h hI => ?_)
    refine lv_aload_n hx hb dX3_type_37 rfl (lv_at hl 0 rfl) ?_
    refine xr_gI h hX hI xl_X3_198_3.g dX3_type_38 (fun v10 h => ?_)
    exact xr_ireturn h hX hI dX3_type_41
  · have h := xif_t h hc
    refine lv_bipush (v := (-3 : Int32)) hx hb dX3_type_14 (by decide) ?_
    exact xr_ireturn h hX hI dX3_type_16
/-! java/util/Arrays.rangeCheck(III)V  -/
theorem w_J22_rangeCheck {E : xE} {l : Launch} {a0 : Int32} {a1 : Int32} {a2 : Int32} {r : Unit} {σ σ9 : xS} (h : (f_J22_rangeCheck a0 a1 a2).1 σ = some (r, σ9)) : xMet E l yJ22_rangeCheck (ws_ yJ22_rangeCheck cJ22_rangeCheck 3 none) 0 0 [.int a0, .int a1, .int a2] σ σ9 none := by
  refine xstart (by decide +kernel) ((f_J22_rangeCheck a0 a1 a2).2 _ _ _ h) (Nat.le_of_ble_eq_true rfl) ?_
  intro p e s m args below meth c H locs cells slots ls R hX hI hl
  have hx := hX.1.1
  have hb := hX.1.2.1
  have hl : lv_has ls 3 [(0, .int a0), (1, .int a1), (2, .int a2)] := hl
  generalize hσ0 : σ = σ0 at hX hI ⊢
  have h : (f_J22_rangeCheck a0 a1 a2).1 σ0 = some (r, σ9) := by rw [← hσ0]; exact h
  clear hσ0
  delta f_J22_rangeCheck at h
  refine lv_iload_n hx hb dJ22_rangeCheck_0 rfl (lv_at hl 1 rfl) ?_
  refine lv_iload_n hx hb dJ22_rangeCheck_1 rfl (lv_at hl 2 rfl) ?_
  refine lv_icmp_le (tgt := 46) hx hb dJ22_rangeCheck_2 (by decide) (fun hc => ?_) (fun hc => ?_)
  · have h := xif_t h hc
    refine lv_iload_n hx hb dJ22_rangeCheck_46 rfl (lv_at hl 1 rfl) ?_
    refine lv_if_ge (tgt := 59) hx hb dJ22_rangeCheck_47 (by decide) (fun hc => ?_) (fun hc => ?_)
    · have h := xif_t h hc
      refine lv_iload_n hx hb dJ22_rangeCheck_59 rfl (lv_at hl 2 rfl) ?_
      refine lv_iload_n hx hb dJ22_rangeCheck_60 rfl (lv_at hl 0 rfl) ?_
      refine lv_icmp_le (tgt := 73) hx hb dJ22_rangeCheck_61 (by decide) (fun hc => ?_) (fun hc => ?_)
      · have h := xif_t h hc
        exact xr_return h hX hI dJ22_rangeCheck_73
      · have h := xif_f h hc
        exact xr_no h
    · have h := xif_f h hc
      exact xr_no h
  · have h := xif_f h hc
    exact xr_no h
/-! java/util/Arrays.fill([BIIB)V  -/
theorem w_J22_fill_b10 {rec10 : Nat → Int32 → Int32 → Int32 → xM Unit} {a0 : Nat} {a2 : Int32} {a3 : Int32} {a4 : Int32} {r : Unit} (hX : xX E R p m c cJ22_fill 5 s args RJ22 "fill" meth none 1 22 σ0 σ9) (hrec10 : ∀ (a0 : Nat) (a2 : Int32) (a3 : Int32) (a4 : Int32) (σ : xS) (H : Heap) (locs : List Loc) (cells slots : Nat) (ls : Array Slot), (rec10 a0 a2 a3 a4).1 σ = some (r, σ9) → xI E σ0 σ s H locs cells slots → lv_has ls 5 [(0, .ref a0), (2, .int a2), (3, .int a3), (4, .int a4)] → W p l e R s m args below meth c H locs cells slots (xMQ E below args s σ0 σ9 none) (F0 m 10 ls []))
    (h : (f_J22_fill_b10 rec10 a0 a2 a3 a4).1 σ = some (r, σ9)) (hI : xI E σ0 σ s H locs cells slots) (hl : lv_has ls 5 [(0, .ref a0), (2, .int a2), (3, .int a3), (4, .int a4)]) : W p l e R s m args below meth c H locs cells slots (xMQ E below args s σ0 σ9 none) (F0 m 10 ls []) := by
  have hx := hX.1.1
  have hb := hX.1.2.1
  delta f_J22_fill_b10 at h
  refine lv_iload hx hb dJ22_fill_10 (lv_at hl 3 rfl) ?_
  refine lv_iload_n hx hb dJ22_fill_12 rfl (lv_at hl 1 rfl) ?_
  refine lv_icmp_ge (tgt := 27) hx hb dJ22_fill_13 (by decide) (fun hc => ?_) (fun hc => ?_)
  · have h := xif_t h hc
    exact xr_return h hX hI dJ22_fill_27
  · have h := xif_f h hc
    refine lv_aload_n hx hb dJ22_fill_16 rfl (lv_at hl 0 rfl) ?_
    refine lv_iload hx hb dJ22_fill_17 (lv_at hl 3 rfl) ?_
    refine lv_iload_n hx hb dJ22_fill_19 rfl (lv_at hl 2 rfl) ?_
    refine xr_stB h hX hI dJ22_fill_20 (fun H locs σ h hI => ?_)
    refine lv_iinc (k := 3) (lv' := [(4, .int (a4 + (1 : Int32))), (0, .ref a0), (2, .int a2), (3, .int a3)]) hx hb dJ22_fill_21 hl rfl (xiinc (by decide)) (Nat.le_of_ble_eq_true rfl) rfl (fun ls hl => ?_)
    refine lv_goto (tgt := 10) hx hb dJ22_fill_24 (by decide) ?_
    exact hrec10 a0 a2 a3 (a4 + (1 : Int32)) _ _ _ _ _ _ h hI (lv_sub hl [1, 2, 3, 0] rfl)
theorem w_J22_fill_L10 {r : Unit} (hX : xX E R p m c cJ22_fill 5 s args RJ22 "fill" meth none 1 22 σ0 σ9) : ∀ (n : Nat) (a0 : Nat) (a2 : Int32) (a3 : Int32) (a4 : Int32) (σ : xS) (H : Heap) (locs : List Loc) (cells slots : Nat) (ls : Array Slot), (f_J22_fill_L10 n a0 a2 a3 a4).1 σ = some (r, σ9) → xI E σ0 σ s H locs cells slots → lv_has ls 5 [(0, .ref a0), (2, .int a2), (3, .int a3), (4, .int a4)] → W p l e R s m args below meth c H locs cells slots (xMQ E below args s σ0 σ9 none) (F0 m 10 ls []) := by
  intro n
  induction n with
  | zero =>
    intro a0 a2 a3 a4 σ H locs cells slots ls h
    exact xr_no h
  | succ n ih =>
    intro a0 a2 a3 a4 σ H locs cells slots ls h hI hl
    exact w_J22_fill_b10 hX ih h hI hl
theorem w_J22_fill {E : xE} {l : Launch} {a0 : Nat} {a1 : Int32} {a2 : Int32} {a3 : Int32} {r : Unit} {σ σ9 : xS} (h : (f_J22_fill a0 a1 a2 a3).1 σ = some (r, σ9)) : xMet E l yJ22_fill (ws_ yJ22_fill cJ22_fill 5 none) 1 22 [.ref a0, .int a1, .int a2, .int a3] σ σ9 none := by
  refine xstart (by decide +kernel) ((f_J22_fill a0 a1 a2 a3).2 _ _ _ h) (Nat.le_of_ble_eq_true rfl) ?_
  intro p e s m args below meth c H locs cells slots ls R hX hI hl
  have hx := hX.1.1
  have hb := hX.1.2.1
  have hl : lv_has ls 5 [(0, .ref a0), (1, .int a1), (2, .int a2), (3, .int a3)] := hl
  generalize hσ0 : σ = σ0 at hX hI ⊢
  have h : (f_J22_fill a0 a1 a2 a3).1 σ0 = some (r, σ9) := by rw [← hσ0]; exact h
  clear hσ0
  delta f_J22_fill at h
  refine lv_aload_n hx hb dJ22_fill_0 rfl (lv_at hl 0 rfl) ?_
  refine xr_ln h hX hI dJ22_fill_1 (fun v2 h => ?_)
  refine lv_iload_n hx hb dJ22_fill_2 rfl (lv_at hl 1 rfl) ?_
  refine lv_iload_n hx hb dJ22_fill_3 rfl (lv_at hl 2 rfl) ?_
  refine xr_callS (iv := (fun _ => none)) (As := [.int v2, .int a1, .int a2]) (rest := []) h hX hI (fun _ _ h => w_J22_rangeCheck h) 3 (lw_S q1819 q1820 q102 q1821) xd_J22_rangeCheck ⟨rfl, rfl⟩ rfl hl.1 (Nat.le_of_ble_eq_true rfl) dJ22_fill_4 (fun _ H locs σ cells slots h hI => ?_)
  refine lv_iload_n hx hb dJ22_fill_7 rfl (lv_at hl 1 rfl) ?_
  refine lv_istore (lv' := [(4, .int a1), (0, .ref a0), (1, .int a1), (2, .int a2), (3, .int a3)]) hx hb dJ22_fill_8 hl (Nat.le_of_ble_eq_true rfl) rfl (fun ls hl => ?_)
  exact w_J22_fill_L10 hX xFU a0 a2 a3 a1 _ _ _ _ _ _ h hI (lv_sub hl [1, 3, 4, 0] rfl)
/-! java/lang/StringLatin1.fillNull([BII)V  -/
theorem w_J23_fillNull {E : xE} {l : Launch} {a0 : Nat} {a1 : Int32} {a2 : Int32} {r : Unit} {σ σ9 : xS} (h : (f_J23_fillNull a0 a1 a2).1 σ = some (r, σ9)) : xMet E l yJ23_fillNull (ws_ yJ23_fillNull cJ23_fillNull 3 none) 2 46 [.ref a0, .int a1, .int a2] σ σ9 none := by
  refine xstart (by decide +kernel) ((f_J23_fillNull a0 a1 a2).2 _ _ _ h) (Nat.le_of_ble_eq_true rfl) ?_
  intro p e s m args below meth c H locs cells slots ls R hX hI hl
  have hx := hX.1.1
  have hb := hX.1.2.1
  have hl : lv_has ls 3 [(0, .ref a0), (1, .int a1), (2, .int a2)] := hl
  generalize hσ0 : σ = σ0 at hX hI ⊢
  have h : (f_J23_fillNull a0 a1 a2).1 σ0 = some (r, σ9) := by rw [← hσ0]; exact h
  clear hσ0
  delta f_J23_fillNull at h
  refine lv_aload_n hx hb dJ23_fillNull_0 rfl (lv_at hl 0 rfl) ?_
  refine lv_iload_n hx hb dJ23_fillNull_1 rfl (lv_at hl 1 rfl) ?_
  refine lv_iload_n hx hb dJ23_fillNull_2 rfl (lv_at hl 2 rfl) ?_
  refine lv_iconst (v := (0 : Int32)) hx hb dJ23_fillNull_3 (by decide) ?_
  refine xr_callS (iv := (fun _ => none)) (As := [.ref a0, .int a1, .int a2, .int (0 : Int32)]) (rest := []) h hX hI (fun _ _ h => w_J22_fill h) 4 (lw_S q1816 q1817 q102 q1818) xd_J22_fill ⟨rfl, rfl⟩ rfl hl.1 (Nat.le_of_ble_eq_true rfl) dJ23_fillNull_4 (fun _ H locs σ cells slots h hI => ?_)
  exact xr_return h hX hI dJ23_fillNull_7
/-! java/lang/StringUTF16.fillNull([BII)V  -/
theorem w_J9_fillNull {E : xE} {l : Launch} {a0 : Nat} {a1 : Int32} {a2 : Int32} {r : Unit} {σ σ9 : xS} (h : (f_J9_fillNull a0 a1 a2).1 σ = some (r, σ9)) : xMet E l yJ9_fillNull (ws_ yJ9_fillNull cJ9_fillNull 3 none) 2 46 [.ref a0, .int a1, .int a2] σ σ9 none := by
  refine xstart (by decide +kernel) ((f_J9_fillNull a0 a1 a2).2 _ _ _ h) (Nat.le_of_ble_eq_true rfl) ?_
  intro p e s m args below meth c H locs cells slots ls R hX hI hl
  have hx := hX.1.1
  have hb := hX.1.2.1
  have hl : lv_has ls 3 [(0, .ref a0), (1, .int a1), (2, .int a2)] := hl
  generalize hσ0 : σ = σ0 at hX hI ⊢
  have h : (f_J9_fillNull a0 a1 a2).1 σ0 = some (r, σ9) := by rw [← hσ0]; exact h
  clear hσ0
  delta f_J9_fillNull at h
  refine lv_aload_n hx hb dJ9_fillNull_0 rfl (lv_at hl 0 rfl) ?_
  refine lv_iload_n hx hb dJ9_fillNull_1 rfl (lv_at hl 1 rfl) ?_
  refine lv_iconst (v := (1 : Int32)) hx hb dJ9_fillNull_2 (by decide) ?_
  refine lv_ishl hx hb dJ9_fillNull_3 ?_
  refine lv_iload_n hx hb dJ9_fillNull_4 rfl (lv_at hl 2 rfl) ?_
  refine lv_iconst (v := (1 : Int32)) hx hb dJ9_fillNull_5 (by decide) ?_
  refine lv_ishl hx hb dJ9_fillNull_6 ?_
  refine lv_iconst (v := (0 : Int32)) hx hb dJ9_fillNull_7 (by decide) ?_
  refine xr_callS (iv := (fun _ => none)) (As := [.ref a0, .int (a1 <<< ((1 : Int32) &&& 31)), .int (a2 <<< ((1 : Int32) &&& 31)), .int (0 : Int32)]) (rest := []) h hX hI (fun _ _ h => w_J22_fill h) 4 (lw_S q1825 q1817 q102 q1818) xd_J22_fill ⟨rfl, rfl⟩ rfl hl.1 (Nat.le_of_ble_eq_true rfl) dJ9_fillNull_8 (fun _ H locs σ cells slots h hI => ?_)
  exact xr_return h hX hI dJ9_fillNull_11
/-! java/lang/AbstractStringBuilder.setLength(I)V  -/
theorem w_J6_setLength_b76 {a0 : Nat} {a1 : Int32} {r : Unit} (hX : xX E R p m c cJ6_setLength 2 s args RJ6 "setLength" meth none 3 68 σ0 σ9)
    (h : (f_J6_setLength_b76 a0 a1).1 σ = some (r, σ9)) (hI : xI E σ0 σ s H locs cells slots) (hl : lv_has ls 2 [(0, .ref a0), (1, .int a1)]) : W p l e R s m args below meth c H locs cells slots (xMQ E below args s σ0 σ9 none) (F0 m 76 ls []) := by
  have hx := hX.1.1
  have hb := hX.1.2.1
  delta f_J6_setLength_b76 at h
  refine lv_aload_n hx hb dJ6_setLength_76 rfl (lv_at hl 0 rfl) ?_
  refine lv_iload_n hx hb dJ6_setLength_77 rfl (lv_at hl 1 rfl) ?_
  refine xr_pt h hX hI xl_J6_79_15 (Or.inl rfl) rfl rfl dJ6_setLength_78 (fun H locs σ h hI => ?_)
  exact xr_return h hX hI dJ6_setLength_81
theorem o_J6_setLength {a0 : Nat} {a1 : Int32} {r : Unit} {σ σ9 : xS} (h : (f_J6_setLength a0 a1).1 σ = some (r, σ9)) : ∃ fs, σ.1 a0 = some (.inl (15, fs)) := xck_of h
theorem w_J6_setLength {E : xE} {l : Launch} {a0 : Nat} {a1 : Int32} {r : Unit} {σ σ9 : xS} (h : (f_J6_setLength a0 a1).1 σ = some (r, σ9)) : xMet E l yJ6_setLength (ws_ yJ6_setLength cJ6_setLength 2 none) 3 68 [.ref a0, .int a1] σ σ9 none := by
  refine xstart (by decide +kernel) ((f_J6_setLength a0 a1).2 _ _ _ h) (Nat.le_of_ble_eq_true rfl) ?_
  intro p e s m args below meth c H locs cells slots ls R hX hI hl
  have hx := hX.1.1
  have hb := hX.1.2.1
  have hl : lv_has ls 2 [(0, .ref a0), (1, .int a1)] := hl
  generalize hσ0 : σ = σ0 at hX hI ⊢
  have h : (f_J6_setLength a0 a1).1 σ0 = some (r, σ9) := by rw [← hσ0]; exact h
  clear hσ0
  delta f_J6_setLength at h
  have h := (xck_bd h).2
  refine lv_iload_n hx hb dJ6_setLength_0 rfl (lv_at hl 1 rfl) ?_
  refine lv_if_ge (tgt := 13) hx hb dJ6_setLength_1 (by decide) (fun hc => ?_) (fun hc => ?_)
  · have h := xif_t h hc
    refine lv_aload_n hx hb dJ6_setLength_13 rfl (lv_at hl 0 rfl) ?_
    refine lv_iload_n hx hb dJ6_setLength_14 rfl (lv_at hl 1 rfl) ?_
    refine xr_callU (iv := (fun _ => none)) (As := [.int a1]) (rest := []) h hX hI (fun _ _ h => w_J6_ensureCapacityInternal h) (fun _ _ h => o_J6_ensureCapacityInternal h) rfl 1 (fun h1 h2 h3 => xCUp hX (List.mem_of_getElem? (i := 0) rfl) q634 q2371 q636 q83 q637 xd_J6_ensureCapacityInternal h1 h2 h3) ⟨rfl, rfl⟩ rfl hl.1 (Nat.le_of_ble_eq_true rfl) dJ6_setLength_15 (fun _ H locs σ cells slots h hI => ?_)
    refine lv_aload_n hx hb dJ6_setLength_18 rfl (lv_at hl 0 rfl) ?_
    refine xr_gI h hX hI xl_J6_79_15.g dJ6_setLength_19 (fun v8 h => ?_)
    refine lv_iload_n hx hb dJ6_setLength_22 rfl (lv_at hl 1 rfl) ?_
    refine lv_icmp_ge (tgt := 63) hx hb dJ6_setLength_23 (by decide) (fun hc => ?_) (fun hc => ?_)
    · have h := xif_t h hc
      refine lv_aload_n hx hb dJ6_setLength_63 rfl (lv_at hl 0 rfl) ?_
      refine xr_gI h hX hI xl_J6_79_15.g dJ6_setLength_64 (fun v9 h => ?_)
      refine lv_iload_n hx hb dJ6_setLength_67 rfl (lv_at hl 1 rfl) ?_
      refine lv_icmp_le (tgt := 76) hx hb dJ6_setLength_68 (by decide) (fun hc => ?_) (fun hc => ?_)
      · have h := xif_t h hc
        exact w_J6_setLength_b76 hX h hI (lv_sub hl [0, 1] rfl)
      · have h := xif_f h hc
        refine lv_aload_n hx hb dJ6_setLength_71 rfl (lv_at hl 0 rfl) ?_
        refine lv_iconst (v := (1 : Int32)) hx hb dJ6_setLength_72 (by decide) ?_
        refine xr_ptZ h hX hI xl_J6_73_15 (Or.inl rfl) dJ6_setLength_73 (fun H locs σ h hI => ?_)
        exact w_J6_setLength_b76 hX h hI (lv_sub hl [0, 1] rfl)
    · have h := xif_f h hc
      refine lv_aload_n hx hb dJ6_setLength_26 rfl (lv_at hl 0 rfl) ?_
      refine xr_callU (iv := (fun b => some (.int b))) (As := []) (rest := []) h hX hI (fun _ _ h => w_J6_isLatin1 h) (fun _ _ h => o_J6_isLatin1 h) rfl 0 (fun h1 h2 h3 => va_cwU (owner := "java/lang/AbstractStringBuilder") 0 hX.1.2.2.2.2 (xlwU q669 q671 q672 q670 q83 q673) rfl h1 h2 rfl (by decide +kernel) h3) ⟨rfl, rfl⟩ rfl hl.1 (Nat.le_of_ble_eq_true rfl) dJ6_setLength_27 (fun v10 H locs σ cells slots h hI => ?_)
      refine W.eq (g2 := F0 m 30 ls [.int v10]) rfl ?_
      refine lv_if_eq (tgt := 48) hx hb dJ6_setLength_30 (by decide) (fun hc => ?_) (fun hc => ?_)
      · have h := xif_t h hc
        refine lv_aload_n hx hb dJ6_setLength_48 rfl (lv_at hl 0 rfl) ?_
        refine xr_gN h hX hI xl_J6_15_15.g dJ6_setLength_49 (fun v11 h => ?_)
        refine lv_aload_n hx hb dJ6_setLength_52 rfl (lv_at hl 0 rfl) ?_
        refine xr_gI h hX hI xl_J6_79_15.g dJ6_setLength_53 (fun v12 h => ?_)
        refine lv_iload_n hx hb dJ6_setLength_56 rfl (lv_at hl 1 rfl) ?_
        refine xr_callS (iv := (fun _ => none)) (As := [.ref v11, .int v12, .int a1]) (rest := []) h hX hI (fun _ _ h => w_J9_fillNull h) 3 (lw_S q1822 q1823 q86 q1824) xd_J9_fillNull ⟨rfl, rfl⟩ rfl hl.1 (Nat.le_of_ble_eq_true rfl) dJ6_setLength_57 (fun _ H locs σ cells slots h hI => ?_)
        refine lv_goto (tgt := 76) hx hb dJ6_setLength_60 (by decide) ?_
        exact w_J6_setLength_b76 hX h hI (lv_sub hl [0, 1] rfl)
      · have h := xif_f h hc
        refine lv_aload_n hx hb dJ6_setLength_33 rfl (lv_at hl 0 rfl) ?_
        refine xr_gN h hX hI xl_J6_15_15.g dJ6_setLength_34 (fun v13 h => ?_)
        refine lv_aload_n hx hb dJ6_setLength_37 rfl (lv_at hl 0 rfl) ?_
        refine xr_gI h hX hI xl_J6_79_15.g dJ6_setLength_38 (fun v14 h => ?_)
        refine lv_iload_n hx hb dJ6_setLength_41 rfl (lv_at hl 1 rfl) ?_
        refine xr_callS (iv := (fun _ => none)) (As := [.ref v13, .int v14, .int a1]) (rest := []) h hX hI (fun _ _ h => w_J23_fillNull h) 3 (lw_S q1813 q1814 q104 q1815) xd_J23_fillNull ⟨rfl, rfl⟩ rfl hl.1 (Nat.le_of_ble_eq_true rfl) dJ6_setLength_42 (fun _ H locs σ cells slots h hI => ?_)
        refine lv_goto (tgt := 76) hx hb dJ6_setLength_45 (by decide) ?_
        exact w_J6_setLength_b76 hX h hI (lv_sub hl [0, 1] rfl)
  · have h := xif_f h hc
    exact xr_no h
/-! java/lang/StringBuilder.setLength(I)V  -/
theorem o_J7_setLength {a0 : Nat} {a1 : Int32} {r : Unit} {σ σ9 : xS} (h : (f_J7_setLength a0 a1).1 σ = some (r, σ9)) : ∃ fs, σ.1 a0 = some (.inl (15, fs)) := xck_of h
theorem w_J7_setLength {E : xE} {l : Launch} {a0 : Nat} {a1 : Int32} {r : Unit} {σ σ9 : xS} (h : (f_J7_setLength a0 a1).1 σ = some (r, σ9)) : xMet E l yJ7_setLength (ws_ yJ7_setLength cJ7_setLength 2 none) 4 89 [.ref a0, .int a1] σ σ9 none := by
  refine xstart (by decide +kernel) ((f_J7_setLength a0 a1).2 _ _ _ h) (Nat.le_of_ble_eq_true rfl) ?_
  intro p e s m args below meth c H locs cells slots ls R hX hI hl
  have hx := hX.1.1
  have hb := hX.1.2.1
  have hl : lv_has ls 2 [(0, .ref a0), (1, .int a1)] := hl
  generalize hσ0 : σ = σ0 at hX hI ⊢
  have h : (f_J7_setLength a0 a1).1 σ0 = some (r, σ9) := by rw [← hσ0]; exact h
  clear hσ0
  delta f_J7_setLength at h
  have h := (xck_bd h).2
  refine lv_aload_n hx hb dJ7_setLength_0 rfl (lv_at hl 0 rfl) ?_
  refine lv_iload_n hx hb dJ7_setLength_1 rfl (lv_at hl 1 rfl) ?_
  refine xr_callSU (iv := (fun _ => none)) (As := [.int a1]) (rest := []) h hX hI (fun _ _ h => w_J6_setLength h) (fun _ _ h => o_J6_setLength h) rfl 1 (xlwSU q1810 q2381 q284 q1811 q83 q1812) (by decide +kernel) ⟨rfl, rfl⟩ rfl hl.1 (Nat.le_of_ble_eq_true rfl) dJ7_setLength_2 (fun _ H locs σ cells slots h hI => ?_)
  exact xr_return h hX hI dJ7_setLength_5
/-! PayMatch.clearText()I  -/
theorem o_X0_clearText {a0 : Nat} {r : Int32} {σ σ9 : xS} (h : (f_X0_clearText a0).1 σ = some (r, σ9)) : ∃ fs, σ.1 a0 = some (.inl (0, fs)) := xck_of h
theorem w_X0_clearText {E : xE} {l : Launch} {a0 : Nat} {r : Int32} {σ σ9 : xS} (h : (f_X0_clearText a0).1 σ = some (r, σ9)) : xMet E l yX0_clearText (ws_ yX0_clearText cX0_clearText 2 (some .int)) 5 110 [.ref a0] σ σ9 (some (.int r)) := by
  refine xstart (by decide +kernel) ((f_X0_clearText a0).2 _ _ _ h) (Nat.le_of_ble_eq_true rfl) ?_
  intro p e s m args below meth c H locs cells slots ls R hX hI hl
  have hx := hX.1.1
  have hb := hX.1.2.1
  have hl : lv_has ls 2 [(0, .ref a0)] := hl
  generalize hσ0 : σ = σ0 at hX hI ⊢
  have h : (f_X0_clearText a0).1 σ0 = some (r, σ9) := by rw [← hσ0]; exact h
  clear hσ0
  delta f_X0_clearText at h
  have h := (xck_bd h).2
  refine lv_aload_n hx hb dX0_clearText_0 rfl (lv_at hl 0 rfl) ?_
  refine xr_gN h hX hI xl_X0_40_0.g dX0_clearText_1 (fun v4 h => ?_)
  refine xr_callV (iv := (fun b => some (.int b))) (As := []) (rest := []) h hX hI (fun _ _ h => w_J7_length h) (fun _ _ h => o_J7_length h) rfl 0 (lw_V q1788 q766 q2379 q84 q767) ⟨rfl, xd_J7_length⟩ ⟨rfl, rfl⟩ rfl hl.1 (Nat.le_of_ble_eq_true rfl) dX0_clearText_4 (fun v5 H locs σ cells slots h hI => ?_)
  refine W.eq (g2 := F0 m 7 ls [.int v5]) rfl ?_
  refine lv_istore_n (lv' := [(1, .int v5), (0, .ref a0)]) hx hb dX0_clearText_7 rfl hl (Nat.le_of_ble_eq_true rfl) rfl (fun ls hl => ?_)
  refine lv_aload_n hx hb dX0_clearText_8 rfl (lv_at hl 1 rfl) ?_
  refine xr_gN h hX hI xl_X0_40_0.g dX0_clearText_9 (fun v6 h => ?_)
  refine lv_iconst (v := (0 : Int32)) hx hb dX0_clearText_12 (by decide) ?_
  refine xr_callV (iv := (fun _ => none)) (As := [.int (0 : Int32)]) (rest := []) h hX hI (fun _ _ h => w_J7_setLength h) (fun _ _ h => o_J7_setLength h) rfl 1 (lw_V q1806 q1807 q1808 q84 q1809) ⟨rfl, xd_J7_setLength⟩ ⟨rfl, rfl⟩ rfl hl.1 (Nat.le_of_ble_eq_true rfl) dX0_clearText_13 (fun _ H locs σ cells slots h hI => ?_)
  refine lv_iload_n hx hb dX0_clearText_16 rfl (lv_at hl 0 rfl) ?_
  exact xr_ireturn h hX hI dX0_clearText_17
/-! PayMatchModel.clearText()I  -/
theorem o_X3_clearText {a0 : Nat} {r : Int32} {σ σ9 : xS} (h : (f_X3_clearText a0).1 σ = some (r, σ9)) : ∃ fs, σ.1 a0 = some (.inl (3, fs)) := xck_of h
theorem w_X3_clearText {E : xE} {l : Launch} {a0 : Nat} {r : Int32} {σ σ9 : xS} (h : (f_X3_clearText a0).1 σ = some (r, σ9)) : xMet E l yX3_clearText (ws_ yX3_clearText cX3_clearText 2 (some .int)) 0 0 [.ref a0] σ σ9 (some (.int r)) := by
  refine xstart (by decide +kernel) ((f_X3_clearText a0).2 _ _ _ h) (Nat.le_of_ble_eq_true rfl) ?_
  intro p e s m args below meth c H locs cells slots ls R hX hI hl
  have hx := hX.1.1
  have hb := hX.1.2.1
  have hl : lv_has ls 2 [(0, .ref a0)] := hl
  generalize hσ0 : σ = σ0 at hX hI ⊢
  have h : (f_X3_clearText a0).1 σ0 = some (r, σ9) := by rw [← hσ0]; exact h
  clear hσ0
  delta f_X3_clearText at h
  have h := (xck_bd h).2
  refine lv_aload_n hx hb dX3_clearText_0 rfl (lv_at hl 0 rfl) ?_
  refine lv_iconst (v := (0 : Int32)) hx hb dX3_clearText_1 (by decide) ?_
  refine xr_pt h hX hI xl_X3_1_3 (Or.inl rfl) rfl rfl dX3_clearText_2 (fun H locs σ h hI => ?_)
  refine lv_aload_n hx hb dX3_clearText_5 rfl (lv_at hl 0 rfl) ?_
  refine xr_gI h hX hI xl_X3_198_3.g dX3_clearText_6 (fun v2 h => ?_)
  refine lv_istore_n (lv' := [(1, .int v2), (0, .ref a0)]) hx hb dX3_clearText_9 rfl hl (Nat.le_of_ble_eq_true rfl) rfl (fun ls hl => ?_)
  refine lv_aload_n hx hb dX3_clearText_10 rfl (lv_at hl 1 rfl) ?_
  refine lv_iconst (v := (0 : Int32)) hx hb dX3_clearText_11 (by decide) ?_
  refine xr_pt h hX hI xl_X3_198_3 (Or.inl rfl) rfl rfl dX3_clearText_12 (fun H locs σ h hI => ?_)
  refine lv_iload_n hx hb dX3_clearText_15 rfl (lv_at hl 0 rfl) ?_
  exact xr_ireturn h hX hI dX3_clearText_16
/-! java/util/ArrayDeque.isEmpty()Z  -/
theorem o_J5_isEmpty {a0 : Nat} {r : Int32} {σ σ9 : xS} (h : (f_J5_isEmpty a0).1 σ = some (r, σ9)) : ∃ fs, σ.1 a0 = some (.inl (14, fs)) := xck_of h
theorem w_J5_isEmpty {E : xE} {l : Launch} {a0 : Nat} {r : Int32} {σ σ9 : xS} (h : (f_J5_isEmpty a0).1 σ = some (r, σ9)) : xMet E l yJ5_isEmpty (ws_ yJ5_isEmpty cJ5_isEmpty 1 (some .boolean)) 0 0 [.ref a0] σ σ9 (some (.int r)) := by
  refine xstart (by decide +kernel) ((f_J5_isEmpty a0).2 _ _ _ h) (Nat.le_of_ble_eq_true rfl) ?_
  intro p e s m args below meth c H locs cells slots ls R hX hI hl
  have hx := hX.1.1
  have hb := hX.1.2.1
  have hl : lv_has ls 1 [(0, .ref a0)] := hl
  generalize hσ0 : σ = σ0 at hX hI ⊢
  have h : (f_J5_isEmpty a0).1 σ0 = some (r, σ9) := by rw [← hσ0]; exact h
  clear hσ0
  delta f_J5_isEmpty at h
  have h := (xck_bd h).2
  refine lv_aload_n hx hb dJ5_isEmpty_0 rfl (lv_at hl 0 rfl) ?_
  refine xr_gI h hX hI xl_J5_24_14.g dJ5_isEmpty_1 (fun v3 h => ?_)
  refine lv_aload_n hx hb dJ5_isEmpty_4 rfl (lv_at hl 0 rfl) ?_
  refine xr_gI h hX hI xl_J5_20_14.g dJ5_isEmpty_5 (fun v4 h => ?_)
  refine lv_icmp_ne (tgt := 15) hx hb dJ5_isEmpty_8 (by decide) (fun hc => ?_) (fun hc => ?_)
  · have h := xif_f h hc
    refine lv_iconst (v := (0 : Int32)) hx hb dJ5_isEmpty_15 (by decide) ?_
    exact xr_zreturn h hX hI dJ5_isEmpty_16
  · have h := xif_t h hc
    refine lv_iconst (v := (1 : Int32)) hx hb dJ5_isEmpty_11 (by decide) ?_
    refine lv_goto (tgt := 16) hx hb dJ5_isEmpty_12 (by decide) ?_
    exact xr_zreturn h hX hI dJ5_isEmpty_16
/-! java/util/ArrayDeque.dec(II)I  -/
theorem w_J5_dec {E : xE} {l : Launch} {a0 : Int32} {a1 : Int32} {r : Int32} {σ σ9 : xS} (h : (f_J5_dec a0 a1).1 σ = some (r, σ9)) : xMet E l yJ5_dec (ws_ yJ5_dec cJ5_dec 2 (some .int)) 0 0 [.int a0, .int a1] σ σ9 (some (.int r)) := by
  refine xstart (by decide +kernel) ((f_J5_dec a0 a1).2 _ _ _ h) (Nat.le_of_ble_eq_true rfl) ?_
  intro p e s m args below meth c H locs cells slots ls R hX hI hl
  have hx := hX.1.1
  have hb := hX.1.2.1
  have hl : lv_has ls 2 [(0, .int a0), (1, .int a1)] := hl
  generalize hσ0 : σ = σ0 at hX hI ⊢
  have h : (f_J5_dec a0 a1).1 σ0 = some (r, σ9) := by rw [← hσ0]; exact h
  clear hσ0
  delta f_J5_dec at h
  refine lv_iinc (k := 0) (lv' := [(0, .int (a0 - (1 : Int32))), (1, .int a1)]) hx hb dJ5_dec_0 hl rfl (xidec (by decide)) (Nat.le_of_ble_eq_true rfl) rfl (fun ls hl => ?_)
  refine lv_iload_n hx hb dJ5_dec_3 rfl (lv_at hl 0 rfl) ?_
  refine lv_if_ge (tgt := 11) hx hb dJ5_dec_4 (by decide) (fun hc => ?_) (fun hc => ?_)
  · have h := xif_t h hc
    refine lv_iload_n hx hb dJ5_dec_11 rfl (lv_at hl 0 rfl) ?_
    exact xr_ireturn h hX hI dJ5_dec_12
  · have h := xif_f h hc
    refine lv_iload_n hx hb dJ5_dec_7 rfl (lv_at hl 1 rfl) ?_
    refine lv_iconst (v := (1 : Int32)) hx hb dJ5_dec_8 (by decide) ?_
    refine lv_isub hx hb dJ5_dec_9 ?_
    refine lv_istore_n (lv' := [(0, .int (a1 - (1 : Int32))), (1, .int a1)]) hx hb dJ5_dec_10 rfl hl (Nat.le_of_ble_eq_true rfl) rfl (fun ls hl => ?_)
    refine lv_iload_n hx hb dJ5_dec_11 rfl (lv_at hl 0 rfl) ?_
    exact xr_ireturn h hX hI dJ5_dec_12
/-! java/util/ArrayDeque.pollLast()Ljava/lang/Object;  -/
theorem o_J5_pollLast {a0 : Nat} {r : (Option Nat)} {σ σ9 : xS} (h : (f_J5_pollLast a0).1 σ = some (r, σ9)) : ∃ fs, σ.1 a0 = some (.inl (14, fs)) := xck_of h
theorem w_J5_pollLast {E : xE} {l : Launch} {a0 : Nat} {r : (Option Nat)} {σ σ9 : xS} (h : (f_J5_pollLast a0).1 σ = some (r, σ9)) : xMet E l yJ5_pollLast (ws_ yJ5_pollLast cJ5_pollLast 4 (some (.object "java/lang/Object"))) 1 21 [.ref a0] σ σ9 (some (va_rf r)) := by
  refine xstart (by decide +kernel) ((f_J5_pollLast a0).2 _ _ _ h) (Nat.le_of_ble_eq_true rfl) ?_
  intro p e s m args below meth c H locs cells slots ls R hX hI hl
  have hx := hX.1.1
  have hb := hX.1.2.1
  have hl : lv_has ls 4 [(0, .ref a0)] := hl
  generalize hσ0 : σ = σ0 at hX hI ⊢
  have h : (f_J5_pollLast a0).1 σ0 = some (r, σ9) := by rw [← hσ0]; exact h
  clear hσ0
  delta f_J5_pollLast at h
  have h := (xck_bd h).2
  refine lv_aload_n hx hb dJ5_pollLast_0 rfl (lv_at hl 0 rfl) ?_
  refine xr_gN h hX hI xl_J5_3_14.g dJ5_pollLast_1 (fun v6 h => ?_)
  refine lv_dup hx hb dJ5_pollLast_4 rfl ?_
  refine lv_astore_n (lv' := [(1, .ref v6), (0, .ref a0)]) hx hb dJ5_pollLast_5 rfl hl (Nat.le_of_ble_eq_true rfl) rfl (fun ls hl => ?_)
  refine lv_aload_n hx hb dJ5_pollLast_6 rfl (lv_at hl 1 rfl) ?_
  refine xr_gI h hX hI xl_J5_20_14.g dJ5_pollLast_7 (fun v7 h => ?_)
  refine lv_aload_n hx hb dJ5_pollLast_10 rfl (lv_at hl 0 rfl) ?_
  refine xr_ln h hX hI dJ5_pollLast_11 (fun v8 h => ?_)
  refine xr_callS (iv := (fun b => some (.int b))) (As := [.int v7, .int v8]) (rest := [.ref v6]) h hX hI (fun _ _ h => w_J5_dec h) 2 (lw_S q1842 q1843 q82 q1844) xd_J5_dec ⟨rfl, rfl⟩ rfl hl.1 (Nat.le_of_ble_eq_true rfl) dJ5_pollLast_12 (fun v9 H locs σ cells slots h hI => ?_)
  refine W.eq (g2 := F0 m 15 ls [.int v9, .ref v6]) rfl ?_
  refine lv_dup hx hb dJ5_pollLast_15 rfl ?_
  refine lv_istore_n (lv' := [(2, .int v9), (1, .ref v6), (0, .ref a0)]) hx hb dJ5_pollLast_16 rfl hl (Nat.le_of_ble_eq_true rfl) rfl (fun ls hl => ?_)
  refine xr_callS (iv := (fun b => some (va_rf b))) (As := [.ref v6, .int v9]) (rest := []) h hX hI (fun _ _ h => w_J5_elementAt h) 2 (lw_S q1218 q1219 q82 q1220) xd_J5_elementAt ⟨rfl, rfl⟩ rfl hl.1 (Nat.le_of_ble_eq_true rfl) dJ5_pollLast_17 (fun v10 H locs σ cells slots h hI => ?_)
  cases v10 with
  | none =>
    refine W.eq (g2 := F0 m 20 ls [.null]) rfl ?_
    refine lv_astore_nN (lv' := [(3, .null), (2, .int v9), (1, .ref v6), (0, .ref a0)]) hx hb dJ5_pollLast_20 rfl hl (Nat.le_of_ble_eq_true rfl) rfl (fun ls hl => ?_)
    refine lv_aload_nN hx hb dJ5_pollLast_21 rfl (lv_at hl 0 rfl) ?_
    refine lv_ifnullN (tgt := 34) hx hb dJ5_pollLast_22 (by decide) ?_
    refine lv_aload_nN hx hb dJ5_pollLast_34 rfl (lv_at hl 0 rfl) ?_
    exact xr_areturn0 h hX hI (Or.inl ⟨_, rfl⟩) dJ5_pollLast_35
  | some v10n =>
    refine W.eq (g2 := F0 m 20 ls [.ref v10n]) rfl ?_
    refine lv_astore_n (lv' := [(3, .ref v10n), (2, .int v9), (1, .ref v6), (0, .ref a0)]) hx hb dJ5_pollLast_20 rfl hl (Nat.le_of_ble_eq_true rfl) rfl (fun ls hl => ?_)
    refine lv_aload_n hx hb dJ5_pollLast_21 rfl (lv_at hl 0 rfl) ?_
    refine lv_ifnull hx hb dJ5_pollLast_22 ?_
    refine lv_aload_n hx hb dJ5_pollLast_25 rfl (lv_at hl 2 rfl) ?_
    refine lv_aload_n hx hb dJ5_pollLast_26 rfl (lv_at hl 3 rfl) ?_
    refine lv_iload_n hx hb dJ5_pollLast_27 rfl (lv_at hl 1 rfl) ?_
    refine lv_dup_x1 hx hb dJ5_pollLast_28 rfl rfl ?_
    refine xr_pt h hX hI xl_J5_20_14 (Or.inl rfl) rfl rfl dJ5_pollLast_29 (fun H locs σ h hI => ?_)
    refine lv_null hx hb dJ5_pollLast_32 ?_
    refine xr_st0 h hX hI (by decide) dJ5_pollLast_33 (fun H locs σ h hI => ?_)
    refine lv_aload_n hx hb dJ5_pollLast_34 rfl (lv_at hl 0 rfl) ?_
    exact xr_areturnQ h hX hI (Or.inl ⟨_, rfl⟩) dJ5_pollLast_35
/-! java/util/ArrayDeque.removeLast()Ljava/lang/Object;  -/
theorem o_J5_removeLast {a0 : Nat} {r : Nat} {σ σ9 : xS} (h : (f_J5_removeLast a0).1 σ = some (r, σ9)) : ∃ fs, σ.1 a0 = some (.inl (14, fs)) := xck_of h
theorem w_J5_removeLast {E : xE} {l : Launch} {a0 : Nat} {r : Nat} {σ σ9 : xS} (h : (f_J5_removeLast a0).1 σ = some (r, σ9)) : xMet E l yJ5_removeLast (ws_ yJ5_removeLast cJ5_removeLast 2 (some (.object "java/lang/Object"))) 2 44 [.ref a0] σ σ9 (some (.ref r)) := by
  refine xstart (by decide +kernel) ((f_J5_removeLast a0).2 _ _ _ h) (Nat.le_of_ble_eq_true rfl) ?_
  intro p e s m args below meth c H locs cells slots ls R hX hI hl
  have hx := hX.1.1
  have hb := hX.1.2.1
  have hl : lv_has ls 2 [(0, .ref a0)] := hl
  generalize hσ0 : σ = σ0 at hX hI ⊢
  have h : (f_J5_removeLast a0).1 σ0 = some (r, σ9) := by rw [← hσ0]; exact h
  clear hσ0
  delta f_J5_removeLast at h
  have h := (xck_bd h).2
  refine lv_aload_n hx hb dJ5_removeLast_0 rfl (lv_at hl 0 rfl) ?_
  refine xr_callV (iv := (fun b => some (va_rf b))) (As := []) (rest := []) h hX hI (fun _ _ h => w_J5_pollLast h) (fun _ _ h => o_J5_pollLast h) rfl 0 (lw_V q1838 q1839 q1840 q82 q1841) ⟨rfl, xd_J5_pollLast⟩ ⟨rfl, rfl⟩ rfl hl.1 (Nat.le_of_ble_eq_true rfl) dJ5_removeLast_1 (fun v2 H locs σ cells slots h hI => ?_)
  cases v2 with
  | none =>
    refine W.eq (g2 := F0 m 4 ls [.null]) rfl ?_
    refine lv_astore_nN (lv' := [(1, .null), (0, .ref a0)]) hx hb dJ5_removeLast_4 rfl hl (Nat.le_of_ble_eq_true rfl) rfl (fun ls hl => ?_)
    refine lv_aload_nN hx hb dJ5_removeLast_5 rfl (lv_at hl 0 rfl) ?_
    refine lv_ifnonnullN hx hb dJ5_removeLast_6 ?_
    exact xr_no h
  | some v2n =>
    refine W.eq (g2 := F0 m 4 ls [.ref v2n]) rfl ?_
    refine lv_astore_n (lv' := [(1, .ref v2n), (0, .ref a0)]) hx hb dJ5_removeLast_4 rfl hl (Nat.le_of_ble_eq_true rfl) rfl (fun ls hl => ?_)
    refine lv_aload_n hx hb dJ5_removeLast_5 rfl (lv_at hl 0 rfl) ?_
    refine lv_ifnonnull (tgt := 17) hx hb dJ5_removeLast_6 (by decide) ?_
    refine lv_aload_n hx hb dJ5_removeLast_17 rfl (lv_at hl 0 rfl) ?_
    exact xr_areturn h hX hI (Or.inl ⟨_, rfl⟩) dJ5_removeLast_18
/-! PayMatch.undo()I  -/
theorem o_X0_undo {a0 : Nat} {r : Int32} {σ σ9 : xS} (h : (f_X0_undo a0).1 σ = some (r, σ9)) : ∃ fs, σ.1 a0 = some (.inl (0, fs)) := xck_of h
theorem w_X0_undo {E : xE} {l : Launch} {a0 : Nat} {r : Int32} {σ σ9 : xS} (h : (f_X0_undo a0).1 σ = some (r, σ9)) : xMet E l yX0_undo (ws_ yX0_undo cX0_undo 1 (some .int)) 3 65 [.ref a0] σ σ9 (some (.int r)) := by
  refine xstart (by decide +kernel) ((f_X0_undo a0).2 _ _ _ h) (Nat.le_of_ble_eq_true rfl) ?_
  intro p e s m args below meth c H locs cells slots ls R hX hI hl
  have hx := hX.1.1
  have hb := hX.1.2.1
  have hl : lv_has ls 1 [(0, .ref a0)] := hl
  generalize hσ0 : σ = σ0 at hX hI ⊢
  have h : (f_X0_undo a0).1 σ0 = some (r, σ9) := by rw [← hσ0]; exact h
  clear hσ0
  delta f_X0_undo at h
  have h := (xck_bd h).2
  refine lv_aload_n hx hb dX0_undo_0 rfl (lv_at hl 0 rfl) ?_
  refine xr_gN h hX hI xl_X0_31_0.g dX0_undo_1 (fun v7 h => ?_)
  refine xr_callV (iv := (fun b => some (.int b))) (As := []) (rest := []) h hX hI (fun _ _ h => w_J5_isEmpty h) (fun _ _ h => o_J5_isEmpty h) rfl 0 (lw_V q1830 q1831 q1832 q82 q1833) ⟨rfl, xd_J5_isEmpty⟩ ⟨rfl, rfl⟩ rfl hl.1 (Nat.le_of_ble_eq_true rfl) dX0_undo_4 (fun v8 H locs σ cells slots h hI => ?_)
  refine W.eq (g2 := F0 m 7 ls [.int v8]) rfl ?_
  refine lv_if_eq (tgt := 13) hx hb dX0_undo_7 (by decide) (fun hc => ?_) (fun hc => ?_)
  · have h := xif_t h hc
    refine lv_aload_n hx hb dX0_undo_13 rfl (lv_at hl 0 rfl) ?_
    refine lv_aload_n hx hb dX0_undo_14 rfl (lv_at hl 0 rfl) ?_
    refine xr_gN h hX hI xl_X0_31_0.g dX0_undo_15 (fun v9 h => ?_)
    refine xr_callV (iv := (fun b => some (.ref b))) (As := []) (rest := [.ref a0]) h hX hI (fun _ _ h => w_J5_removeLast h) (fun _ _ h => o_J5_removeLast h) rfl 0 (lw_V q1834 q1835 q1836 q82 q1837) ⟨rfl, xd_J5_removeLast⟩ ⟨rfl, rfl⟩ rfl hl.1 (Nat.le_of_ble_eq_true rfl) dX0_undo_18 (fun v10 H locs σ cells slots h hI => ?_)
    refine W.eq (g2 := F0 m 21 ls [.ref v10, .ref a0]) rfl ?_
    refine xr_cks h hX hI xc_X0_19 dX0_undo_21 (fun h => ?_)
    refine xr_pt h hX hI xl_X0_22_0 (Or.inl rfl) rfl rfl dX0_undo_24 (fun H locs σ h hI => ?_)
    refine lv_aload_n hx hb dX0_undo_27 rfl (lv_at hl 0 rfl) ?_
    refine xr_gN h hX hI xl_X0_31_0.g dX0_undo_28 (fun v11 h => ?_)
    refine xr_callV (iv := (fun b => some (.int b))) (As := []) (rest := []) h hX hI (fun _ _ h => w_J5_size h) (fun _ _ h => o_J5_size h) rfl 0 (lw_V q1203 q1204 q1205 q82 q1206) ⟨rfl, xd_J5_size⟩ ⟨rfl, rfl⟩ rfl hl.1 (Nat.le_of_ble_eq_true rfl) dX0_undo_31 (fun v12 H locs σ cells slots h hI => ?_)
    refine W.eq (g2 := F0 m 34 ls [.int v12]) rfl ?_
    exact xr_ireturn h hX hI dX0_undo_34
  · have h := xif_f h hc
    refine lv_bipush (v := (-5 : Int32)) hx hb dX0_undo_10 (by decide) ?_
    exact xr_ireturn h hX hI dX0_undo_12
/-! PayMatchModel.undo()I  -/
theorem w_X3_undo_b61 {a0 : Nat} {r : Int32} (hX : xX E R p m c cX3_undo 2 s args RX3 "undo" meth (some .int) 0 0 σ0 σ9)
    (h : (f_X3_undo_b61 a0).1 σ = some (r, σ9)) (hI : xI E σ0 σ s H locs cells slots) (hl : lv_has ls 2 [(0, .ref a0)]) : W p l e R s m args below meth c H locs cells slots (xMQ E below args s σ0 σ9 (some (.int r))) (F0 m 61 ls []) := by
  have hx := hX.1.1
  have hb := hX.1.2.1
  delta f_X3_undo_b61 at h
  refine lv_aload_n hx hb dX3_undo_61 rfl (lv_at hl 0 rfl) ?_
  refine xr_gI h hX hI xl_X3_71_3.g dX3_undo_62 (fun v12 h => ?_)
  exact xr_ireturn h hX hI dX3_undo_65
theorem w_X3_undo_b27 {rec27 : Nat → Int32 → xM Int32} {a0 : Nat} {a1 : Int32} {r : Int32} (hX : xX E R p m c cX3_undo 2 s args RX3 "undo" meth (some .int) 0 0 σ0 σ9) (hrec27 : ∀ (a0 : Nat) (a1 : Int32) (σ : xS) (H : Heap) (locs : List Loc) (cells slots : Nat) (ls : Array Slot), (rec27 a0 a1).1 σ = some (r, σ9) → xI E σ0 σ s H locs cells slots → lv_has ls 2 [(0, .ref a0), (1, .int a1)] → W p l e R s m args below meth c H locs cells slots (xMQ E below args s σ0 σ9 (some (.int r))) (F0 m 27 ls []))
    (h : (f_X3_undo_b27 rec27 a0 a1).1 σ = some (r, σ9)) (hI : xI E σ0 σ s H locs cells slots) (hl : lv_has ls 2 [(0, .ref a0), (1, .int a1)]) : W p l e R s m args below meth c H locs cells slots (xMQ E below args s σ0 σ9 (some (.int r))) (F0 m 27 ls []) := by
  have hx := hX.1.1
  have hb := hX.1.2.1
  delta f_X3_undo_b27 at h
  refine lv_iload_n hx hb dX3_undo_27 rfl (lv_at hl 1 rfl) ?_
  refine lv_sipush (v := (1411 : Int32)) hx hb dX3_undo_28 (by decide) ?_
  refine lv_icmp_ge (tgt := 61) hx hb dX3_undo_31 (by decide) (fun hc => ?_) (fun hc => ?_)
  · have h := xif_t h hc
    exact w_X3_undo_b61 hX h hI (lv_sub hl [0] rfl)
  · have h := xif_f h hc
    refine lv_aload_n hx hb dX3_undo_34 rfl (lv_at hl 0 rfl) ?_
    refine xr_gN h hX hI xl_X3_13_3.g dX3_undo_35 (fun v8 h => ?_)
    refine lv_iload_n hx hb dX3_undo_38 rfl (lv_at hl 1 rfl) ?_
    refine lv_aload_n hx hb dX3_undo_39 rfl (lv_at hl 0 rfl) ?_
    refine xr_gN h hX hI xl_X3_23_3.g dX3_undo_40 (fun v9 h => ?_)
    refine lv_sipush (v := (1411 : Int32)) hx hb dX3_undo_43 (by decide) ?_
    refine lv_aload_n hx hb dX3_undo_46 rfl (lv_at hl 0 rfl) ?_
    refine xr_gI h hX hI xl_X3_71_3.g dX3_undo_47 (fun v10 h => ?_)
    refine lv_imul hx hb dX3_undo_50 ?_
    refine lv_iload_n hx hb dX3_undo_51 rfl (lv_at hl 1 rfl) ?_
    refine lv_iadd hx hb dX3_undo_52 ?_
    refine xr_ldL h hX hI dX3_undo_53 (fun v11 h => ?_)
    refine xr_stL h hX hI dX3_undo_54 (fun H locs σ h hI => ?_)
    refine lv_iinc (k := 1) (lv' := [(1, .int (a1 + (1 : Int32))), (0, .ref a0)]) hx hb dX3_undo_55 hl rfl (xiinc (by decide)) (Nat.le_of_ble_eq_true rfl) rfl (fun ls hl => ?_)
    refine lv_goto (tgt := 27) hx hb dX3_undo_58 (by decide) ?_
    exact hrec27 a0 (a1 + (1 : Int32)) _ _ _ _ _ _ h hI (lv_sub hl [1, 0] rfl)
theorem w_X3_undo_L27 {r : Int32} (hX : xX E R p m c cX3_undo 2 s args RX3 "undo" meth (some .int) 0 0 σ0 σ9) : ∀ (n : Nat) (a0 : Nat) (a1 : Int32) (σ : xS) (H : Heap) (locs : List Loc) (cells slots : Nat) (ls : Array Slot), (f_X3_undo_L27 n a0 a1).1 σ = some (r, σ9) → xI E σ0 σ s H locs cells slots → lv_has ls 2 [(0, .ref a0), (1, .int a1)] → W p l e R s m args below meth c H locs cells slots (xMQ E below args s σ0 σ9 (some (.int r))) (F0 m 27 ls []) := by
  intro n
  induction n with
  | zero =>
    intro a0 a1 σ H locs cells slots ls h
    exact xr_no h
  | succ n ih =>
    intro a0 a1 σ H locs cells slots ls h hI hl
    exact w_X3_undo_b27 hX ih h hI hl
theorem o_X3_undo {a0 : Nat} {r : Int32} {σ σ9 : xS} (h : (f_X3_undo a0).1 σ = some (r, σ9)) : ∃ fs, σ.1 a0 = some (.inl (3, fs)) := xck_of h
theorem w_X3_undo {E : xE} {l : Launch} {a0 : Nat} {r : Int32} {σ σ9 : xS} (h : (f_X3_undo a0).1 σ = some (r, σ9)) : xMet E l yX3_undo (ws_ yX3_undo cX3_undo 2 (some .int)) 0 0 [.ref a0] σ σ9 (some (.int r)) := by
  refine xstart (by decide +kernel) ((f_X3_undo a0).2 _ _ _ h) (Nat.le_of_ble_eq_true rfl) ?_
  intro p e s m args below meth c H locs cells slots ls R hX hI hl
  have hx := hX.1.1
  have hb := hX.1.2.1
  have hl : lv_has ls 2 [(0, .ref a0)] := hl
  generalize hσ0 : σ = σ0 at hX hI ⊢
  have h : (f_X3_undo a0).1 σ0 = some (r, σ9) := by rw [← hσ0]; exact h
  clear hσ0
  delta f_X3_undo at h
  have h := (xck_bd h).2
  refine lv_aload_n hx hb dX3_undo_0 rfl (lv_at hl 0 rfl) ?_
  refine lv_iconst (v := (0 : Int32)) hx hb dX3_undo_1 (by decide) ?_
  refine xr_pt h hX hI xl_X3_1_3 (Or.inl rfl) rfl rfl dX3_undo_2 (fun H locs σ h hI => ?_)
  refine lv_aload_n hx hb dX3_undo_5 rfl (lv_at hl 0 rfl) ?_
  refine xr_gI h hX hI xl_X3_71_3.g dX3_undo_6 (fun v13 h => ?_)
  refine lv_if_ne (tgt := 15) hx hb dX3_undo_9 (by decide) (fun hc => ?_) (fun hc => ?_)
  · have h := xif_f h hc
    refine lv_aload_n hx hb dX3_undo_15 rfl (lv_at hl 0 rfl) ?_
    refine lv_dup hx hb dX3_undo_16 rfl ?_
    refine xr_gI h hX hI xl_X3_71_3.g dX3_undo_17 (fun v14 h => ?_)
    refine lv_iconst (v := (1 : Int32)) hx hb dX3_undo_20 (by decide) ?_
    refine lv_isub hx hb dX3_undo_21 ?_
    refine xr_pt h hX hI xl_X3_71_3 (Or.inl rfl) rfl rfl dX3_undo_22 (fun H locs σ h hI => ?_)
    refine lv_iconst (v := (0 : Int32)) hx hb dX3_undo_25 (by decide) ?_
    refine lv_istore_n (lv' := [(1, .int (0 : Int32)), (0, .ref a0)]) hx hb dX3_undo_26 rfl hl (Nat.le_of_ble_eq_true rfl) rfl (fun ls hl => ?_)
    exact w_X3_undo_L27 hX xFU a0 (0 : Int32) _ _ _ _ _ _ h hI (lv_sub hl [1, 0] rfl)
  · have h := xif_t h hc
    refine lv_bipush (v := (-5 : Int32)) hx hb dX3_undo_12 (by decide) ?_
    exact xr_ireturn h hX hI dX3_undo_14
/-! PayMatch.keep()I  -/
theorem o_X0_keep {a0 : Nat} {r : Int32} {σ σ9 : xS} (h : (f_X0_keep a0).1 σ = some (r, σ9)) : ∃ fs, σ.1 a0 = some (.inl (0, fs)) := xck_of h
theorem w_X0_keep {E : xE} {l : Launch} {a0 : Nat} {r : Int32} {σ σ9 : xS} (h : (f_X0_keep a0).1 σ = some (r, σ9)) : xMet E l yX0_keep (ws_ yX0_keep cX0_keep 1 (some .int)) 14 438 [.ref a0] σ σ9 (some (.int r)) := by
  refine xstart (by decide +kernel) ((f_X0_keep a0).2 _ _ _ h) (Nat.le_of_ble_eq_true rfl) ?_
  intro p e s m args below meth c H locs cells slots ls R hX hI hl
  have hx := hX.1.1
  have hb := hX.1.2.1
  have hl : lv_has ls 1 [(0, .ref a0)] := hl
  generalize hσ0 : σ = σ0 at hX hI ⊢
  have h : (f_X0_keep a0).1 σ0 = some (r, σ9) := by rw [← hσ0]; exact h
  clear hσ0
  delta f_X0_keep at h
  have h := (xck_bd h).2
  refine lv_aload_n hx hb dX0_keep_0 rfl (lv_at hl 0 rfl) ?_
  refine lv_aload_n hx hb dX0_keep_1 rfl (lv_at hl 0 rfl) ?_
  refine xr_gN h hX hI xl_X0_22_0.g dX0_keep_2 (fun v5 h => ?_)
  refine xr_callV (iv := (fun b => some (.ref b))) (As := []) (rest := [.ref a0]) h hX hI (fun _ _ h => w_X1_copy h) (fun _ _ h => o_X1_copy h) rfl 0 (lw_V q323 q324 q325 q75 q326) ⟨rfl, xd_X1_copy⟩ ⟨rfl, rfl⟩ rfl hl.1 (Nat.le_of_ble_eq_true rfl) dX0_keep_5 (fun v6 H locs σ cells slots h hI => ?_)
  refine W.eq (g2 := F0 m 8 ls [.ref v6, .ref a0]) rfl ?_
  refine xr_pt h hX hI xl_X0_312_0 (Or.inl rfl) rfl rfl dX0_keep_8 (fun H locs σ h hI => ?_)
  refine lv_aload_n hx hb dX0_keep_11 rfl (lv_at hl 0 rfl) ?_
  refine xr_gN h hX hI xl_X0_22_0.g dX0_keep_12 (fun v7 h => ?_)
  refine xr_gI h hX hI xl_X0_290_1.g dX0_keep_15 (fun v8 h => ?_)
  exact xr_ireturn h hX hI dX0_keep_18
/-! PayMatchModel.keep()I  -/
theorem w_X3_keep_b32 {a0 : Nat} {r : Int32} (hX : xX E R p m c cX3_keep 2 s args RX3 "keep" meth (some .int) 1 21 σ0 σ9)
    (h : (f_X3_keep_b32 a0).1 σ = some (r, σ9)) (hI : xI E σ0 σ s H locs cells slots) (hl : lv_has ls 2 [(0, .ref a0)]) : W p l e R s m args below meth c H locs cells slots (xMQ E below args s σ0 σ9 (some (.int r))) (F0 m 32 ls []) := by
  have hx := hX.1.1
  have hb := hX.1.2.1
  delta f_X3_keep_b32 at h
  refine lv_aload_n hx hb dX3_keep_32 rfl (lv_at hl 0 rfl) ?_
  refine lv_iconst (v := (1 : Int32)) hx hb dX3_keep_33 (by decide) ?_
  refine xr_ptZ h hX hI xl_X3_228_3 (Or.inl rfl) dX3_keep_34 (fun H locs σ h hI => ?_)
  refine lv_aload_n hx hb dX3_keep_37 rfl (lv_at hl 0 rfl) ?_
  refine lv_iconst (v := (0 : Int32)) hx hb dX3_keep_38 (by decide) ?_
  refine xr_callV (iv := (fun b => some (.int b))) (As := [.int (0 : Int32)]) (rest := []) h hX hI (fun _ _ h => w_X3_at h) (fun _ _ h => o_X3_at h) rfl 1 (lw_V q2022 q2024 qs31 q87 q2025) ⟨rfl, xd_X3_at⟩ ⟨rfl, rfl⟩ rfl hl.1 (Nat.le_of_ble_eq_true rfl) dX3_keep_39 (fun v8 H locs σ cells slots h hI => ?_)
  refine W.eq (g2 := F0 m 42 ls [.int v8]) rfl ?_
  exact xr_ireturn h hX hI dX3_keep_42
theorem w_X3_keep_b7 {rec7 : Nat → Int32 → xM Int32} {a0 : Nat} {a1 : Int32} {r : Int32} (hX : xX E R p m c cX3_keep 2 s args RX3 "keep" meth (some .int) 1 21 σ0 σ9) (hrec7 : ∀ (a0 : Nat) (a1 : Int32) (σ : xS) (H : Heap) (locs : List Loc) (cells slots : Nat) (ls : Array Slot), (rec7 a0 a1).1 σ = some (r, σ9) → xI E σ0 σ s H locs cells slots → lv_has ls 2 [(0, .ref a0), (1, .int a1)] → W p l e R s m args below meth c H locs cells slots (xMQ E below args s σ0 σ9 (some (.int r))) (F0 m 7 ls []))
    (h : (f_X3_keep_b7 rec7 a0 a1).1 σ = some (r, σ9)) (hI : xI E σ0 σ s H locs cells slots) (hl : lv_has ls 2 [(0, .ref a0), (1, .int a1)]) : W p l e R s m args below meth c H locs cells slots (xMQ E below args s σ0 σ9 (some (.int r))) (F0 m 7 ls []) := by
  have hx := hX.1.1
  have hb := hX.1.2.1
  delta f_X3_keep_b7 at h
  refine lv_iload_n hx hb dX3_keep_7 rfl (lv_at hl 1 rfl) ?_
  refine lv_sipush (v := (1411 : Int32)) hx hb dX3_keep_8 (by decide) ?_
  refine lv_icmp_ge (tgt := 32) hx hb dX3_keep_11 (by decide) (fun hc => ?_) (fun hc => ?_)
  · have h := xif_t h hc
    exact w_X3_keep_b32 hX h hI (lv_sub hl [0] rfl)
  · have h := xif_f h hc
    refine lv_aload_n hx hb dX3_keep_14 rfl (lv_at hl 0 rfl) ?_
    refine xr_gN h hX hI xl_X3_20_3.g dX3_keep_15 (fun v5 h => ?_)
    refine lv_iload_n hx hb dX3_keep_18 rfl (lv_at hl 1 rfl) ?_
    refine lv_aload_n hx hb dX3_keep_19 rfl (lv_at hl 0 rfl) ?_
    refine xr_gN h hX hI xl_X3_13_3.g dX3_keep_20 (fun v6 h => ?_)
    refine lv_iload_n hx hb dX3_keep_23 rfl (lv_at hl 1 rfl) ?_
    refine xr_ldL h hX hI dX3_keep_24 (fun v7 h => ?_)
    refine xr_stL h hX hI dX3_keep_25 (fun H locs σ h hI => ?_)
    refine lv_iinc (k := 1) (lv' := [(1, .int (a1 + (1 : Int32))), (0, .ref a0)]) hx hb dX3_keep_26 hl rfl (xiinc (by decide)) (Nat.le_of_ble_eq_true rfl) rfl (fun ls hl => ?_)
    refine lv_goto (tgt := 7) hx hb dX3_keep_29 (by decide) ?_
    exact hrec7 a0 (a1 + (1 : Int32)) _ _ _ _ _ _ h hI (lv_sub hl [1, 0] rfl)
theorem w_X3_keep_L7 {r : Int32} (hX : xX E R p m c cX3_keep 2 s args RX3 "keep" meth (some .int) 1 21 σ0 σ9) : ∀ (n : Nat) (a0 : Nat) (a1 : Int32) (σ : xS) (H : Heap) (locs : List Loc) (cells slots : Nat) (ls : Array Slot), (f_X3_keep_L7 n a0 a1).1 σ = some (r, σ9) → xI E σ0 σ s H locs cells slots → lv_has ls 2 [(0, .ref a0), (1, .int a1)] → W p l e R s m args below meth c H locs cells slots (xMQ E below args s σ0 σ9 (some (.int r))) (F0 m 7 ls []) := by
  intro n
  induction n with
  | zero =>
    intro a0 a1 σ H locs cells slots ls h
    exact xr_no h
  | succ n ih =>
    intro a0 a1 σ H locs cells slots ls h hI hl
    exact w_X3_keep_b7 hX ih h hI hl
theorem o_X3_keep {a0 : Nat} {r : Int32} {σ σ9 : xS} (h : (f_X3_keep a0).1 σ = some (r, σ9)) : ∃ fs, σ.1 a0 = some (.inl (3, fs)) := xck_of h
theorem w_X3_keep {E : xE} {l : Launch} {a0 : Nat} {r : Int32} {σ σ9 : xS} (h : (f_X3_keep a0).1 σ = some (r, σ9)) : xMet E l yX3_keep (ws_ yX3_keep cX3_keep 2 (some .int)) 1 21 [.ref a0] σ σ9 (some (.int r)) := by
  refine xstart (by decide +kernel) ((f_X3_keep a0).2 _ _ _ h) (Nat.le_of_ble_eq_true rfl) ?_
  intro p e s m args below meth c H locs cells slots ls R hX hI hl
  have hx := hX.1.1
  have hb := hX.1.2.1
  have hl : lv_has ls 2 [(0, .ref a0)] := hl
  generalize hσ0 : σ = σ0 at hX hI ⊢
  have h : (f_X3_keep a0).1 σ0 = some (r, σ9) := by rw [← hσ0]; exact h
  clear hσ0
  delta f_X3_keep at h
  have h := (xck_bd h).2
  refine lv_aload_n hx hb dX3_keep_0 rfl (lv_at hl 0 rfl) ?_
  refine lv_iconst (v := (0 : Int32)) hx hb dX3_keep_1 (by decide) ?_
  refine xr_pt h hX hI xl_X3_1_3 (Or.inl rfl) rfl rfl dX3_keep_2 (fun H locs σ h hI => ?_)
  refine lv_iconst (v := (0 : Int32)) hx hb dX3_keep_5 (by decide) ?_
  refine lv_istore_n (lv' := [(1, .int (0 : Int32)), (0, .ref a0)]) hx hb dX3_keep_6 rfl hl (Nat.le_of_ble_eq_true rfl) rfl (fun ls hl => ?_)
  exact w_X3_keep_L7 hX xFU a0 (0 : Int32) _ _ _ _ _ _ h hI (lv_sub hl [1, 0] rfl)
/-! PayMatch.restore()I  -/
theorem o_X0_restore {a0 : Nat} {r : Int32} {σ σ9 : xS} (h : (f_X0_restore a0).1 σ = some (r, σ9)) : ∃ fs, σ.1 a0 = some (.inl (0, fs)) := xck_of h
theorem w_X0_restore {E : xE} {l : Launch} {a0 : Nat} {r : Int32} {σ σ9 : xS} (h : (f_X0_restore a0).1 σ = some (r, σ9)) : xMet E l yX0_restore (ws_ yX0_restore cX0_restore 1 (some .int)) 14 438 [.ref a0] σ σ9 (some (.int r)) := by
  refine xstart (by decide +kernel) ((f_X0_restore a0).2 _ _ _ h) (Nat.le_of_ble_eq_true rfl) ?_
  intro p e s m args below meth c H locs cells slots ls R hX hI hl
  have hx := hX.1.1
  have hb := hX.1.2.1
  have hl : lv_has ls 1 [(0, .ref a0)] := hl
  generalize hσ0 : σ = σ0 at hX hI ⊢
  have h : (f_X0_restore a0).1 σ0 = some (r, σ9) := by rw [← hσ0]; exact h
  clear hσ0
  delta f_X0_restore at h
  have h := (xck_bd h).2
  refine lv_aload_n hx hb dX0_restore_0 rfl (lv_at hl 0 rfl) ?_
  refine xr_gQ h hX hI xl_X0_312_0.g dX0_restore_1 (fun h => ?_) (fun v9 h => ?_)
  · refine lv_ifnonnullN hx hb dX0_restore_4 ?_
    refine lv_bipush (v := (-5 : Int32)) hx hb dX0_restore_7 (by decide) ?_
    refine lv_goto (tgt := 30) hx hb dX0_restore_9 (by decide) ?_
    exact xr_ireturn h hX hI dX0_restore_30
  · refine lv_ifnonnull (tgt := 12) hx hb dX0_restore_4 (by decide) ?_
    refine lv_aload_n hx hb dX0_restore_12 rfl (lv_at hl 0 rfl) ?_
    refine lv_aload_n hx hb dX0_restore_13 rfl (lv_at hl 0 rfl) ?_
    refine xr_gQ h hX hI xl_X0_312_0.g dX0_restore_14 (fun h => ?_) (fun v10 h => ?_)
    · exact xr_no h
    · refine xr_callV (iv := (fun b => some (.ref b))) (As := []) (rest := [.ref a0]) h hX hI (fun _ _ h => w_X1_copy h) (fun _ _ h => o_X1_copy h) rfl 0 (lw_V q323 q324 q325 q75 q326) ⟨rfl, xd_X1_copy⟩ ⟨rfl, rfl⟩ rfl hl.1 (Nat.le_of_ble_eq_true rfl) dX0_restore_17 (fun v11 H locs σ cells slots h hI => ?_)
      refine W.eq (g2 := F0 m 20 ls [.ref v11, .ref a0]) rfl ?_
      refine lv_aload_n hx hb dX0_restore_20 rfl (lv_at hl 0 rfl) ?_
      refine xr_gQ h hX hI xl_X0_312_0.g dX0_restore_21 (fun h => ?_) (fun v12 h => ?_)
      · exact xr_no h
      · refine xr_gI h hX hI xl_X0_290_1.g dX0_restore_24 (fun v13 h => ?_)
        refine xr_callV (iv := (fun b => some (.int b))) (As := [.ref v11, .int v13]) (rest := []) h hX hI (fun _ _ h => w_X0_become h) (fun _ _ h => o_X0_become h) rfl 2 (lw_V q1182 q1184 qs9 q74 q1185) ⟨rfl, xd_X0_become⟩ ⟨rfl, rfl⟩ rfl hl.1 (Nat.le_of_ble_eq_true rfl) dX0_restore_27 (fun v14 H locs σ cells slots h hI => ?_)
        refine W.eq (g2 := F0 m 30 ls [.int v14]) rfl ?_
        exact xr_ireturn h hX hI dX0_restore_30
/-! PayMatchModel.restore()I  -/
theorem w_X3_restore_b41 {a0 : Nat} {r : Int32} (hX : xX E R p m c cX3_restore 2 s args RX3 "restore" meth (some .int) 1 22 σ0 σ9)
    (h : (f_X3_restore_b41 a0).1 σ = some (r, σ9)) (hI : xI E σ0 σ s H locs cells slots) (hl : lv_has ls 2 [(0, .ref a0)]) : W p l e R s m args below meth c H locs cells slots (xMQ E below args s σ0 σ9 (some (.int r))) (F0 m 41 ls []) := by
  have hx := hX.1.1
  have hb := hX.1.2.1
  delta f_X3_restore_b41 at h
  refine lv_aload_n hx hb dX3_restore_41 rfl (lv_at hl 0 rfl) ?_
  refine lv_aload_n hx hb dX3_restore_42 rfl (lv_at hl 0 rfl) ?_
  refine lv_iconst (v := (0 : Int32)) hx hb dX3_restore_43 (by decide) ?_
  refine xr_callV (iv := (fun b => some (.int b))) (As := [.int (0 : Int32)]) (rest := [.ref a0]) h hX hI (fun _ _ h => w_X3_at h) (fun _ _ h => o_X3_at h) rfl 1 (lw_V q2022 q2024 qs31 q87 q2025) ⟨rfl, xd_X3_at⟩ ⟨rfl, rfl⟩ rfl hl.1 (Nat.le_of_ble_eq_true rfl) dX3_restore_44 (fun v10 H locs σ cells slots h hI => ?_)
  refine W.eq (g2 := F0 m 47 ls [.int v10, .ref a0]) rfl ?_
  refine xr_callV (iv := (fun b => some (.int b))) (As := [.int v10]) (rest := []) h hX hI (fun _ _ h => w_X3_acted h) (fun _ _ h => o_X3_acted h) rfl 1 (lw_V q2031 q2033 qs32 q87 q2034) ⟨rfl, xd_X3_acted⟩ ⟨rfl, rfl⟩ rfl hl.1 (Nat.le_of_ble_eq_true rfl) dX3_restore_47 (fun v11 H locs σ cells slots h hI => ?_)
  refine W.eq (g2 := F0 m 50 ls [.int v11]) rfl ?_
  exact xr_ireturn h hX hI dX3_restore_50
theorem w_X3_restore_b16 {rec16 : Nat → Int32 → xM Int32} {a0 : Nat} {a1 : Int32} {r : Int32} (hX : xX E R p m c cX3_restore 2 s args RX3 "restore" meth (some .int) 1 22 σ0 σ9) (hrec16 : ∀ (a0 : Nat) (a1 : Int32) (σ : xS) (H : Heap) (locs : List Loc) (cells slots : Nat) (ls : Array Slot), (rec16 a0 a1).1 σ = some (r, σ9) → xI E σ0 σ s H locs cells slots → lv_has ls 2 [(0, .ref a0), (1, .int a1)] → W p l e R s m args below meth c H locs cells slots (xMQ E below args s σ0 σ9 (some (.int r))) (F0 m 16 ls []))
    (h : (f_X3_restore_b16 rec16 a0 a1).1 σ = some (r, σ9)) (hI : xI E σ0 σ s H locs cells slots) (hl : lv_has ls 2 [(0, .ref a0), (1, .int a1)]) : W p l e R s m args below meth c H locs cells slots (xMQ E below args s σ0 σ9 (some (.int r))) (F0 m 16 ls []) := by
  have hx := hX.1.1
  have hb := hX.1.2.1
  delta f_X3_restore_b16 at h
  refine lv_iload_n hx hb dX3_restore_16 rfl (lv_at hl 1 rfl) ?_
  refine lv_sipush (v := (1411 : Int32)) hx hb dX3_restore_17 (by decide) ?_
  refine lv_icmp_ge (tgt := 41) hx hb dX3_restore_20 (by decide) (fun hc => ?_) (fun hc => ?_)
  · have h := xif_t h hc
    exact w_X3_restore_b41 hX h hI (lv_sub hl [0] rfl)
  · have h := xif_f h hc
    refine lv_aload_n hx hb dX3_restore_23 rfl (lv_at hl 0 rfl) ?_
    refine xr_gN h hX hI xl_X3_13_3.g dX3_restore_24 (fun v7 h => ?_)
    refine lv_iload_n hx hb dX3_restore_27 rfl (lv_at hl 1 rfl) ?_
    refine lv_aload_n hx hb dX3_restore_28 rfl (lv_at hl 0 rfl) ?_
    refine xr_gN h hX hI xl_X3_20_3.g dX3_restore_29 (fun v8 h => ?_)
    refine lv_iload_n hx hb dX3_restore_32 rfl (lv_at hl 1 rfl) ?_
    refine xr_ldL h hX hI dX3_restore_33 (fun v9 h => ?_)
    refine xr_stL h hX hI dX3_restore_34 (fun H locs σ h hI => ?_)
    refine lv_iinc (k := 1) (lv' := [(1, .int (a1 + (1 : Int32))), (0, .ref a0)]) hx hb dX3_restore_35 hl rfl (xiinc (by decide)) (Nat.le_of_ble_eq_true rfl) rfl (fun ls hl => ?_)
    refine lv_goto (tgt := 16) hx hb dX3_restore_38 (by decide) ?_
    exact hrec16 a0 (a1 + (1 : Int32)) _ _ _ _ _ _ h hI (lv_sub hl [1, 0] rfl)
theorem w_X3_restore_L16 {r : Int32} (hX : xX E R p m c cX3_restore 2 s args RX3 "restore" meth (some .int) 1 22 σ0 σ9) : ∀ (n : Nat) (a0 : Nat) (a1 : Int32) (σ : xS) (H : Heap) (locs : List Loc) (cells slots : Nat) (ls : Array Slot), (f_X3_restore_L16 n a0 a1).1 σ = some (r, σ9) → xI E σ0 σ s H locs cells slots → lv_has ls 2 [(0, .ref a0), (1, .int a1)] → W p l e R s m args below meth c H locs cells slots (xMQ E below args s σ0 σ9 (some (.int r))) (F0 m 16 ls []) := by
  intro n
  induction n with
  | zero =>
    intro a0 a1 σ H locs cells slots ls h
    exact xr_no h
  | succ n ih =>
    intro a0 a1 σ H locs cells slots ls h hI hl
    exact w_X3_restore_b16 hX ih h hI hl
theorem o_X3_restore {a0 : Nat} {r : Int32} {σ σ9 : xS} (h : (f_X3_restore a0).1 σ = some (r, σ9)) : ∃ fs, σ.1 a0 = some (.inl (3, fs)) := xck_of h
theorem w_X3_restore {E : xE} {l : Launch} {a0 : Nat} {r : Int32} {σ σ9 : xS} (h : (f_X3_restore a0).1 σ = some (r, σ9)) : xMet E l yX3_restore (ws_ yX3_restore cX3_restore 2 (some .int)) 1 22 [.ref a0] σ σ9 (some (.int r)) := by
  refine xstart (by decide +kernel) ((f_X3_restore a0).2 _ _ _ h) (Nat.le_of_ble_eq_true rfl) ?_
  intro p e s m args below meth c H locs cells slots ls R hX hI hl
  have hx := hX.1.1
  have hb := hX.1.2.1
  have hl : lv_has ls 2 [(0, .ref a0)] := hl
  generalize hσ0 : σ = σ0 at hX hI ⊢
  have h : (f_X3_restore a0).1 σ0 = some (r, σ9) := by rw [← hσ0]; exact h
  clear hσ0
  delta f_X3_restore at h
  have h := (xck_bd h).2
  refine lv_aload_n hx hb dX3_restore_0 rfl (lv_at hl 0 rfl) ?_
  refine xr_callV (iv := (fun _ => none)) (As := []) (rest := []) h hX hI (fun _ _ h => w_X3_aside h) (fun _ _ h => o_X3_aside h) rfl 0 (lw_V q2018 q2020 qs30 q87 q2021) ⟨rfl, xd_X3_aside⟩ ⟨rfl, rfl⟩ rfl hl.1 (Nat.le_of_ble_eq_true rfl) dX3_restore_1 (fun _ H locs σ cells slots h hI => ?_)
  refine lv_aload_n hx hb dX3_restore_4 rfl (lv_at hl 0 rfl) ?_
  refine xr_gI h hX hI xl_X3_228_3.g dX3_restore_5 (fun v12 h => ?_)
  refine lv_if_ne (tgt := 14) hx hb dX3_restore_8 (by decide) (fun hc => ?_) (fun hc => ?_)
  · have h := xif_f h hc
    refine lv_iconst (v := (0 : Int32)) hx hb dX3_restore_14 (by decide) ?_
    refine lv_istore_n (lv' := [(1, .int (0 : Int32)), (0, .ref a0)]) hx hb dX3_restore_15 rfl hl (Nat.le_of_ble_eq_true rfl) rfl (fun ls hl => ?_)
    exact w_X3_restore_L16 hX xFU a0 (0 : Int32) _ _ _ _ _ _ h hI (lv_sub hl [1, 0] rfl)
  · have h := xif_t h hc
    refine lv_bipush (v := (-5 : Int32)) hx hb dX3_restore_11 (by decide) ?_
    exact xr_ireturn h hX hI dX3_restore_13
/-! PayMatch$State.ordersOf(I)I  -/
theorem w_X1_ordersOf_b45 {rec10 : Int32 → Int32 → Nat → xM Int32} {t0 : Int32} {t1 : Int32} {a1 : Int32} {a3 : Nat} {r : Int32} (hX : xX E R p m c cX1_ordersOf 5 s args RX1 "ordersOf" meth (some .int) 4 121 σ0 σ9) (hrec10 : ∀ (a1 : Int32) (a2 : Int32) (a3 : Nat) (σ : xS) (H : Heap) (locs : List Loc) (cells slots : Nat) (ls : Array Slot), (rec10 a1 a2 a3).1 σ = some (r, σ9) → xI E σ0 σ s H locs cells slots → lv_has ls 5 [(1, .int a1), (2, .int a2), (3, .ref a3)] → W p l e R s m args below meth c H locs cells slots (xMQ E below args s σ0 σ9 (some (.int r))) (F0 m 10 ls []))
    (h : (f_X1_ordersOf_b45 rec10 t0 t1 a1 a3).1 σ = some (r, σ9)) (hI : xI E σ0 σ s H locs cells slots) (hl : lv_has ls 5 [(1, .int a1), (3, .ref a3)]) : W p l e R s m args below meth c H locs cells slots (xMQ E below args s σ0 σ9 (some (.int r))) (F0 m 45 ls [.int t1, .int t0]) := by
  have hx := hX.1.1
  have hb := hX.1.2.1
  delta f_X1_ordersOf_b45 at h
  refine lv_iadd hx hb dX1_ordersOf_45 ?_
  refine lv_istore_n (lv' := [(2, .int (t0 + t1)), (1, .int a1), (3, .ref a3)]) hx hb dX1_ordersOf_46 rfl hl (Nat.le_of_ble_eq_true rfl) rfl (fun ls hl => ?_)
  refine lv_goto (tgt := 10) hx hb dX1_ordersOf_47 (by decide) ?_
  exact hrec10 a1 (t0 + t1) a3 _ _ _ _ _ _ h hI (lv_sub hl [1, 0, 2] rfl)
theorem w_X1_ordersOf_b10 {rec10 : Int32 → Int32 → Nat → xM Int32} {a1 : Int32} {a2 : Int32} {a3 : Nat} {r : Int32} (hX : xX E R p m c cX1_ordersOf 5 s args RX1 "ordersOf" meth (some .int) 4 121 σ0 σ9) (hrec10 : ∀ (a1 : Int32) (a2 : Int32) (a3 : Nat) (σ : xS) (H : Heap) (locs : List Loc) (cells slots : Nat) (ls : Array Slot), (rec10 a1 a2 a3).1 σ = some (r, σ9) → xI E σ0 σ s H locs cells slots → lv_has ls 5 [(1, .int a1), (2, .int a2), (3, .ref a3)] → W p l e R s m args below meth c H locs cells slots (xMQ E below args s σ0 σ9 (some (.int r))) (F0 m 10 ls []))
    (h : (f_X1_ordersOf_b10 rec10 a1 a2 a3).1 σ = some (r, σ9)) (hI : xI E σ0 σ s H locs cells slots) (hl : lv_has ls 5 [(1, .int a1), (2, .int a2), (3, .ref a3)]) : W p l e R s m args below meth c H locs cells slots (xMQ E below args s σ0 σ9 (some (.int r))) (F0 m 10 ls []) := by
  have hx := hX.1.1
  have hb := hX.1.2.1
  delta f_X1_ordersOf_b10 at h
  refine lv_aload_n hx hb dX1_ordersOf_10 rfl (lv_at hl 2 rfl) ?_
  refine xr_callF (iv := (fun b => some (.int b))) (As := []) (rest := []) h hX hI (fun _ _ h => w_J10_hasNext h) (fun _ _ h => o_J10_hasNext h) rfl 0 xfw_4 q1168 q460 q462 q89 q464 xdi_4 ⟨rfl, rfl⟩ rfl hl.1 (Nat.le_of_ble_eq_true rfl) dX1_ordersOf_11 (fun v6 H locs σ cells slots h hI => ?_)
  refine W.eq (g2 := F0 m 16 ls [.int v6]) rfl ?_
  refine lv_if_eq (tgt := 50) hx hb dX1_ordersOf_16 (by decide) (fun hc => ?_) (fun hc => ?_)
  · have h := xif_t h hc
    refine lv_iload_n hx hb dX1_ordersOf_50 rfl (lv_at hl 1 rfl) ?_
    exact xr_ireturn h hX hI dX1_ordersOf_51
  · have h := xif_f h hc
    refine lv_aload_n hx hb dX1_ordersOf_19 rfl (lv_at hl 2 rfl) ?_
    refine xr_callF (iv := (fun b => some (.ref b))) (As := []) (rest := []) h hX hI (fun _ _ h => w_J10_next h) (fun _ _ h => o_J10_next h) rfl 0 xfw_6 q1170 q828 q830 q89 q832 xdi_6 ⟨rfl, rfl⟩ rfl hl.1 (Nat.le_of_ble_eq_true rfl) dX1_ordersOf_20 (fun v7 H locs σ cells slots h hI => ?_)
    refine W.eq (g2 := F0 m 25 ls [.ref v7]) rfl ?_
    refine xr_cks h hX hI xc_X1_92 dX1_ordersOf_25 (fun h => ?_)
    refine lv_astore (lv' := [(4, .ref v7), (1, .int a1), (2, .int a2), (3, .ref a3)]) hx hb dX1_ordersOf_28 hl (Nat.le_of_ble_eq_true rfl) rfl (fun ls hl => ?_)
    refine lv_iload_n hx hb dX1_ordersOf_30 rfl (lv_at hl 2 rfl) ?_
    refine lv_aload hx hb dX1_ordersOf_31 (lv_at hl 0 rfl) ?_
    refine xr_gI h hX hI xl_X1_94_6 dX1_ordersOf_33 (fun v8 h => ?_)
    refine lv_iload_n hx hb dX1_ordersOf_36 rfl (lv_at hl 1 rfl) ?_
    refine lv_icmp_ne (tgt := 44) hx hb dX1_ordersOf_37 (by decide) (fun hc => ?_) (fun hc => ?_)
    · have h := xif_f h hc
      refine lv_iconst (v := (0 : Int32)) hx hb dX1_ordersOf_44 (by decide) ?_
      exact w_X1_ordersOf_b45 hX hrec10 h hI (lv_sub hl [1, 3] rfl)
    · have h := xif_t h hc
      refine lv_iconst (v := (1 : Int32)) hx hb dX1_ordersOf_40 (by decide) ?_
      refine lv_goto (tgt := 45) hx hb dX1_ordersOf_41 (by decide) ?_
      exact w_X1_ordersOf_b45 hX hrec10 h hI (lv_sub hl [1, 3] rfl)
theorem w_X1_ordersOf_L10 {r : Int32} (hX : xX E R p m c cX1_ordersOf 5 s args RX1 "ordersOf" meth (some .int) 4 121 σ0 σ9) : ∀ (n : Nat) (a1 : Int32) (a2 : Int32) (a3 : Nat) (σ : xS) (H : Heap) (locs : List Loc) (cells slots : Nat) (ls : Array Slot), (f_X1_ordersOf_L10 n a1 a2 a3).1 σ = some (r, σ9) → xI E σ0 σ s H locs cells slots → lv_has ls 5 [(1, .int a1), (2, .int a2), (3, .ref a3)] → W p l e R s m args below meth c H locs cells slots (xMQ E below args s σ0 σ9 (some (.int r))) (F0 m 10 ls []) := by
  intro n
  induction n with
  | zero =>
    intro a1 a2 a3 σ H locs cells slots ls h
    exact xr_no h
  | succ n ih =>
    intro a1 a2 a3 σ H locs cells slots ls h hI hl
    exact w_X1_ordersOf_b10 hX ih h hI hl
theorem o_X1_ordersOf {a0 : Nat} {a1 : Int32} {r : Int32} {σ σ9 : xS} (h : (f_X1_ordersOf a0 a1).1 σ = some (r, σ9)) : ∃ fs, σ.1 a0 = some (.inl (1, fs)) := xck_of h
theorem w_X1_ordersOf {E : xE} {l : Launch} {a0 : Nat} {a1 : Int32} {r : Int32} {σ σ9 : xS} (h : (f_X1_ordersOf a0 a1).1 σ = some (r, σ9)) : xMet E l yX1_ordersOf (ws_ yX1_ordersOf cX1_ordersOf 5 (some .int)) 4 121 [.ref a0, .int a1] σ σ9 (some (.int r)) := by
  refine xstart (by decide +kernel) ((f_X1_ordersOf a0 a1).2 _ _ _ h) (Nat.le_of_ble_eq_true rfl) ?_
  intro p e s m args below meth c H locs cells slots ls R hX hI hl
  have hx := hX.1.1
  have hb := hX.1.2.1
  have hl : lv_has ls 5 [(0, .ref a0), (1, .int a1)] := hl
  generalize hσ0 : σ = σ0 at hX hI ⊢
  have h : (f_X1_ordersOf a0 a1).1 σ0 = some (r, σ9) := by rw [← hσ0]; exact h
  clear hσ0
  delta f_X1_ordersOf at h
  have h := (xck_bd h).2
  refine lv_iconst (v := (0 : Int32)) hx hb dX1_ordersOf_0 (by decide) ?_
  refine lv_istore_n (lv' := [(2, .int (0 : Int32)), (0, .ref a0), (1, .int a1)]) hx hb dX1_ordersOf_1 rfl hl (Nat.le_of_ble_eq_true rfl) rfl (fun ls hl => ?_)
  refine lv_aload_n hx hb dX1_ordersOf_2 rfl (lv_at hl 1 rfl) ?_
  refine xr_gN h hX hI xl_X1_18_1.g dX1_ordersOf_3 (fun v9 h => ?_)
  refine xr_callV (iv := (fun b => some (.ref b))) (As := []) (rest := []) h hX hI (fun _ _ h => w_X2_iterator h) (fun _ _ h => o_X2_iterator h) rfl 0 (lw_V q1276 q1277 q1278 q76 q1279) ⟨rfl, xd_X2_iterator⟩ ⟨rfl, rfl⟩ rfl hl.1 (Nat.le_of_ble_eq_true rfl) dX1_ordersOf_6 (fun v10 H locs σ cells slots h hI => ?_)
  refine W.eq (g2 := F0 m 9 ls [.ref v10]) rfl ?_
  refine lv_astore_n (lv' := [(3, .ref v10), (2, .int (0 : Int32)), (0, .ref a0), (1, .int a1)]) hx hb dX1_ordersOf_9 rfl hl (Nat.le_of_ble_eq_true rfl) rfl (fun ls hl => ?_)
  exact w_X1_ordersOf_L10 hX xFU a1 (0 : Int32) v10 _ _ _ _ _ _ h hI (lv_sub hl [3, 1, 0] rfl)
/-! PayMatch.supplier(II)I  -/
theorem w_X0_supplier_b80 {a3 : Nat} {r : Int32} (hX : xX E R p m c cX0_supplier 4 s args RX0 "supplier" meth (some .int) 5 146 σ0 σ9)
    (h : (f_X0_supplier_b80 a3).1 σ = some (r, σ9)) (hI : xI E σ0 σ s H locs cells slots) (hl : lv_has ls 4 [(3, .ref a3)]) : W p l e R s m args below meth c H locs cells slots (xMQ E below args s σ0 σ9 (some (.int r))) (F0 m 80 ls []) := by
  have hx := hX.1.1
  have hb := hX.1.2.1
  delta f_X0_supplier_b80 at h
  refine lv_aload_n hx hb dX0_supplier_80 rfl (lv_at hl 0 rfl) ?_
  refine xr_gI h hX hI xl_X0_107_7.g dX0_supplier_81 (fun v26 h => ?_)
  refine lv_goto (tgt := 155) hx hb dX0_supplier_84 (by decide) ?_
  exact xr_ireturn h hX hI dX0_supplier_155
theorem w_X0_supplier_b87 {a3 : Nat} {r : Int32} (hX : xX E R p m c cX0_supplier 4 s args RX0 "supplier" meth (some .int) 5 146 σ0 σ9)
    (h : (f_X0_supplier_b87 a3).1 σ = some (r, σ9)) (hI : xI E σ0 σ s H locs cells slots) (hl : lv_has ls 4 [(3, .ref a3)]) : W p l e R s m args below meth c H locs cells slots (xMQ E below args s σ0 σ9 (some (.int r))) (F0 m 87 ls []) := by
  have hx := hX.1.1
  have hb := hX.1.2.1
  delta f_X0_supplier_b87 at h
  refine lv_aload_n hx hb dX0_supplier_87 rfl (lv_at hl 0 rfl) ?_
  refine xr_gI h hX hI xl_X0_315_7.g dX0_supplier_88 (fun v25 h => ?_)
  refine lv_goto (tgt := 155) hx hb dX0_supplier_91 (by decide) ?_
  exact xr_ireturn h hX hI dX0_supplier_155
theorem w_X0_supplier_b94 {a3 : Nat} {r : Int32} (hX : xX E R p m c cX0_supplier 4 s args RX0 "supplier" meth (some .int) 5 146 σ0 σ9)
    (h : (f_X0_supplier_b94 a3).1 σ = some (r, σ9)) (hI : xI E σ0 σ s H locs cells slots) (hl : lv_has ls 4 [(3, .ref a3)]) : W p l e R s m args below meth c H locs cells slots (xMQ E below args s σ0 σ9 (some (.int r))) (F0 m 94 ls []) := by
  have hx := hX.1.1
  have hb := hX.1.2.1
  delta f_X0_supplier_b94 at h
  refine lv_aload_n hx hb dX0_supplier_94 rfl (lv_at hl 0 rfl) ?_
  refine xr_gI h hX hI xl_X0_111_7.g dX0_supplier_95 (fun v24 h => ?_)
  refine lv_if_eq (tgt := 105) hx hb dX0_supplier_98 (by decide) (fun hc => ?_) (fun hc => ?_)
  · have h := xif_t h hc
    refine lv_iconst (v := (0 : Int32)) hx hb dX0_supplier_105 (by decide) ?_
    refine lv_goto (tgt := 155) hx hb dX0_supplier_106 (by decide) ?_
    exact xr_ireturn h hX hI dX0_supplier_155
  · have h := xif_f h hc
    refine lv_iconst (v := (1 : Int32)) hx hb dX0_supplier_101 (by decide) ?_
    refine lv_goto (tgt := 155) hx hb dX0_supplier_102 (by decide) ?_
    exact xr_ireturn h hX hI dX0_supplier_155
theorem w_X0_supplier_b109 {a0 : Nat} {a1 : Int32} {r : Int32} (hX : xX E R p m c cX0_supplier 4 s args RX0 "supplier" meth (some .int) 5 146 σ0 σ9)
    (h : (f_X0_supplier_b109 a0 a1).1 σ = some (r, σ9)) (hI : xI E σ0 σ s H locs cells slots) (hl : lv_has ls 4 [(0, .ref a0), (1, .int a1)]) : W p l e R s m args below meth c H locs cells slots (xMQ E below args s σ0 σ9 (some (.int r))) (F0 m 109 ls []) := by
  have hx := hX.1.1
  have hb := hX.1.2.1
  delta f_X0_supplier_b109 at h
  refine lv_aload_n hx hb dX0_supplier_109 rfl (lv_at hl 0 rfl) ?_
  refine xr_gN h hX hI xl_X0_22_0.g dX0_supplier_110 (fun v22 h => ?_)
  refine lv_iload_n hx hb dX0_supplier_113 rfl (lv_at hl 1 rfl) ?_
  refine xr_callV (iv := (fun b => some (.int b))) (As := [.int a1]) (rest := []) h hX hI (fun _ _ h => w_X1_ordersOf h) (fun _ _ h => o_X1_ordersOf h) rfl 1 (lw_V q1857 q1858 q1859 q75 q1860) ⟨rfl, xd_X1_ordersOf⟩ ⟨rfl, rfl⟩ rfl hl.1 (Nat.le_of_ble_eq_true rfl) dX0_supplier_114 (fun v23 H locs σ cells slots h hI => ?_)
  refine W.eq (g2 := F0 m 117 ls [.int v23]) rfl ?_
  refine lv_goto (tgt := 155) hx hb dX0_supplier_117 (by decide) ?_
  exact xr_ireturn h hX hI dX0_supplier_155
theorem w_X0_supplier_b120 {a0 : Nat} {a1 : Int32} {r : Int32} (hX : xX E R p m c cX0_supplier 4 s args RX0 "supplier" meth (some .int) 5 146 σ0 σ9)
    (h : (f_X0_supplier_b120 a0 a1).1 σ = some (r, σ9)) (hI : xI E σ0 σ s H locs cells slots) (hl : lv_has ls 4 [(0, .ref a0), (1, .int a1)]) : W p l e R s m args below meth c H locs cells slots (xMQ E below args s σ0 σ9 (some (.int r))) (F0 m 120 ls []) := by
  have hx := hX.1.1
  have hb := hX.1.2.1
  delta f_X0_supplier_b120 at h
  refine lv_aload_n hx hb dX0_supplier_120 rfl (lv_at hl 0 rfl) ?_
  refine xr_gN h hX hI xl_X0_22_0.g dX0_supplier_121 (fun v20 h => ?_)
  refine lv_iload_n hx hb dX0_supplier_124 rfl (lv_at hl 1 rfl) ?_
  refine lv_iconst (v := (1 : Int32)) hx hb dX0_supplier_125 (by decide) ?_
  refine xr_callV (iv := (fun b => some (.int b))) (As := [.int a1, .int (1 : Int32)]) (rest := []) h hX hI (fun _ _ h => w_X1_invoicesOf h) (fun _ _ h => o_X1_invoicesOf h) rfl 2 (lw_V q1272 q1273 q1274 q75 q1275) ⟨rfl, xd_X1_invoicesOf⟩ ⟨rfl, rfl⟩ rfl hl.1 (Nat.le_of_ble_eq_true rfl) dX0_supplier_126 (fun v21 H locs σ cells slots h hI => ?_)
  refine W.eq (g2 := F0 m 129 ls [.int v21]) rfl ?_
  refine lv_goto (tgt := 155) hx hb dX0_supplier_129 (by decide) ?_
  exact xr_ireturn h hX hI dX0_supplier_155
theorem w_X0_supplier_b132 {a3 : Nat} {r : Int32} (hX : xX E R p m c cX0_supplier 4 s args RX0 "supplier" meth (some .int) 5 146 σ0 σ9)
    (h : (f_X0_supplier_b132 a3).1 σ = some (r, σ9)) (hI : xI E σ0 σ s H locs cells slots) (hl : lv_has ls 4 [(3, .ref a3)]) : W p l e R s m args below meth c H locs cells slots (xMQ E below args s σ0 σ9 (some (.int r))) (F0 m 132 ls []) := by
  have hx := hX.1.1
  have hb := hX.1.2.1
  delta f_X0_supplier_b132 at h
  refine lv_aload_n hx hb dX0_supplier_132 rfl (lv_at hl 0 rfl) ?_
  refine xr_gI h hX hI xl_X0_321_7.g dX0_supplier_133 (fun v19 h => ?_)
  refine lv_goto (tgt := 155) hx hb dX0_supplier_136 (by decide) ?_
  exact xr_ireturn h hX hI dX0_supplier_155
theorem w_X0_supplier_b139 {a3 : Nat} {r : Int32} (hX : xX E R p m c cX0_supplier 4 s args RX0 "supplier" meth (some .int) 5 146 σ0 σ9)
    (h : (f_X0_supplier_b139 a3).1 σ = some (r, σ9)) (hI : xI E σ0 σ s H locs cells slots) (hl : lv_has ls 4 [(3, .ref a3)]) : W p l e R s m args below meth c H locs cells slots (xMQ E below args s σ0 σ9 (some (.int r))) (F0 m 139 ls []) := by
  have hx := hX.1.1
  have hb := hX.1.2.1
  delta f_X0_supplier_b139 at h
  refine lv_aload_n hx hb dX0_supplier_139 rfl (lv_at hl 0 rfl) ?_
  refine xr_gI h hX hI xl_X0_324_7.g dX0_supplier_140 (fun v18 h => ?_)
  refine lv_goto (tgt := 155) hx hb dX0_supplier_143 (by decide) ?_
  exact xr_ireturn h hX hI dX0_supplier_155
theorem w_X0_supplier_b146 {a3 : Nat} {r : Int32} (hX : xX E R p m c cX0_supplier 4 s args RX0 "supplier" meth (some .int) 5 146 σ0 σ9)
    (h : (f_X0_supplier_b146 a3).1 σ = some (r, σ9)) (hI : xI E σ0 σ s H locs cells slots) (hl : lv_has ls 4 [(3, .ref a3)]) : W p l e R s m args below meth c H locs cells slots (xMQ E below args s σ0 σ9 (some (.int r))) (F0 m 146 ls []) := by
  have hx := hX.1.1
  have hb := hX.1.2.1
  delta f_X0_supplier_b146 at h
  refine lv_aload_n hx hb dX0_supplier_146 rfl (lv_at hl 0 rfl) ?_
  refine xr_gI h hX hI xl_X0_327_7.g dX0_supplier_147 (fun v17 h => ?_)
  refine lv_goto (tgt := 155) hx hb dX0_supplier_150 (by decide) ?_
  exact xr_ireturn h hX hI dX0_supplier_155
theorem o_X0_supplier {a0 : Nat} {a1 : Int32} {a2 : Int32} {r : Int32} {σ σ9 : xS} (h : (f_X0_supplier a0 a1 a2).1 σ = some (r, σ9)) : ∃ fs, σ.1 a0 = some (.inl (0, fs)) := xck_of h
theorem w_X0_supplier {E : xE} {l : Launch} {a0 : Nat} {a1 : Int32} {a2 : Int32} {r : Int32} {σ σ9 : xS} (h : (f_X0_supplier a0 a1 a2).1 σ = some (r, σ9)) : xMet E l yX0_supplier (ws_ yX0_supplier cX0_supplier 4 (some .int)) 5 146 [.ref a0, .int a1, .int a2] σ σ9 (some (.int r)) := by
  refine xstart (by decide +kernel) ((f_X0_supplier a0 a1 a2).2 _ _ _ h) (Nat.le_of_ble_eq_true rfl) ?_
  intro p e s m args below meth c H locs cells slots ls R hX hI hl
  have hx := hX.1.1
  have hb := hX.1.2.1
  have hl : lv_has ls 4 [(0, .ref a0), (1, .int a1), (2, .int a2)] := hl
  generalize hσ0 : σ = σ0 at hX hI ⊢
  have h : (f_X0_supplier a0 a1 a2).1 σ0 = some (r, σ9) := by rw [← hσ0]; exact h
  clear hσ0
  delta f_X0_supplier at h
  have h := (xck_bd h).2
  refine lv_aload_n hx hb dX0_supplier_0 rfl (lv_at hl 0 rfl) ?_
  refine xr_gN h hX hI xl_X0_22_0.g dX0_supplier_1 (fun v27 h => ?_)
  refine xr_gN h hX hI xl_X0_60_1.g dX0_supplier_4 (fun v28 h => ?_)
  refine lv_iload_n hx hb dX0_supplier_7 rfl (lv_at hl 1 rfl) ?_
  refine xr_callV (iv := (fun b => some (.int b))) (As := [.int a1]) (rest := []) h hX hI (fun _ _ h => w_X2_has h) (fun _ _ h => o_X2_has h) rfl 1 (lw_V q1225 q1226 q1227 q76 q1228) ⟨rfl, xd_X2_has⟩ ⟨rfl, rfl⟩ rfl hl.1 (Nat.le_of_ble_eq_true rfl) dX0_supplier_8 (fun v29 H locs σ cells slots h hI => ?_)
  refine W.eq (g2 := F0 m 11 ls [.int v29]) rfl ?_
  refine lv_if_ne (tgt := 16) hx hb dX0_supplier_11 (by decide) (fun hc => ?_) (fun hc => ?_)
  · have h := xif_f h hc
    refine lv_aload_n hx hb dX0_supplier_16 rfl (lv_at hl 0 rfl) ?_
    refine xr_gN h hX hI xl_X0_22_0.g dX0_supplier_17 (fun v30 h => ?_)
    refine xr_gN h hX hI xl_X0_60_1.g dX0_supplier_20 (fun v31 h => ?_)
    refine lv_iload_n hx hb dX0_supplier_23 rfl (lv_at hl 1 rfl) ?_
    refine xr_callV (iv := (fun b => some (.ref b))) (As := [.int a1]) (rest := []) h hX hI (fun _ _ h => w_X2_get h) (fun _ _ h => o_X2_get h) rfl 1 (lw_V q1249 q1250 q1251 q76 q1252) ⟨rfl, xd_X2_get⟩ ⟨rfl, rfl⟩ rfl hl.1 (Nat.le_of_ble_eq_true rfl) dX0_supplier_24 (fun v32 H locs σ cells slots h hI => ?_)
    refine W.eq (g2 := F0 m 27 ls [.ref v32]) rfl ?_
    refine xr_cks h hX hI xc_X0_71 dX0_supplier_27 (fun h => ?_)
    refine lv_astore_n (lv' := [(3, .ref v32), (0, .ref a0), (1, .int a1), (2, .int a2)]) hx hb dX0_supplier_30 rfl hl (Nat.le_of_ble_eq_true rfl) rfl (fun ls hl => ?_)
    refine lv_iload_n hx hb dX0_supplier_31 rfl (lv_at hl 3 rfl) ?_
    refine xif h (fun hc0 h => ?_) (fun hc0 h => ?_)
    · refine W.eq (g2 := F0 m 32 ls (.int (0 : Int32) :: [])) (by rw [hc0]) ?_
      refine lv_tableIn (tgt := 80) (off := 48) hx hb dX0_supplier_32 (by decide) (by decide) (by decide) (by decide) ?_
      exact w_X0_supplier_b80 hX h hI (lv_sub hl [0] rfl)
    · refine xif h (fun hc1 h => ?_) (fun hc1 h => ?_)
      · refine W.eq (g2 := F0 m 32 ls (.int (1 : Int32) :: [])) (by rw [hc1]) ?_
        refine lv_tableIn (tgt := 87) (off := 55) hx hb dX0_supplier_32 (by decide) (by decide) (by decide) (by decide) ?_
        exact w_X0_supplier_b87 hX h hI (lv_sub hl [0] rfl)
      · refine xif h (fun hc2 h => ?_) (fun hc2 h => ?_)
        · refine W.eq (g2 := F0 m 32 ls (.int (2 : Int32) :: [])) (by rw [hc2]) ?_
          refine lv_tableIn (tgt := 94) (off := 62) hx hb dX0_supplier_32 (by decide) (by decide) (by decide) (by decide) ?_
          exact w_X0_supplier_b94 hX h hI (lv_sub hl [0] rfl)
        · refine xif h (fun hc3 h => ?_) (fun hc3 h => ?_)
          · refine W.eq (g2 := F0 m 32 ls (.int (3 : Int32) :: [])) (by rw [hc3]) ?_
            refine lv_tableIn (tgt := 109) (off := 77) hx hb dX0_supplier_32 (by decide) (by decide) (by decide) (by decide) ?_
            exact w_X0_supplier_b109 hX h hI (lv_sub hl [1, 2] rfl)
          · refine xif h (fun hc4 h => ?_) (fun hc4 h => ?_)
            · refine W.eq (g2 := F0 m 32 ls (.int (4 : Int32) :: [])) (by rw [hc4]) ?_
              refine lv_tableIn (tgt := 120) (off := 88) hx hb dX0_supplier_32 (by decide) (by decide) (by decide) (by decide) ?_
              exact w_X0_supplier_b120 hX h hI (lv_sub hl [1, 2] rfl)
            · refine xif h (fun hc5 h => ?_) (fun hc5 h => ?_)
              · refine W.eq (g2 := F0 m 32 ls (.int (5 : Int32) :: [])) (by rw [hc5]) ?_
                refine lv_tableIn (tgt := 132) (off := 100) hx hb dX0_supplier_32 (by decide) (by decide) (by decide) (by decide) ?_
                exact w_X0_supplier_b132 hX h hI (lv_sub hl [0] rfl)
              · refine xif h (fun hc6 h => ?_) (fun hc6 h => ?_)
                · refine W.eq (g2 := F0 m 32 ls (.int (6 : Int32) :: [])) (by rw [hc6]) ?_
                  refine lv_tableIn (tgt := 139) (off := 107) hx hb dX0_supplier_32 (by decide) (by decide) (by decide) (by decide) ?_
                  exact w_X0_supplier_b139 hX h hI (lv_sub hl [0] rfl)
                · refine xif h (fun hc7 h => ?_) (fun hc7 h => ?_)
                  · refine W.eq (g2 := F0 m 32 ls (.int (7 : Int32) :: [])) (by rw [hc7]) ?_
                    refine lv_tableIn (tgt := 146) (off := 114) hx hb dX0_supplier_32 (by decide) (by decide) (by decide) (by decide) ?_
                    exact w_X0_supplier_b146 hX h hI (lv_sub hl [0] rfl)
                  · refine lv_tableOut (tgt := 153) hx hb dX0_supplier_32 (xtblo (L := [(0 : Int32), (1 : Int32), (2 : Int32), (3 : Int32), (4 : Int32), (5 : Int32), (6 : Int32), (7 : Int32)]) (by decide) (by decide) (List.forall_mem_cons.mpr ⟨hc0, (List.forall_mem_cons.mpr ⟨hc1, (List.forall_mem_cons.mpr ⟨hc2, (List.forall_mem_cons.mpr ⟨hc3, (List.forall_mem_cons.mpr ⟨hc4, (List.forall_mem_cons.mpr ⟨hc5, (List.forall_mem_cons.mpr ⟨hc6, (List.forall_mem_cons.mpr ⟨hc7, (fun _ h => absurd h List.not_mem_nil)⟩)⟩)⟩)⟩)⟩)⟩)⟩)⟩)) (by decide) ?_
                    refine lv_bipush (v := (-2 : Int32)) hx hb dX0_supplier_153 (by decide) ?_
                    exact xr_ireturn h hX hI dX0_supplier_155
  · have h := xif_t h hc
    refine lv_iconst (v := (-1 : Int32)) hx hb dX0_supplier_14 (by decide) ?_
    exact xr_ireturn h hX hI dX0_supplier_15
/-! PayMatchModel.papersOf(IZ)I  -/
theorem w_X3_papersOf_b52 {rec5 : Nat → Int32 → Int32 → Int32 → Int32 → xM Int32} {t0 : Int32} {t1 : Int32} {a0 : Nat} {a1 : Int32} {a2 : Int32} {a4 : Int32} {r : Int32} (hX : xX E R p m c cX3_papersOf 5 s args RX3 "papersOf" meth (some .int) 3 63 σ0 σ9) (hrec5 : ∀ (a0 : Nat) (a1 : Int32) (a2 : Int32) (a3 : Int32) (a4 : Int32) (σ : xS) (H : Heap) (locs : List Loc) (cells slots : Nat) (ls : Array Slot), (rec5 a0 a1 a2 a3 a4).1 σ = some (r, σ9) → xI E σ0 σ s H locs cells slots → lv_has ls 5 [(0, .ref a0), (1, .int a1), (2, .int a2), (3, .int a3), (4, .int a4)] → W p l e R s m args below meth c H locs cells slots (xMQ E below args s σ0 σ9 (some (.int r))) (F0 m 5 ls []))
    (h : (f_X3_papersOf_b52 rec5 t0 t1 a0 a1 a2 a4).1 σ = some (r, σ9)) (hI : xI E σ0 σ s H locs cells slots) (hl : lv_has ls 5 [(0, .ref a0), (1, .int a1), (2, .int a2), (4, .int a4)]) : W p l e R s m args below meth c H locs cells slots (xMQ E below args s σ0 σ9 (some (.int r))) (F0 m 52 ls [.int t1, .int t0]) := by
  have hx := hX.1.1
  have hb := hX.1.2.1
  delta f_X3_papersOf_b52 at h
  refine lv_iadd hx hb dX3_papersOf_52 ?_
  refine lv_istore_n (lv' := [(3, .int (t0 + t1)), (0, .ref a0), (1, .int a1), (2, .int a2), (4, .int a4)]) hx hb dX3_papersOf_53 rfl hl (Nat.le_of_ble_eq_true rfl) rfl (fun ls hl => ?_)
  refine lv_iinc (k := 4) (lv' := [(4, .int (a4 + (1 : Int32))), (3, .int (t0 + t1)), (0, .ref a0), (1, .int a1), (2, .int a2)]) hx hb dX3_papersOf_54 hl rfl (xiinc (by decide)) (Nat.le_of_ble_eq_true rfl) rfl (fun ls hl => ?_)
  refine lv_goto (tgt := 5) hx hb dX3_papersOf_57 (by decide) ?_
  exact hrec5 a0 a1 a2 (t0 + t1) (a4 + (1 : Int32)) _ _ _ _ _ _ h hI (lv_sub hl [2, 3, 4, 1, 0] rfl)
theorem w_X3_papersOf_b43 {rec5 : Nat → Int32 → Int32 → Int32 → Int32 → xM Int32} {t0 : Int32} {t1 : Int32} {a0 : Nat} {a1 : Int32} {a2 : Int32} {a4 : Int32} {r : Int32} (hX : xX E R p m c cX3_papersOf 5 s args RX3 "papersOf" meth (some .int) 3 63 σ0 σ9) (hrec5 : ∀ (a0 : Nat) (a1 : Int32) (a2 : Int32) (a3 : Int32) (a4 : Int32) (σ : xS) (H : Heap) (locs : List Loc) (cells slots : Nat) (ls : Array Slot), (rec5 a0 a1 a2 a3 a4).1 σ = some (r, σ9) → xI E σ0 σ s H locs cells slots → lv_has ls 5 [(0, .ref a0), (1, .int a1), (2, .int a2), (3, .int a3), (4, .int a4)] → W p l e R s m args below meth c H locs cells slots (xMQ E below args s σ0 σ9 (some (.int r))) (F0 m 5 ls []))
    (h : (f_X3_papersOf_b43 rec5 t0 t1 a0 a1 a2 a4).1 σ = some (r, σ9)) (hI : xI E σ0 σ s H locs cells slots) (hl : lv_has ls 5 [(0, .ref a0), (1, .int a1), (2, .int a2), (4, .int a4)]) : W p l e R s m args below meth c H locs cells slots (xMQ E below args s σ0 σ9 (some (.int r))) (F0 m 43 ls [.int t1, .int t0]) := by
  have hx := hX.1.1
  have hb := hX.1.2.1
  delta f_X3_papersOf_b43 at h
  refine lv_iload_n hx hb dX3_papersOf_43 rfl (lv_at hl 1 rfl) ?_
  refine lv_icmp_ne (tgt := 51) hx hb dX3_papersOf_44 (by decide) (fun hc => ?_) (fun hc => ?_)
  · have h := xif_f h hc
    refine lv_iconst (v := (0 : Int32)) hx hb dX3_papersOf_51 (by decide) ?_
    exact w_X3_papersOf_b52 hX hrec5 h hI (lv_sub hl [0, 1, 2, 3] rfl)
  · have h := xif_t h hc
    refine lv_iconst (v := (1 : Int32)) hx hb dX3_papersOf_47 (by decide) ?_
    refine lv_goto (tgt := 52) hx hb dX3_papersOf_48 (by decide) ?_
    exact w_X3_papersOf_b52 hX hrec5 h hI (lv_sub hl [0, 1, 2, 3] rfl)
theorem w_X3_papersOf_b17 {rec5 : Nat → Int32 → Int32 → Int32 → Int32 → xM Int32} {t0 : Int32} {t1 : Nat} {t2 : Int32} {a0 : Nat} {a1 : Int32} {a2 : Int32} {a3 : Int32} {a4 : Int32} {r : Int32} (hX : xX E R p m c cX3_papersOf 5 s args RX3 "papersOf" meth (some .int) 3 63 σ0 σ9) (hrec5 : ∀ (a0 : Nat) (a1 : Int32) (a2 : Int32) (a3 : Int32) (a4 : Int32) (σ : xS) (H : Heap) (locs : List Loc) (cells slots : Nat) (ls : Array Slot), (rec5 a0 a1 a2 a3 a4).1 σ = some (r, σ9) → xI E σ0 σ s H locs cells slots → lv_has ls 5 [(0, .ref a0), (1, .int a1), (2, .int a2), (3, .int a3), (4, .int a4)] → W p l e R s m args below meth c H locs cells slots (xMQ E below args s σ0 σ9 (some (.int r))) (F0 m 5 ls []))
    (h : (f_X3_papersOf_b17 rec5 t0 t1 t2 a0 a1 a2 a3 a4).1 σ = some (r, σ9)) (hI : xI E σ0 σ s H locs cells slots) (hl : lv_has ls 5 [(0, .ref a0), (1, .int a1), (2, .int a2), (3, .int a3), (4, .int a4)]) : W p l e R s m args below meth c H locs cells slots (xMQ E below args s σ0 σ9 (some (.int r))) (F0 m 17 ls [.int t2, .ref t1, .int t0]) := by
  have hx := hX.1.1
  have hb := hX.1.2.1
  delta f_X3_papersOf_b17 at h
  refine xr_callV (iv := (fun b => some (.int b))) (As := [.int t2]) (rest := [.int t0]) h hX hI (fun _ _ h => w_X3_at h) (fun _ _ h => o_X3_at h) rfl 1 (lw_V q2022 q2024 qs31 q87 q2025) ⟨rfl, xd_X3_at⟩ ⟨rfl, rfl⟩ rfl hl.1 (Nat.le_of_ble_eq_true rfl) dX3_papersOf_17 (fun v4 H locs σ cells slots h hI => ?_)
  refine W.eq (g2 := F0 m 20 ls [.int v4, .int t0]) rfl ?_
  refine lv_icmp_ge (tgt := 60) hx hb dX3_papersOf_20 (by decide) (fun hc => ?_) (fun hc => ?_)
  · have h := xif_t h hc
    refine lv_iload_n hx hb dX3_papersOf_60 rfl (lv_at hl 3 rfl) ?_
    exact xr_ireturn h hX hI dX3_papersOf_61
  · have h := xif_f h hc
    refine lv_iload_n hx hb dX3_papersOf_23 rfl (lv_at hl 3 rfl) ?_
    refine lv_iload_n hx hb dX3_papersOf_24 rfl (lv_at hl 2 rfl) ?_
    refine lv_if_eq (tgt := 37) hx hb dX3_papersOf_25 (by decide) (fun hc => ?_) (fun hc => ?_)
    · have h := xif_t h hc
      refine lv_aload_n hx hb dX3_papersOf_37 rfl (lv_at hl 0 rfl) ?_
      refine lv_iload hx hb dX3_papersOf_38 (lv_at hl 4 rfl) ?_
      refine xr_callV (iv := (fun b => some (.int b))) (As := [.int a4]) (rest := [.int a3]) h hX hI (fun _ _ h => w_X3_whose h) (fun _ _ h => o_X3_whose h) rfl 1 (lw_V q2071 q2073 qs36 q87 q2074) ⟨rfl, xd_X3_whose⟩ ⟨rfl, rfl⟩ rfl hl.1 (Nat.le_of_ble_eq_true rfl) dX3_papersOf_40 (fun v5 H locs σ cells slots h hI => ?_)
      refine W.eq (g2 := F0 m 43 ls [.int v5, .int a3]) rfl ?_
      exact w_X3_papersOf_b43 hX hrec5 h hI (lv_sub hl [0, 1, 2, 4] rfl)
    · have h := xif_f h hc
      refine lv_aload_n hx hb dX3_papersOf_28 rfl (lv_at hl 0 rfl) ?_
      refine lv_iload hx hb dX3_papersOf_29 (lv_at hl 4 rfl) ?_
      refine xr_callV (iv := (fun b => some (.int b))) (As := [.int a4]) (rest := [.int a3]) h hX hI (fun _ _ h => w_X3_payee h) (fun _ _ h => o_X3_payee h) rfl 1 (lw_V q2064 q2066 qs35 q87 q2067) ⟨rfl, xd_X3_payee⟩ ⟨rfl, rfl⟩ rfl hl.1 (Nat.le_of_ble_eq_true rfl) dX3_papersOf_31 (fun v6 H locs σ cells slots h hI => ?_)
      refine W.eq (g2 := F0 m 34 ls [.int v6, .int a3]) rfl ?_
      refine lv_goto (tgt := 43) hx hb dX3_papersOf_34 (by decide) ?_
      exact w_X3_papersOf_b43 hX hrec5 h hI (lv_sub hl [0, 1, 2, 4] rfl)
theorem w_X3_papersOf_b5 {rec5 : Nat → Int32 → Int32 → Int32 → Int32 → xM Int32} {a0 : Nat} {a1 : Int32} {a2 : Int32} {a3 : Int32} {a4 : Int32} {r : Int32} (hX : xX E R p m c cX3_papersOf 5 s args RX3 "papersOf" meth (some .int) 3 63 σ0 σ9) (hrec5 : ∀ (a0 : Nat) (a1 : Int32) (a2 : Int32) (a3 : Int32) (a4 : Int32) (σ : xS) (H : Heap) (locs : List Loc) (cells slots : Nat) (ls : Array Slot), (rec5 a0 a1 a2 a3 a4).1 σ = some (r, σ9) → xI E σ0 σ s H locs cells slots → lv_has ls 5 [(0, .ref a0), (1, .int a1), (2, .int a2), (3, .int a3), (4, .int a4)] → W p l e R s m args below meth c H locs cells slots (xMQ E below args s σ0 σ9 (some (.int r))) (F0 m 5 ls []))
    (h : (f_X3_papersOf_b5 rec5 a0 a1 a2 a3 a4).1 σ = some (r, σ9)) (hI : xI E σ0 σ s H locs cells slots) (hl : lv_has ls 5 [(0, .ref a0), (1, .int a1), (2, .int a2), (3, .int a3), (4, .int a4)]) : W p l e R s m args below meth c H locs cells slots (xMQ E below args s σ0 σ9 (some (.int r))) (F0 m 5 ls []) := by
  have hx := hX.1.1
  have hb := hX.1.2.1
  delta f_X3_papersOf_b5 at h
  refine lv_iload hx hb dX3_papersOf_5 (lv_at hl 4 rfl) ?_
  refine lv_aload_n hx hb dX3_papersOf_7 rfl (lv_at hl 0 rfl) ?_
  refine lv_iload_n hx hb dX3_papersOf_8 rfl (lv_at hl 2 rfl) ?_
  refine lv_if_eq (tgt := 16) hx hb dX3_papersOf_9 (by decide) (fun hc => ?_) (fun hc => ?_)
  · have h := xif_t h hc
    refine lv_iconst (v := (2 : Int32)) hx hb dX3_papersOf_16 (by decide) ?_
    exact w_X3_papersOf_b17 hX hrec5 h hI (lv_sub hl [0, 1, 2, 3, 4] rfl)
  · have h := xif_f h hc
    refine lv_iconst (v := (3 : Int32)) hx hb dX3_papersOf_12 (by decide) ?_
    refine lv_goto (tgt := 17) hx hb dX3_papersOf_13 (by decide) ?_
    exact w_X3_papersOf_b17 hX hrec5 h hI (lv_sub hl [0, 1, 2, 3, 4] rfl)
theorem w_X3_papersOf_L5 {r : Int32} (hX : xX E R p m c cX3_papersOf 5 s args RX3 "papersOf" meth (some .int) 3 63 σ0 σ9) : ∀ (n : Nat) (a0 : Nat) (a1 : Int32) (a2 : Int32) (a3 : Int32) (a4 : Int32) (σ : xS) (H : Heap) (locs : List Loc) (cells slots : Nat) (ls : Array Slot), (f_X3_papersOf_L5 n a0 a1 a2 a3 a4).1 σ = some (r, σ9) → xI E σ0 σ s H locs cells slots → lv_has ls 5 [(0, .ref a0), (1, .int a1), (2, .int a2), (3, .int a3), (4, .int a4)] → W p l e R s m args below meth c H locs cells slots (xMQ E below args s σ0 σ9 (some (.int r))) (F0 m 5 ls []) := by
  intro n
  induction n with
  | zero =>
    intro a0 a1 a2 a3 a4 σ H locs cells slots ls h
    exact xr_no h
  | succ n ih =>
    intro a0 a1 a2 a3 a4 σ H locs cells slots ls h hI hl
    exact w_X3_papersOf_b5 hX ih h hI hl
theorem o_X3_papersOf {a0 : Nat} {a1 : Int32} {a2 : Int32} {r : Int32} {σ σ9 : xS} (h : (f_X3_papersOf a0 a1 a2).1 σ = some (r, σ9)) : ∃ fs, σ.1 a0 = some (.inl (3, fs)) := xck_of h
theorem w_X3_papersOf {E : xE} {l : Launch} {a0 : Nat} {a1 : Int32} {a2 : Int32} {r : Int32} {σ σ9 : xS} (h : (f_X3_papersOf a0 a1 a2).1 σ = some (r, σ9)) : xMet E l yX3_papersOf (ws_ yX3_papersOf cX3_papersOf 5 (some .int)) 3 63 [.ref a0, .int a1, .int a2] σ σ9 (some (.int r)) := by
  refine xstart (by decide +kernel) ((f_X3_papersOf a0 a1 a2).2 _ _ _ h) (Nat.le_of_ble_eq_true rfl) ?_
  intro p e s m args below meth c H locs cells slots ls R hX hI hl
  have hx := hX.1.1
  have hb := hX.1.2.1
  have hl : lv_has ls 5 [(0, .ref a0), (1, .int a1), (2, .int a2)] := hl
  generalize hσ0 : σ = σ0 at hX hI ⊢
  have h : (f_X3_papersOf a0 a1 a2).1 σ0 = some (r, σ9) := by rw [← hσ0]; exact h
  clear hσ0
  delta f_X3_papersOf at h
  have h := (xck_bd h).2
  refine lv_iconst (v := (0 : Int32)) hx hb dX3_papersOf_0 (by decide) ?_
  refine lv_istore_n (lv' := [(3, .int (0 : Int32)), (0, .ref a0), (1, .int a1), (2, .int a2)]) hx hb dX3_papersOf_1 rfl hl (Nat.le_of_ble_eq_true rfl) rfl (fun ls hl => ?_)
  refine lv_iconst (v := (0 : Int32)) hx hb dX3_papersOf_2 (by decide) ?_
  refine lv_istore (lv' := [(4, .int (0 : Int32)), (3, .int (0 : Int32)), (0, .ref a0), (1, .int a1), (2, .int a2)]) hx hb dX3_papersOf_3 hl (Nat.le_of_ble_eq_true rfl) rfl (fun ls hl => ?_)
  exact w_X3_papersOf_L5 hX xFU a0 a1 a2 (0 : Int32) (0 : Int32) _ _ _ _ _ _ h hI (lv_sub hl [2, 3, 4, 1, 0] rfl)
/-! PayMatchModel.supplier(II)I  -/
theorem w_X3_supplier_b64 {a0 : Nat} {a1 : Int32} {r : Int32} (hX : xX E R p m c cX3_supplier 3 s args RX3 "supplier" meth (some .int) 4 87 σ0 σ9)
    (h : (f_X3_supplier_b64 a0 a1).1 σ = some (r, σ9)) (hI : xI E σ0 σ s H locs cells slots) (hl : lv_has ls 3 [(0, .ref a0), (1, .int a1)]) : W p l e R s m args below meth c H locs cells slots (xMQ E below args s σ0 σ9 (some (.int r))) (F0 m 64 ls []) := by
  have hx := hX.1.1
  have hb := hX.1.2.1
  delta f_X3_supplier_b64 at h
  refine lv_aload_n hx hb dX3_supplier_64 rfl (lv_at hl 0 rfl) ?_
  refine lv_iload_n hx hb dX3_supplier_65 rfl (lv_at hl 1 rfl) ?_
  refine lv_iconst (v := (2 : Int32)) hx hb dX3_supplier_66 (by decide) ?_
  refine xr_callS (iv := (fun b => some (.int b))) (As := [.int a1, .int (2 : Int32)]) (rest := [.ref a0]) h hX hI (fun _ _ h => w_X3_ofSupplier h) 2 (lw_S q2026 q2027 q87 q2028) xd_X3_ofSupplier ⟨rfl, rfl⟩ rfl hl.1 (Nat.le_of_ble_eq_true rfl) dX3_supplier_67 (fun v28 H locs σ cells slots h hI => ?_)
  refine W.eq (g2 := F0 m 70 ls [.int v28, .ref a0]) rfl ?_
  refine xr_callV (iv := (fun b => some (.int b))) (As := [.int v28]) (rest := []) h hX hI (fun _ _ h => w_X3_at h) (fun _ _ h => o_X3_at h) rfl 1 (lw_V q2022 q2024 qs31 q87 q2025) ⟨rfl, xd_X3_at⟩ ⟨rfl, rfl⟩ rfl hl.1 (Nat.le_of_ble_eq_true rfl) dX3_supplier_70 (fun v29 H locs σ cells slots h hI => ?_)
  refine W.eq (g2 := F0 m 73 ls [.int v29]) rfl ?_
  exact xr_ireturn h hX hI dX3_supplier_73
theorem w_X3_supplier_b74 {a0 : Nat} {a1 : Int32} {r : Int32} (hX : xX E R p m c cX3_supplier 3 s args RX3 "supplier" meth (some .int) 4 87 σ0 σ9)
    (h : (f_X3_supplier_b74 a0 a1).1 σ = some (r, σ9)) (hI : xI E σ0 σ s H locs cells slots) (hl : lv_has ls 3 [(0, .ref a0), (1, .int a1)]) : W p l e R s m args below meth c H locs cells slots (xMQ E below args s σ0 σ9 (some (.int r))) (F0 m 74 ls []) := by
  have hx := hX.1.1
  have hb := hX.1.2.1
  delta f_X3_supplier_b74 at h
  refine lv_aload_n hx hb dX3_supplier_74 rfl (lv_at hl 0 rfl) ?_
  refine lv_iload_n hx hb dX3_supplier_75 rfl (lv_at hl 1 rfl) ?_
  refine lv_iconst (v := (3 : Int32)) hx hb dX3_supplier_76 (by decide) ?_
  refine xr_callS (iv := (fun b => some (.int b))) (As := [.int a1, .int (3 : Int32)]) (rest := [.ref a0]) h hX hI (fun _ _ h => w_X3_ofSupplier h) 2 (lw_S q2026 q2027 q87 q2028) xd_X3_ofSupplier ⟨rfl, rfl⟩ rfl hl.1 (Nat.le_of_ble_eq_true rfl) dX3_supplier_77 (fun v26 H locs σ cells slots h hI => ?_)
  refine W.eq (g2 := F0 m 80 ls [.int v26, .ref a0]) rfl ?_
  refine xr_callV (iv := (fun b => some (.int b))) (As := [.int v26]) (rest := []) h hX hI (fun _ _ h => w_X3_at h) (fun _ _ h => o_X3_at h) rfl 1 (lw_V q2022 q2024 qs31 q87 q2025) ⟨rfl, xd_X3_at⟩ ⟨rfl, rfl⟩ rfl hl.1 (Nat.le_of_ble_eq_true rfl) dX3_supplier_80 (fun v27 H locs σ cells slots h hI => ?_)
  refine W.eq (g2 := F0 m 83 ls [.int v27]) rfl ?_
  exact xr_ireturn h hX hI dX3_supplier_83
theorem w_X3_supplier_b84 {a0 : Nat} {a1 : Int32} {r : Int32} (hX : xX E R p m c cX3_supplier 3 s args RX3 "supplier" meth (some .int) 4 87 σ0 σ9)
    (h : (f_X3_supplier_b84 a0 a1).1 σ = some (r, σ9)) (hI : xI E σ0 σ s H locs cells slots) (hl : lv_has ls 3 [(0, .ref a0), (1, .int a1)]) : W p l e R s m args below meth c H locs cells slots (xMQ E below args s σ0 σ9 (some (.int r))) (F0 m 84 ls []) := by
  have hx := hX.1.1
  have hb := hX.1.2.1
  delta f_X3_supplier_b84 at h
  refine lv_aload_n hx hb dX3_supplier_84 rfl (lv_at hl 0 rfl) ?_
  refine lv_iload_n hx hb dX3_supplier_85 rfl (lv_at hl 1 rfl) ?_
  refine lv_iconst (v := (4 : Int32)) hx hb dX3_supplier_86 (by decide) ?_
  refine xr_callS (iv := (fun b => some (.int b))) (As := [.int a1, .int (4 : Int32)]) (rest := [.ref a0]) h hX hI (fun _ _ h => w_X3_ofSupplier h) 2 (lw_S q2026 q2027 q87 q2028) xd_X3_ofSupplier ⟨rfl, rfl⟩ rfl hl.1 (Nat.le_of_ble_eq_true rfl) dX3_supplier_87 (fun v24 H locs σ cells slots h hI => ?_)
  refine W.eq (g2 := F0 m 90 ls [.int v24, .ref a0]) rfl ?_
  refine xr_callV (iv := (fun b => some (.int b))) (As := [.int v24]) (rest := []) h hX hI (fun _ _ h => w_X3_at h) (fun _ _ h => o_X3_at h) rfl 1 (lw_V q2022 q2024 qs31 q87 q2025) ⟨rfl, xd_X3_at⟩ ⟨rfl, rfl⟩ rfl hl.1 (Nat.le_of_ble_eq_true rfl) dX3_supplier_90 (fun v25 H locs σ cells slots h hI => ?_)
  refine W.eq (g2 := F0 m 93 ls [.int v25]) rfl ?_
  exact xr_ireturn h hX hI dX3_supplier_93
theorem w_X3_supplier_b94 {a0 : Nat} {a1 : Int32} {r : Int32} (hX : xX E R p m c cX3_supplier 3 s args RX3 "supplier" meth (some .int) 4 87 σ0 σ9)
    (h : (f_X3_supplier_b94 a0 a1).1 σ = some (r, σ9)) (hI : xI E σ0 σ s H locs cells slots) (hl : lv_has ls 3 [(0, .ref a0), (1, .int a1)]) : W p l e R s m args below meth c H locs cells slots (xMQ E below args s σ0 σ9 (some (.int r))) (F0 m 94 ls []) := by
  have hx := hX.1.1
  have hb := hX.1.2.1
  delta f_X3_supplier_b94 at h
  refine lv_aload_n hx hb dX3_supplier_94 rfl (lv_at hl 0 rfl) ?_
  refine lv_iload_n hx hb dX3_supplier_95 rfl (lv_at hl 1 rfl) ?_
  refine lv_iconst (v := (0 : Int32)) hx hb dX3_supplier_96 (by decide) ?_
  refine xr_callV (iv := (fun b => some (.int b))) (As := [.int a1, .int (0 : Int32)]) (rest := []) h hX hI (fun _ _ h => w_X3_papersOf h) (fun _ _ h => o_X3_papersOf h) rfl 2 (lw_V q2299 q2301 qs68 q87 q2302) ⟨rfl, xd_X3_papersOf⟩ ⟨rfl, rfl⟩ rfl hl.1 (Nat.le_of_ble_eq_true rfl) dX3_supplier_97 (fun v23 H locs σ cells slots h hI => ?_)
  refine W.eq (g2 := F0 m 100 ls [.int v23]) rfl ?_
  exact xr_ireturn h hX hI dX3_supplier_100
theorem w_X3_supplier_b101 {a0 : Nat} {a1 : Int32} {r : Int32} (hX : xX E R p m c cX3_supplier 3 s args RX3 "supplier" meth (some .int) 4 87 σ0 σ9)
    (h : (f_X3_supplier_b101 a0 a1).1 σ = some (r, σ9)) (hI : xI E σ0 σ s H locs cells slots) (hl : lv_has ls 3 [(0, .ref a0), (1, .int a1)]) : W p l e R s m args below meth c H locs cells slots (xMQ E below args s σ0 σ9 (some (.int r))) (F0 m 101 ls []) := by
  have hx := hX.1.1
  have hb := hX.1.2.1
  delta f_X3_supplier_b101 at h
  refine lv_aload_n hx hb dX3_supplier_101 rfl (lv_at hl 0 rfl) ?_
  refine lv_iload_n hx hb dX3_supplier_102 rfl (lv_at hl 1 rfl) ?_
  refine lv_iconst (v := (1 : Int32)) hx hb dX3_supplier_103 (by decide) ?_
  refine xr_callV (iv := (fun b => some (.int b))) (As := [.int a1, .int (1 : Int32)]) (rest := []) h hX hI (fun _ _ h => w_X3_papersOf h) (fun _ _ h => o_X3_papersOf h) rfl 2 (lw_V q2299 q2301 qs68 q87 q2302) ⟨rfl, xd_X3_papersOf⟩ ⟨rfl, rfl⟩ rfl hl.1 (Nat.le_of_ble_eq_true rfl) dX3_supplier_104 (fun v22 H locs σ cells slots h hI => ?_)
  refine W.eq (g2 := F0 m 107 ls [.int v22]) rfl ?_
  exact xr_ireturn h hX hI dX3_supplier_107
theorem w_X3_supplier_b108 {a0 : Nat} {a1 : Int32} {r : Int32} (hX : xX E R p m c cX3_supplier 3 s args RX3 "supplier" meth (some .int) 4 87 σ0 σ9)
    (h : (f_X3_supplier_b108 a0 a1).1 σ = some (r, σ9)) (hI : xI E σ0 σ s H locs cells slots) (hl : lv_has ls 3 [(0, .ref a0), (1, .int a1)]) : W p l e R s m args below meth c H locs cells slots (xMQ E below args s σ0 σ9 (some (.int r))) (F0 m 108 ls []) := by
  have hx := hX.1.1
  have hb := hX.1.2.1
  delta f_X3_supplier_b108 at h
  refine lv_aload_n hx hb dX3_supplier_108 rfl (lv_at hl 0 rfl) ?_
  refine lv_iload_n hx hb dX3_supplier_109 rfl (lv_at hl 1 rfl) ?_
  refine lv_iconst (v := (5 : Int32)) hx hb dX3_supplier_110 (by decide) ?_
  refine xr_callS (iv := (fun b => some (.int b))) (As := [.int a1, .int (5 : Int32)]) (rest := [.ref a0]) h hX hI (fun _ _ h => w_X3_ofSupplier h) 2 (lw_S q2026 q2027 q87 q2028) xd_X3_ofSupplier ⟨rfl, rfl⟩ rfl hl.1 (Nat.le_of_ble_eq_true rfl) dX3_supplier_111 (fun v20 H locs σ cells slots h hI => ?_)
  refine W.eq (g2 := F0 m 114 ls [.int v20, .ref a0]) rfl ?_
  refine xr_callV (iv := (fun b => some (.int b))) (As := [.int v20]) (rest := []) h hX hI (fun _ _ h => w_X3_at h) (fun _ _ h => o_X3_at h) rfl 1 (lw_V q2022 q2024 qs31 q87 q2025) ⟨rfl, xd_X3_at⟩ ⟨rfl, rfl⟩ rfl hl.1 (Nat.le_of_ble_eq_true rfl) dX3_supplier_114 (fun v21 H locs σ cells slots h hI => ?_)
  refine W.eq (g2 := F0 m 117 ls [.int v21]) rfl ?_
  exact xr_ireturn h hX hI dX3_supplier_117
theorem w_X3_supplier_b118 {a0 : Nat} {a1 : Int32} {r : Int32} (hX : xX E R p m c cX3_supplier 3 s args RX3 "supplier" meth (some .int) 4 87 σ0 σ9)
    (h : (f_X3_supplier_b118 a0 a1).1 σ = some (r, σ9)) (hI : xI E σ0 σ s H locs cells slots) (hl : lv_has ls 3 [(0, .ref a0), (1, .int a1)]) : W p l e R s m args below meth c H locs cells slots (xMQ E below args s σ0 σ9 (some (.int r))) (F0 m 118 ls []) := by
  have hx := hX.1.1
  have hb := hX.1.2.1
  delta f_X3_supplier_b118 at h
  refine lv_aload_n hx hb dX3_supplier_118 rfl (lv_at hl 0 rfl) ?_
  refine lv_iload_n hx hb dX3_supplier_119 rfl (lv_at hl 1 rfl) ?_
  refine lv_bipush (v := (6 : Int32)) hx hb dX3_supplier_120 (by decide) ?_
  refine xr_callS (iv := (fun b => some (.int b))) (As := [.int a1, .int (6 : Int32)]) (rest := [.ref a0]) h hX hI (fun _ _ h => w_X3_ofSupplier h) 2 (lw_S q2026 q2027 q87 q2028) xd_X3_ofSupplier ⟨rfl, rfl⟩ rfl hl.1 (Nat.le_of_ble_eq_true rfl) dX3_supplier_122 (fun v18 H locs σ cells slots h hI => ?_)
  refine W.eq (g2 := F0 m 125 ls [.int v18, .ref a0]) rfl ?_
  refine xr_callV (iv := (fun b => some (.int b))) (As := [.int v18]) (rest := []) h hX hI (fun _ _ h => w_X3_at h) (fun _ _ h => o_X3_at h) rfl 1 (lw_V q2022 q2024 qs31 q87 q2025) ⟨rfl, xd_X3_at⟩ ⟨rfl, rfl⟩ rfl hl.1 (Nat.le_of_ble_eq_true rfl) dX3_supplier_125 (fun v19 H locs σ cells slots h hI => ?_)
  refine W.eq (g2 := F0 m 128 ls [.int v19]) rfl ?_
  exact xr_ireturn h hX hI dX3_supplier_128
theorem w_X3_supplier_b129 {a0 : Nat} {a1 : Int32} {r : Int32} (hX : xX E R p m c cX3_supplier 3 s args RX3 "supplier" meth (some .int) 4 87 σ0 σ9)
    (h : (f_X3_supplier_b129 a0 a1).1 σ = some (r, σ9)) (hI : xI E σ0 σ s H locs cells slots) (hl : lv_has ls 3 [(0, .ref a0), (1, .int a1)]) : W p l e R s m args below meth c H locs cells slots (xMQ E below args s σ0 σ9 (some (.int r))) (F0 m 129 ls []) := by
  have hx := hX.1.1
  have hb := hX.1.2.1
  delta f_X3_supplier_b129 at h
  refine lv_aload_n hx hb dX3_supplier_129 rfl (lv_at hl 0 rfl) ?_
  refine lv_iload_n hx hb dX3_supplier_130 rfl (lv_at hl 1 rfl) ?_
  refine lv_bipush (v := (7 : Int32)) hx hb dX3_supplier_131 (by decide) ?_
  refine xr_callS (iv := (fun b => some (.int b))) (As := [.int a1, .int (7 : Int32)]) (rest := [.ref a0]) h hX hI (fun _ _ h => w_X3_ofSupplier h) 2 (lw_S q2026 q2027 q87 q2028) xd_X3_ofSupplier ⟨rfl, rfl⟩ rfl hl.1 (Nat.le_of_ble_eq_true rfl) dX3_supplier_133 (fun v16 H locs σ cells slots h hI => ?_)
  refine W.eq (g2 := F0 m 136 ls [.int v16, .ref a0]) rfl ?_
  refine xr_callV (iv := (fun b => some (.int b))) (As := [.int v16]) (rest := []) h hX hI (fun _ _ h => w_X3_at h) (fun _ _ h => o_X3_at h) rfl 1 (lw_V q2022 q2024 qs31 q87 q2025) ⟨rfl, xd_X3_at⟩ ⟨rfl, rfl⟩ rfl hl.1 (Nat.le_of_ble_eq_true rfl) dX3_supplier_136 (fun v17 H locs σ cells slots h hI => ?_)
  refine W.eq (g2 := F0 m 139 ls [.int v17]) rfl ?_
  exact xr_ireturn h hX hI dX3_supplier_139
theorem o_X3_supplier {a0 : Nat} {a1 : Int32} {a2 : Int32} {r : Int32} {σ σ9 : xS} (h : (f_X3_supplier a0 a1 a2).1 σ = some (r, σ9)) : ∃ fs, σ.1 a0 = some (.inl (3, fs)) := xck_of h
theorem w_X3_supplier {E : xE} {l : Launch} {a0 : Nat} {a1 : Int32} {a2 : Int32} {r : Int32} {σ σ9 : xS} (h : (f_X3_supplier a0 a1 a2).1 σ = some (r, σ9)) : xMet E l yX3_supplier (ws_ yX3_supplier cX3_supplier 3 (some .int)) 4 87 [.ref a0, .int a1, .int a2] σ σ9 (some (.int r)) := by
  refine xstart (by decide +kernel) ((f_X3_supplier a0 a1 a2).2 _ _ _ h) (Nat.le_of_ble_eq_true rfl) ?_
  intro p e s m args below meth c H locs cells slots ls R hX hI hl
  have hx := hX.1.1
  have hb := hX.1.2.1
  have hl : lv_has ls 3 [(0, .ref a0), (1, .int a1), (2, .int a2)] := hl
  generalize hσ0 : σ = σ0 at hX hI ⊢
  have h : (f_X3_supplier a0 a1 a2).1 σ0 = some (r, σ9) := by rw [← hσ0]; exact h
  clear hσ0
  delta f_X3_supplier at h
  have h := (xck_bd h).2
  refine lv_aload_n hx hb dX3_supplier_0 rfl (lv_at hl 0 rfl) ?_
  refine lv_iconst (v := (0 : Int32)) hx hb dX3_supplier_1 (by decide) ?_
  refine xr_pt h hX hI xl_X3_1_3 (Or.inl rfl) rfl rfl dX3_supplier_2 (fun H locs σ h hI => ?_)
  refine lv_aload_n hx hb dX3_supplier_5 rfl (lv_at hl 0 rfl) ?_
  refine lv_iload_n hx hb dX3_supplier_6 rfl (lv_at hl 1 rfl) ?_
  refine xr_callV (iv := (fun b => some (.int b))) (As := [.int a1]) (rest := []) h hX hI (fun _ _ h => w_X3_isSupplier h) (fun _ _ h => o_X3_isSupplier h) rfl 1 (lw_V q2039 q2041 qs33 q87 q2042) ⟨rfl, xd_X3_isSupplier⟩ ⟨rfl, rfl⟩ rfl hl.1 (Nat.le_of_ble_eq_true rfl) dX3_supplier_7 (fun v30 H locs σ cells slots h hI => ?_)
  refine W.eq (g2 := F0 m 10 ls [.int v30]) rfl ?_
  refine lv_if_ne (tgt := 15) hx hb dX3_supplier_10 (by decide) (fun hc => ?_) (fun hc => ?_)
  · have h := xif_f h hc
    refine lv_iload_n hx hb dX3_supplier_15 rfl (lv_at hl 2 rfl) ?_
    refine xif h (fun hc0 h => ?_) (fun hc0 h => ?_)
    · refine W.eq (g2 := F0 m 16 ls (.int (0 : Int32) :: [])) (by rw [hc0]) ?_
      refine lv_tableIn (tgt := 64) (off := 48) hx hb dX3_supplier_16 (by decide) (by decide) (by decide) (by decide) ?_
      exact w_X3_supplier_b64 hX h hI (lv_sub hl [0, 1] rfl)
    · refine xif h (fun hc1 h => ?_) (fun hc1 h => ?_)
      · refine W.eq (g2 := F0 m 16 ls (.int (1 : Int32) :: [])) (by rw [hc1]) ?_
        refine lv_tableIn (tgt := 74) (off := 58) hx hb dX3_supplier_16 (by decide) (by decide) (by decide) (by decide) ?_
        exact w_X3_supplier_b74 hX h hI (lv_sub hl [0, 1] rfl)
      · refine xif h (fun hc2 h => ?_) (fun hc2 h => ?_)
        · refine W.eq (g2 := F0 m 16 ls (.int (2 : Int32) :: [])) (by rw [hc2]) ?_
          refine lv_tableIn (tgt := 84) (off := 68) hx hb dX3_supplier_16 (by decide) (by decide) (by decide) (by decide) ?_
          exact w_X3_supplier_b84 hX h hI (lv_sub hl [0, 1] rfl)
        · refine xif h (fun hc3 h => ?_) (fun hc3 h => ?_)
          · refine W.eq (g2 := F0 m 16 ls (.int (3 : Int32) :: [])) (by rw [hc3]) ?_
            refine lv_tableIn (tgt := 94) (off := 78) hx hb dX3_supplier_16 (by decide) (by decide) (by decide) (by decide) ?_
            exact w_X3_supplier_b94 hX h hI (lv_sub hl [0, 1] rfl)
          · refine xif h (fun hc4 h => ?_) (fun hc4 h => ?_)
            · refine W.eq (g2 := F0 m 16 ls (.int (4 : Int32) :: [])) (by rw [hc4]) ?_
              refine lv_tableIn (tgt := 101) (off := 85) hx hb dX3_supplier_16 (by decide) (by decide) (by decide) (by decide) ?_
              exact w_X3_supplier_b101 hX h hI (lv_sub hl [0, 1] rfl)
            · refine xif h (fun hc5 h => ?_) (fun hc5 h => ?_)
              · refine W.eq (g2 := F0 m 16 ls (.int (5 : Int32) :: [])) (by rw [hc5]) ?_
                refine lv_tableIn (tgt := 108) (off := 92) hx hb dX3_supplier_16 (by decide) (by decide) (by decide) (by decide) ?_
                exact w_X3_supplier_b108 hX h hI (lv_sub hl [0, 1] rfl)
              · refine xif h (fun hc6 h => ?_) (fun hc6 h => ?_)
                · refine W.eq (g2 := F0 m 16 ls (.int (6 : Int32) :: [])) (by rw [hc6]) ?_
                  refine lv_tableIn (tgt := 118) (off := 102) hx hb dX3_supplier_16 (by decide) (by decide) (by decide) (by decide) ?_
                  exact w_X3_supplier_b118 hX h hI (lv_sub hl [0, 1] rfl)
                · refine xif h (fun hc7 h => ?_) (fun hc7 h => ?_)
                  · refine W.eq (g2 := F0 m 16 ls (.int (7 : Int32) :: [])) (by rw [hc7]) ?_
                    refine lv_tableIn (tgt := 129) (off := 113) hx hb dX3_supplier_16 (by decide) (by decide) (by decide) (by decide) ?_
                    exact w_X3_supplier_b129 hX h hI (lv_sub hl [0, 1] rfl)
                  · refine lv_tableOut (tgt := 140) hx hb dX3_supplier_16 (xtblo (L := [(0 : Int32), (1 : Int32), (2 : Int32), (3 : Int32), (4 : Int32), (5 : Int32), (6 : Int32), (7 : Int32)]) (by decide) (by decide) (List.forall_mem_cons.mpr ⟨hc0, (List.forall_mem_cons.mpr ⟨hc1, (List.forall_mem_cons.mpr ⟨hc2, (List.forall_mem_cons.mpr ⟨hc3, (List.forall_mem_cons.mpr ⟨hc4, (List.forall_mem_cons.mpr ⟨hc5, (List.forall_mem_cons.mpr ⟨hc6, (List.forall_mem_cons.mpr ⟨hc7, (fun _ h => absurd h List.not_mem_nil)⟩)⟩)⟩)⟩)⟩)⟩)⟩)⟩)) (by decide) ?_
                    refine lv_bipush (v := (-2 : Int32)) hx hb dX3_supplier_140 (by decide) ?_
                    exact xr_ireturn h hX hI dX3_supplier_142
  · have h := xif_t h hc
    refine lv_iconst (v := (-1 : Int32)) hx hb dX3_supplier_13 (by decide) ?_
    exact xr_ireturn h hX hI dX3_supplier_14
/-! PayMatchModel.tolerance(IZ)D  -/
theorem w_X3_tolerance_b24 {t0 : Nat} {t1 : Int32} {t2 : Int32} {r : UInt64} (hX : xX E R p m c cX3_tolerance 3 s args RX3 "tolerance" meth (some .double) 2 81 σ0 σ9)
    (h : (f_X3_tolerance_b24 t0 t1 t2).1 σ = some (r, σ9)) (hI : xI E σ0 σ s H locs cells slots) (hl : lv_has ls 3 []) : W p l e R s m args below meth c H locs cells slots (xMQ E below args s σ0 σ9 (some (.double r))) (F0 m 24 ls [.int t2, .int t1, .ref t0]) := by
  have hx := hX.1.1
  have hb := hX.1.2.1
  delta f_X3_tolerance_b24 at h
  refine xr_callS (iv := (fun b => some (.int b))) (As := [.int t1, .int t2]) (rest := [.ref t0]) h hX hI (fun _ _ h => w_X3_ofSupplier h) 2 (lw_S q2026 q2027 q87 q2028) xd_X3_ofSupplier ⟨rfl, rfl⟩ rfl hl.1 (Nat.le_of_ble_eq_true rfl) dX3_tolerance_24 (fun v4 H locs σ cells slots h hI => ?_)
  refine W.eq (g2 := F0 m 27 ls [.int v4, .ref t0]) rfl ?_
  refine xr_callV (iv := (fun b => some (.double b))) (As := [.int v4]) (rest := []) h hX hI (fun _ _ h => w_X3_real h) (fun _ _ h => o_X3_real h) rfl 1 (lw_V q2135 q2137 qs42 q87 q2138) ⟨rfl, xd_X3_real⟩ ⟨rfl, rfl⟩ rfl hl.1 (Nat.le_of_ble_eq_true rfl) dX3_tolerance_27 (fun v5 H locs σ cells slots h hI => ?_)
  refine W.eq (g2 := F0 m 30 ls [.double v5]) rfl ?_
  refine lv_goto (tgt := 36) hx hb dX3_tolerance_30 (by decide) ?_
  exact xr_dreturn h hX hI dX3_tolerance_36
theorem o_X3_tolerance {a0 : Nat} {a1 : Int32} {a2 : Int32} {r : UInt64} {σ σ9 : xS} (h : (f_X3_tolerance a0 a1 a2).1 σ = some (r, σ9)) : ∃ fs, σ.1 a0 = some (.inl (3, fs)) := xck_of h
theorem w_X3_tolerance {E : xE} {l : Launch} {a0 : Nat} {a1 : Int32} {a2 : Int32} {r : UInt64} {σ σ9 : xS} (h : (f_X3_tolerance a0 a1 a2).1 σ = some (r, σ9)) : xMet E l yX3_tolerance (ws_ yX3_tolerance cX3_tolerance 3 (some .double)) 2 81 [.ref a0, .int a1, .int a2] σ σ9 (some (.double r)) := by
  refine xstart (by decide +kernel) ((f_X3_tolerance a0 a1 a2).2 _ _ _ h) (Nat.le_of_ble_eq_true rfl) ?_
  intro p e s m args below meth c H locs cells slots ls R hX hI hl
  have hx := hX.1.1
  have hb := hX.1.2.1
  have hl : lv_has ls 3 [(0, .ref a0), (1, .int a1), (2, .int a2)] := hl
  generalize hσ0 : σ = σ0 at hX hI ⊢
  have h : (f_X3_tolerance a0 a1 a2).1 σ0 = some (r, σ9) := by rw [← hσ0]; exact h
  clear hσ0
  delta f_X3_tolerance at h
  have h := (xck_bd h).2
  refine lv_aload_n hx hb dX3_tolerance_0 rfl (lv_at hl 0 rfl) ?_
  refine lv_iconst (v := (0 : Int32)) hx hb dX3_tolerance_1 (by decide) ?_
  refine xr_pt h hX hI xl_X3_1_3 (Or.inl rfl) rfl rfl dX3_tolerance_2 (fun H locs σ h hI => ?_)
  refine lv_aload_n hx hb dX3_tolerance_5 rfl (lv_at hl 0 rfl) ?_
  refine lv_iload_n hx hb dX3_tolerance_6 rfl (lv_at hl 1 rfl) ?_
  refine xr_callV (iv := (fun b => some (.int b))) (As := [.int a1]) (rest := []) h hX hI (fun _ _ h => w_X3_isSupplier h) (fun _ _ h => o_X3_isSupplier h) rfl 1 (lw_V q2039 q2041 qs33 q87 q2042) ⟨rfl, xd_X3_isSupplier⟩ ⟨rfl, rfl⟩ rfl hl.1 (Nat.le_of_ble_eq_true rfl) dX3_tolerance_7 (fun v6 H locs σ cells slots h hI => ?_)
  refine W.eq (g2 := F0 m 10 ls [.int v6]) rfl ?_
  refine lv_if_eq (tgt := 33) hx hb dX3_tolerance_10 (by decide) (fun hc => ?_) (fun hc => ?_)
  · have h := xif_t h hc
    refine lv_ldc2d (v := (9221120237041090560 : UInt64)) hx hb hX.1.2.2.2.1 (hX.1.2.2.2.2 _ q2307) dX3_tolerance_33 ?_
    exact xr_dreturn h hX hI dX3_tolerance_36
  · have h := xif_f h hc
    refine lv_aload_n hx hb dX3_tolerance_13 rfl (lv_at hl 0 rfl) ?_
    refine lv_iload_n hx hb dX3_tolerance_14 rfl (lv_at hl 1 rfl) ?_
    refine lv_iload_n hx hb dX3_tolerance_15 rfl (lv_at hl 2 rfl) ?_
    refine lv_if_eq (tgt := 23) hx hb dX3_tolerance_16 (by decide) (fun hc => ?_) (fun hc => ?_)
    · have h := xif_t h hc
      refine lv_iconst (v := (0 : Int32)) hx hb dX3_tolerance_23 (by decide) ?_
      exact w_X3_tolerance_b24 hX h hI (lv_sub hl [] rfl)
    · have h := xif_f h hc
      refine lv_iconst (v := (1 : Int32)) hx hb dX3_tolerance_19 (by decide) ?_
      refine lv_goto (tgt := 24) hx hb dX3_tolerance_20 (by decide) ?_
      exact w_X3_tolerance_b24 hX h hI (lv_sub hl [] rfl)
/-! PayMatch.invoicesFor(I)I  -/
theorem w_X0_invoicesFor_b48 {rec13 : Int32 → Int32 → Nat → xM Int32} {t0 : Int32} {t1 : Int32} {a1 : Int32} {a3 : Nat} {r : Int32} (hX : xX E R p m c cX0_invoicesFor 5 s args RX0 "invoicesFor" meth (some .int) 4 121 σ0 σ9) (hrec13 : ∀ (a1 : Int32) (a2 : Int32) (a3 : Nat) (σ : xS) (H : Heap) (locs : List Loc) (cells slots : Nat) (ls : Array Slot), (rec13 a1 a2 a3).1 σ = some (r, σ9) → xI E σ0 σ s H locs cells slots → lv_has ls 5 [(1, .int a1), (2, .int a2), (3, .ref a3)] → W p l e R s m args below meth c H locs cells slots (xMQ E below args s σ0 σ9 (some (.int r))) (F0 m 13 ls []))
    (h : (f_X0_invoicesFor_b48 rec13 t0 t1 a1 a3).1 σ = some (r, σ9)) (hI : xI E σ0 σ s H locs cells slots) (hl : lv_has ls 5 [(1, .int a1), (3, .ref a3)]) : W p l e R s m args below meth c H locs cells slots (xMQ E below args s σ0 σ9 (some (.int r))) (F0 m 48 ls [.int t1, .int t0]) := by
  have hx := hX.1.1
  have hb := hX.1.2.1
  delta f_X0_invoicesFor_b48 at h
  refine lv_iadd hx hb dX0_invoicesFor_48 ?_
  refine lv_istore_n (lv' := [(2, .int (t0 + t1)), (1, .int a1), (3, .ref a3)]) hx hb dX0_invoicesFor_49 rfl hl (Nat.le_of_ble_eq_true rfl) rfl (fun ls hl => ?_)
  refine lv_goto (tgt := 13) hx hb dX0_invoicesFor_50 (by decide) ?_
  exact hrec13 a1 (t0 + t1) a3 _ _ _ _ _ _ h hI (lv_sub hl [1, 0, 2] rfl)
theorem w_X0_invoicesFor_b13 {rec13 : Int32 → Int32 → Nat → xM Int32} {a1 : Int32} {a2 : Int32} {a3 : Nat} {r : Int32} (hX : xX E R p m c cX0_invoicesFor 5 s args RX0 "invoicesFor" meth (some .int) 4 121 σ0 σ9) (hrec13 : ∀ (a1 : Int32) (a2 : Int32) (a3 : Nat) (σ : xS) (H : Heap) (locs : List Loc) (cells slots : Nat) (ls : Array Slot), (rec13 a1 a2 a3).1 σ = some (r, σ9) → xI E σ0 σ s H locs cells slots → lv_has ls 5 [(1, .int a1), (2, .int a2), (3, .ref a3)] → W p l e R s m args below meth c H locs cells slots (xMQ E below args s σ0 σ9 (some (.int r))) (F0 m 13 ls []))
    (h : (f_X0_invoicesFor_b13 rec13 a1 a2 a3).1 σ = some (r, σ9)) (hI : xI E σ0 σ s H locs cells slots) (hl : lv_has ls 5 [(1, .int a1), (2, .int a2), (3, .ref a3)]) : W p l e R s m args below meth c H locs cells slots (xMQ E below args s σ0 σ9 (some (.int r))) (F0 m 13 ls []) := by
  have hx := hX.1.1
  have hb := hX.1.2.1
  delta f_X0_invoicesFor_b13 at h
  refine lv_aload_n hx hb dX0_invoicesFor_13 rfl (lv_at hl 2 rfl) ?_
  refine xr_callF (iv := (fun b => some (.int b))) (As := []) (rest := []) h hX hI (fun _ _ h => w_J10_hasNext h) (fun _ _ h => o_J10_hasNext h) rfl 0 xfw_4 q1872 q460 q462 q89 q464 xdi_4 ⟨rfl, rfl⟩ rfl hl.1 (Nat.le_of_ble_eq_true rfl) dX0_invoicesFor_14 (fun v7 H locs σ cells slots h hI => ?_)
  refine W.eq (g2 := F0 m 19 ls [.int v7]) rfl ?_
  refine lv_if_eq (tgt := 53) hx hb dX0_invoicesFor_19 (by decide) (fun hc => ?_) (fun hc => ?_)
  · have h := xif_t h hc
    refine lv_iload_n hx hb dX0_invoicesFor_53 rfl (lv_at hl 1 rfl) ?_
    exact xr_ireturn h hX hI dX0_invoicesFor_54
  · have h := xif_f h hc
    refine lv_aload_n hx hb dX0_invoicesFor_22 rfl (lv_at hl 2 rfl) ?_
    refine xr_callF (iv := (fun b => some (.ref b))) (As := []) (rest := []) h hX hI (fun _ _ h => w_J10_next h) (fun _ _ h => o_J10_next h) rfl 0 xfw_6 q1874 q828 q830 q89 q832 xdi_6 ⟨rfl, rfl⟩ rfl hl.1 (Nat.le_of_ble_eq_true rfl) dX0_invoicesFor_23 (fun v8 H locs σ cells slots h hI => ?_)
    refine W.eq (g2 := F0 m 28 ls [.ref v8]) rfl ?_
    refine xr_cks h hX hI xc_X0_261 dX0_invoicesFor_28 (fun h => ?_)
    refine lv_astore (lv' := [(4, .ref v8), (1, .int a1), (2, .int a2), (3, .ref a3)]) hx hb dX0_invoicesFor_31 hl (Nat.le_of_ble_eq_true rfl) rfl (fun ls hl => ?_)
    refine lv_iload_n hx hb dX0_invoicesFor_33 rfl (lv_at hl 2 rfl) ?_
    refine lv_aload hx hb dX0_invoicesFor_34 (lv_at hl 0 rfl) ?_
    refine xr_gI h hX hI xl_X0_286_4 dX0_invoicesFor_36 (fun v9 h => ?_)
    refine lv_iload_n hx hb dX0_invoicesFor_39 rfl (lv_at hl 1 rfl) ?_
    refine lv_icmp_ne (tgt := 47) hx hb dX0_invoicesFor_40 (by decide) (fun hc => ?_) (fun hc => ?_)
    · have h := xif_f h hc
      refine lv_iconst (v := (0 : Int32)) hx hb dX0_invoicesFor_47 (by decide) ?_
      exact w_X0_invoicesFor_b48 hX hrec13 h hI (lv_sub hl [1, 3] rfl)
    · have h := xif_t h hc
      refine lv_iconst (v := (1 : Int32)) hx hb dX0_invoicesFor_43 (by decide) ?_
      refine lv_goto (tgt := 48) hx hb dX0_invoicesFor_44 (by decide) ?_
      exact w_X0_invoicesFor_b48 hX hrec13 h hI (lv_sub hl [1, 3] rfl)
theorem w_X0_invoicesFor_L13 {r : Int32} (hX : xX E R p m c cX0_invoicesFor 5 s args RX0 "invoicesFor" meth (some .int) 4 121 σ0 σ9) : ∀ (n : Nat) (a1 : Int32) (a2 : Int32) (a3 : Nat) (σ : xS) (H : Heap) (locs : List Loc) (cells slots : Nat) (ls : Array Slot), (f_X0_invoicesFor_L13 n a1 a2 a3).1 σ = some (r, σ9) → xI E σ0 σ s H locs cells slots → lv_has ls 5 [(1, .int a1), (2, .int a2), (3, .ref a3)] → W p l e R s m args below meth c H locs cells slots (xMQ E below args s σ0 σ9 (some (.int r))) (F0 m 13 ls []) := by
  intro n
  induction n with
  | zero =>
    intro a1 a2 a3 σ H locs cells slots ls h
    exact xr_no h
  | succ n ih =>
    intro a1 a2 a3 σ H locs cells slots ls h hI hl
    exact w_X0_invoicesFor_b13 hX ih h hI hl
theorem o_X0_invoicesFor {a0 : Nat} {a1 : Int32} {r : Int32} {σ σ9 : xS} (h : (f_X0_invoicesFor a0 a1).1 σ = some (r, σ9)) : ∃ fs, σ.1 a0 = some (.inl (0, fs)) := xck_of h
theorem w_X0_invoicesFor {E : xE} {l : Launch} {a0 : Nat} {a1 : Int32} {r : Int32} {σ σ9 : xS} (h : (f_X0_invoicesFor a0 a1).1 σ = some (r, σ9)) : xMet E l yX0_invoicesFor (ws_ yX0_invoicesFor cX0_invoicesFor 5 (some .int)) 4 121 [.ref a0, .int a1] σ σ9 (some (.int r)) := by
  refine xstart (by decide +kernel) ((f_X0_invoicesFor a0 a1).2 _ _ _ h) (Nat.le_of_ble_eq_true rfl) ?_
  intro p e s m args below meth c H locs cells slots ls R hX hI hl
  have hx := hX.1.1
  have hb := hX.1.2.1
  have hl : lv_has ls 5 [(0, .ref a0), (1, .int a1)] := hl
  generalize hσ0 : σ = σ0 at hX hI ⊢
  have h : (f_X0_invoicesFor a0 a1).1 σ0 = some (r, σ9) := by rw [← hσ0]; exact h
  clear hσ0
  delta f_X0_invoicesFor at h
  have h := (xck_bd h).2
  refine lv_iconst (v := (0 : Int32)) hx hb dX0_invoicesFor_0 (by decide) ?_
  refine lv_istore_n (lv' := [(2, .int (0 : Int32)), (0, .ref a0), (1, .int a1)]) hx hb dX0_invoicesFor_1 rfl hl (Nat.le_of_ble_eq_true rfl) rfl (fun ls hl => ?_)
  refine lv_aload_n hx hb dX0_invoicesFor_2 rfl (lv_at hl 1 rfl) ?_
  refine xr_gN h hX hI xl_X0_22_0.g dX0_invoicesFor_3 (fun v10 h => ?_)
  refine xr_gN h hX hI xl_X0_211_1.g dX0_invoicesFor_6 (fun v11 h => ?_)
  refine xr_callV (iv := (fun b => some (.ref b))) (As := []) (rest := []) h hX hI (fun _ _ h => w_X2_iterator h) (fun _ _ h => o_X2_iterator h) rfl 0 (lw_V q1870 q1277 q1278 q76 q1279) ⟨rfl, xd_X2_iterator⟩ ⟨rfl, rfl⟩ rfl hl.1 (Nat.le_of_ble_eq_true rfl) dX0_invoicesFor_9 (fun v12 H locs σ cells slots h hI => ?_)
  refine W.eq (g2 := F0 m 12 ls [.ref v12]) rfl ?_
  refine lv_astore_n (lv' := [(3, .ref v12), (2, .int (0 : Int32)), (0, .ref a0), (1, .int a1)]) hx hb dX0_invoicesFor_12 rfl hl (Nat.le_of_ble_eq_true rfl) rfl (fun ls hl => ?_)
  exact w_X0_invoicesFor_L13 hX xFU a1 (0 : Int32) v12 _ _ _ _ _ _ h hI (lv_sub hl [3, 1, 0] rfl)
/-! PayMatch.order(II)I  -/
theorem w_X0_order_b68 {a3 : Nat} {r : Int32} (hX : xX E R p m c cX0_order 4 s args RX0 "order" meth (some .int) 5 145 σ0 σ9)
    (h : (f_X0_order_b68 a3).1 σ = some (r, σ9)) (hI : xI E σ0 σ s H locs cells slots) (hl : lv_has ls 4 [(3, .ref a3)]) : W p l e R s m args below meth c H locs cells slots (xMQ E below args s σ0 σ9 (some (.int r))) (F0 m 68 ls []) := by
  have hx := hX.1.1
  have hb := hX.1.2.1
  delta f_X0_order_b68 at h
  refine lv_aload_n hx hb dX0_order_68 rfl (lv_at hl 0 rfl) ?_
  refine xr_gI h hX hI xl_X0_346_6 dX0_order_69 (fun v18 h => ?_)
  refine lv_goto (tgt := 109) hx hb dX0_order_72 (by decide) ?_
  exact xr_ireturn h hX hI dX0_order_109
theorem w_X0_order_b75 {a3 : Nat} {r : Int32} (hX : xX E R p m c cX0_order 4 s args RX0 "order" meth (some .int) 5 145 σ0 σ9)
    (h : (f_X0_order_b75 a3).1 σ = some (r, σ9)) (hI : xI E σ0 σ s H locs cells slots) (hl : lv_has ls 4 [(3, .ref a3)]) : W p l e R s m args below meth c H locs cells slots (xMQ E below args s σ0 σ9 (some (.int r))) (F0 m 75 ls []) := by
  have hx := hX.1.1
  have hb := hX.1.2.1
  delta f_X0_order_b75 at h
  refine lv_aload_n hx hb dX0_order_75 rfl (lv_at hl 0 rfl) ?_
  refine xr_gN h hX hI xl_X0_150_6.g dX0_order_76 (fun v16 h => ?_)
  refine xr_callV (iv := (fun b => some (.int b))) (As := []) (rest := []) h hX hI (fun _ _ h => w_X2_size h) (fun _ _ h => o_X2_size h) rfl 0 (lw_V q303 q304 q305 q76 q306) ⟨rfl, xd_X2_size⟩ ⟨rfl, rfl⟩ rfl hl.1 (Nat.le_of_ble_eq_true rfl) dX0_order_79 (fun v17 H locs σ cells slots h hI => ?_)
  refine W.eq (g2 := F0 m 82 ls [.int v17]) rfl ?_
  refine lv_goto (tgt := 109) hx hb dX0_order_82 (by decide) ?_
  exact xr_ireturn h hX hI dX0_order_109
theorem w_X0_order_b85 {a3 : Nat} {r : Int32} (hX : xX E R p m c cX0_order 4 s args RX0 "order" meth (some .int) 5 145 σ0 σ9)
    (h : (f_X0_order_b85 a3).1 σ = some (r, σ9)) (hI : xI E σ0 σ s H locs cells slots) (hl : lv_has ls 4 [(3, .ref a3)]) : W p l e R s m args below meth c H locs cells slots (xMQ E below args s σ0 σ9 (some (.int r))) (F0 m 85 ls []) := by
  have hx := hX.1.1
  have hb := hX.1.2.1
  delta f_X0_order_b85 at h
  refine lv_aload_n hx hb dX0_order_85 rfl (lv_at hl 0 rfl) ?_
  refine xr_gI h hX hI xl_X0_138_6.g dX0_order_86 (fun v15 h => ?_)
  refine lv_goto (tgt := 109) hx hb dX0_order_89 (by decide) ?_
  exact xr_ireturn h hX hI dX0_order_109
theorem w_X0_order_b92 {a3 : Nat} {r : Int32} (hX : xX E R p m c cX0_order 4 s args RX0 "order" meth (some .int) 5 145 σ0 σ9)
    (h : (f_X0_order_b92 a3).1 σ = some (r, σ9)) (hI : xI E σ0 σ s H locs cells slots) (hl : lv_has ls 4 [(3, .ref a3)]) : W p l e R s m args below meth c H locs cells slots (xMQ E below args s σ0 σ9 (some (.int r))) (F0 m 92 ls []) := by
  have hx := hX.1.1
  have hb := hX.1.2.1
  delta f_X0_order_b92 at h
  refine lv_aload_n hx hb dX0_order_92 rfl (lv_at hl 0 rfl) ?_
  refine xr_gI h hX hI xl_X0_178_6.g dX0_order_93 (fun v14 h => ?_)
  refine lv_goto (tgt := 109) hx hb dX0_order_96 (by decide) ?_
  exact xr_ireturn h hX hI dX0_order_109
theorem w_X0_order_b99 {a0 : Nat} {a1 : Int32} {r : Int32} (hX : xX E R p m c cX0_order 4 s args RX0 "order" meth (some .int) 5 145 σ0 σ9)
    (h : (f_X0_order_b99 a0 a1).1 σ = some (r, σ9)) (hI : xI E σ0 σ s H locs cells slots) (hl : lv_has ls 4 [(0, .ref a0), (1, .int a1)]) : W p l e R s m args below meth c H locs cells slots (xMQ E below args s σ0 σ9 (some (.int r))) (F0 m 99 ls []) := by
  have hx := hX.1.1
  have hb := hX.1.2.1
  delta f_X0_order_b99 at h
  refine lv_aload_n hx hb dX0_order_99 rfl (lv_at hl 0 rfl) ?_
  refine lv_iload_n hx hb dX0_order_100 rfl (lv_at hl 1 rfl) ?_
  refine xr_callV (iv := (fun b => some (.int b))) (As := [.int a1]) (rest := []) h hX hI (fun _ _ h => w_X0_invoicesFor h) (fun _ _ h => o_X0_invoicesFor h) rfl 1 (lw_V q1866 q1868 qs29 q74 q1869) ⟨rfl, xd_X0_invoicesFor⟩ ⟨rfl, rfl⟩ rfl hl.1 (Nat.le_of_ble_eq_true rfl) dX0_order_101 (fun v13 H locs σ cells slots h hI => ?_)
  refine W.eq (g2 := F0 m 104 ls [.int v13]) rfl ?_
  refine lv_goto (tgt := 109) hx hb dX0_order_104 (by decide) ?_
  exact xr_ireturn h hX hI dX0_order_109
theorem o_X0_order {a0 : Nat} {a1 : Int32} {a2 : Int32} {r : Int32} {σ σ9 : xS} (h : (f_X0_order a0 a1 a2).1 σ = some (r, σ9)) : ∃ fs, σ.1 a0 = some (.inl (0, fs)) := xck_of h
theorem w_X0_order {E : xE} {l : Launch} {a0 : Nat} {a1 : Int32} {a2 : Int32} {r : Int32} {σ σ9 : xS} (h : (f_X0_order a0 a1 a2).1 σ = some (r, σ9)) : xMet E l yX0_order (ws_ yX0_order cX0_order 4 (some .int)) 5 145 [.ref a0, .int a1, .int a2] σ σ9 (some (.int r)) := by
  refine xstart (by decide +kernel) ((f_X0_order a0 a1 a2).2 _ _ _ h) (Nat.le_of_ble_eq_true rfl) ?_
  intro p e s m args below meth c H locs cells slots ls R hX hI hl
  have hx := hX.1.1
  have hb := hX.1.2.1
  have hl : lv_has ls 4 [(0, .ref a0), (1, .int a1), (2, .int a2)] := hl
  generalize hσ0 : σ = σ0 at hX hI ⊢
  have h : (f_X0_order a0 a1 a2).1 σ0 = some (r, σ9) := by rw [← hσ0]; exact h
  clear hσ0
  delta f_X0_order at h
  have h := (xck_bd h).2
  refine lv_aload_n hx hb dX0_order_0 rfl (lv_at hl 0 rfl) ?_
  refine xr_gN h hX hI xl_X0_22_0.g dX0_order_1 (fun v19 h => ?_)
  refine xr_gN h hX hI xl_X0_130_1.g dX0_order_4 (fun v20 h => ?_)
  refine lv_iload_n hx hb dX0_order_7 rfl (lv_at hl 1 rfl) ?_
  refine xr_callV (iv := (fun b => some (.int b))) (As := [.int a1]) (rest := []) h hX hI (fun _ _ h => w_X2_has h) (fun _ _ h => o_X2_has h) rfl 1 (lw_V q1225 q1226 q1227 q76 q1228) ⟨rfl, xd_X2_has⟩ ⟨rfl, rfl⟩ rfl hl.1 (Nat.le_of_ble_eq_true rfl) dX0_order_8 (fun v21 H locs σ cells slots h hI => ?_)
  refine W.eq (g2 := F0 m 11 ls [.int v21]) rfl ?_
  refine lv_if_ne (tgt := 16) hx hb dX0_order_11 (by decide) (fun hc => ?_) (fun hc => ?_)
  · have h := xif_f h hc
    refine lv_aload_n hx hb dX0_order_16 rfl (lv_at hl 0 rfl) ?_
    refine xr_gN h hX hI xl_X0_22_0.g dX0_order_17 (fun v22 h => ?_)
    refine xr_gN h hX hI xl_X0_130_1.g dX0_order_20 (fun v23 h => ?_)
    refine lv_iload_n hx hb dX0_order_23 rfl (lv_at hl 1 rfl) ?_
    refine xr_callV (iv := (fun b => some (.ref b))) (As := [.int a1]) (rest := []) h hX hI (fun _ _ h => w_X2_get h) (fun _ _ h => o_X2_get h) rfl 1 (lw_V q1249 q1250 q1251 q76 q1252) ⟨rfl, xd_X2_get⟩ ⟨rfl, rfl⟩ rfl hl.1 (Nat.le_of_ble_eq_true rfl) dX0_order_24 (fun v24 H locs σ cells slots h hI => ?_)
    refine W.eq (g2 := F0 m 27 ls [.ref v24]) rfl ?_
    refine xr_cks h hX hI xc_X0_133 dX0_order_27 (fun h => ?_)
    refine lv_astore_n (lv' := [(3, .ref v24), (0, .ref a0), (1, .int a1), (2, .int a2)]) hx hb dX0_order_30 rfl hl (Nat.le_of_ble_eq_true rfl) rfl (fun ls hl => ?_)
    refine lv_iload_n hx hb dX0_order_31 rfl (lv_at hl 3 rfl) ?_
    refine xif h (fun hc0 h => ?_) (fun hc0 h => ?_)
    · refine W.eq (g2 := F0 m 32 ls (.int (0 : Int32) :: [])) (by rw [hc0]) ?_
      refine lv_tableIn (tgt := 68) (off := 36) hx hb dX0_order_32 (by decide) (by decide) (by decide) (by decide) ?_
      exact w_X0_order_b68 hX h hI (lv_sub hl [0] rfl)
    · refine xif h (fun hc1 h => ?_) (fun hc1 h => ?_)
      · refine W.eq (g2 := F0 m 32 ls (.int (1 : Int32) :: [])) (by rw [hc1]) ?_
        refine lv_tableIn (tgt := 75) (off := 43) hx hb dX0_order_32 (by decide) (by decide) (by decide) (by decide) ?_
        exact w_X0_order_b75 hX h hI (lv_sub hl [0] rfl)
      · refine xif h (fun hc2 h => ?_) (fun hc2 h => ?_)
        · refine W.eq (g2 := F0 m 32 ls (.int (2 : Int32) :: [])) (by rw [hc2]) ?_
          refine lv_tableIn (tgt := 85) (off := 53) hx hb dX0_order_32 (by decide) (by decide) (by decide) (by decide) ?_
          exact w_X0_order_b85 hX h hI (lv_sub hl [0] rfl)
        · refine xif h (fun hc3 h => ?_) (fun hc3 h => ?_)
          · refine W.eq (g2 := F0 m 32 ls (.int (3 : Int32) :: [])) (by rw [hc3]) ?_
            refine lv_tableIn (tgt := 92) (off := 60) hx hb dX0_order_32 (by decide) (by decide) (by decide) (by decide) ?_
            exact w_X0_order_b92 hX h hI (lv_sub hl [0] rfl)
          · refine xif h (fun hc4 h => ?_) (fun hc4 h => ?_)
            · refine W.eq (g2 := F0 m 32 ls (.int (4 : Int32) :: [])) (by rw [hc4]) ?_
              refine lv_tableIn (tgt := 99) (off := 67) hx hb dX0_order_32 (by decide) (by decide) (by decide) (by decide) ?_
              exact w_X0_order_b99 hX h hI (lv_sub hl [1, 2] rfl)
            · refine lv_tableOut (tgt := 107) hx hb dX0_order_32 (xtblo (L := [(0 : Int32), (1 : Int32), (2 : Int32), (3 : Int32), (4 : Int32)]) (by decide) (by decide) (List.forall_mem_cons.mpr ⟨hc0, (List.forall_mem_cons.mpr ⟨hc1, (List.forall_mem_cons.mpr ⟨hc2, (List.forall_mem_cons.mpr ⟨hc3, (List.forall_mem_cons.mpr ⟨hc4, (fun _ h => absurd h List.not_mem_nil)⟩)⟩)⟩)⟩)⟩)) (by decide) ?_
              refine lv_bipush (v := (-2 : Int32)) hx hb dX0_order_107 (by decide) ?_
              exact xr_ireturn h hX hI dX0_order_109
  · have h := xif_t h hc
    refine lv_iconst (v := (-1 : Int32)) hx hb dX0_order_14 (by decide) ?_
    exact xr_ireturn h hX hI dX0_order_15
/-! PayMatchModel.billsOf(I)I  -/
theorem w_X3_billsOf_b32 {rec4 : Nat → Int32 → Int32 → Int32 → xM Int32} {t0 : Int32} {t1 : Int32} {a0 : Nat} {a1 : Int32} {a3 : Int32} {r : Int32} (hX : xX E R p m c cX3_billsOf 4 s args RX3 "billsOf" meth (some .int) 1 21 σ0 σ9) (hrec4 : ∀ (a0 : Nat) (a1 : Int32) (a2 : Int32) (a3 : Int32) (σ : xS) (H : Heap) (locs : List Loc) (cells slots : Nat) (ls : Array Slot), (rec4 a0 a1 a2 a3).1 σ = some (r, σ9) → xI E σ0 σ s H locs cells slots → lv_has ls 4 [(0, .ref a0), (1, .int a1), (2, .int a2), (3, .int a3)] → W p l e R s m args below meth c H locs cells slots (xMQ E below args s σ0 σ9 (some (.int r))) (F0 m 4 ls []))
    (h : (f_X3_billsOf_b32 rec4 t0 t1 a0 a1 a3).1 σ = some (r, σ9)) (hI : xI E σ0 σ s H locs cells slots) (hl : lv_has ls 4 [(0, .ref a0), (1, .int a1), (3, .int a3)]) : W p l e R s m args below meth c H locs cells slots (xMQ E below args s σ0 σ9 (some (.int r))) (F0 m 32 ls [.int t1, .int t0]) := by
  have hx := hX.1.1
  have hb := hX.1.2.1
  delta f_X3_billsOf_b32 at h
  refine lv_iadd hx hb dX3_billsOf_32 ?_
  refine lv_istore_n (lv' := [(2, .int (t0 + t1)), (0, .ref a0), (1, .int a1), (3, .int a3)]) hx hb dX3_billsOf_33 rfl hl (Nat.le_of_ble_eq_true rfl) rfl (fun ls hl => ?_)
  refine lv_iinc (k := 3) (lv' := [(3, .int (a3 + (1 : Int32))), (2, .int (t0 + t1)), (0, .ref a0), (1, .int a1)]) hx hb dX3_billsOf_34 hl rfl (xiinc (by decide)) (Nat.le_of_ble_eq_true rfl) rfl (fun ls hl => ?_)
  refine lv_goto (tgt := 4) hx hb dX3_billsOf_37 (by decide) ?_
  exact hrec4 a0 a1 (t0 + t1) (a3 + (1 : Int32)) _ _ _ _ _ _ h hI (lv_sub hl [2, 3, 1, 0] rfl)
theorem w_X3_billsOf_b4 {rec4 : Nat → Int32 → Int32 → Int32 → xM Int32} {a0 : Nat} {a1 : Int32} {a2 : Int32} {a3 : Int32} {r : Int32} (hX : xX E R p m c cX3_billsOf 4 s args RX3 "billsOf" meth (some .int) 1 21 σ0 σ9) (hrec4 : ∀ (a0 : Nat) (a1 : Int32) (a2 : Int32) (a3 : Int32) (σ : xS) (H : Heap) (locs : List Loc) (cells slots : Nat) (ls : Array Slot), (rec4 a0 a1 a2 a3).1 σ = some (r, σ9) → xI E σ0 σ s H locs cells slots → lv_has ls 4 [(0, .ref a0), (1, .int a1), (2, .int a2), (3, .int a3)] → W p l e R s m args below meth c H locs cells slots (xMQ E below args s σ0 σ9 (some (.int r))) (F0 m 4 ls []))
    (h : (f_X3_billsOf_b4 rec4 a0 a1 a2 a3).1 σ = some (r, σ9)) (hI : xI E σ0 σ s H locs cells slots) (hl : lv_has ls 4 [(0, .ref a0), (1, .int a1), (2, .int a2), (3, .int a3)]) : W p l e R s m args below meth c H locs cells slots (xMQ E below args s σ0 σ9 (some (.int r))) (F0 m 4 ls []) := by
  have hx := hX.1.1
  have hb := hX.1.2.1
  delta f_X3_billsOf_b4 at h
  refine lv_iload_n hx hb dX3_billsOf_4 rfl (lv_at hl 3 rfl) ?_
  refine lv_aload_n hx hb dX3_billsOf_5 rfl (lv_at hl 0 rfl) ?_
  refine lv_iconst (v := (3 : Int32)) hx hb dX3_billsOf_6 (by decide) ?_
  refine xr_callV (iv := (fun b => some (.int b))) (As := [.int (3 : Int32)]) (rest := [.int a3]) h hX hI (fun _ _ h => w_X3_at h) (fun _ _ h => o_X3_at h) rfl 1 (lw_V q2022 q2024 qs31 q87 q2025) ⟨rfl, xd_X3_at⟩ ⟨rfl, rfl⟩ rfl hl.1 (Nat.le_of_ble_eq_true rfl) dX3_billsOf_7 (fun v4 H locs σ cells slots h hI => ?_)
  refine W.eq (g2 := F0 m 10 ls [.int v4, .int a3]) rfl ?_
  refine lv_icmp_ge (tgt := 40) hx hb dX3_billsOf_10 (by decide) (fun hc => ?_) (fun hc => ?_)
  · have h := xif_t h hc
    refine lv_iload_n hx hb dX3_billsOf_40 rfl (lv_at hl 2 rfl) ?_
    exact xr_ireturn h hX hI dX3_billsOf_41
  · have h := xif_f h hc
    refine lv_iload_n hx hb dX3_billsOf_13 rfl (lv_at hl 2 rfl) ?_
    refine lv_aload_n hx hb dX3_billsOf_14 rfl (lv_at hl 0 rfl) ?_
    refine lv_iload_n hx hb dX3_billsOf_15 rfl (lv_at hl 3 rfl) ?_
    refine lv_iconst (v := (1 : Int32)) hx hb dX3_billsOf_16 (by decide) ?_
    refine xr_callS (iv := (fun b => some (.int b))) (As := [.int a3, .int (1 : Int32)]) (rest := [.ref a0, .int a2]) h hX hI (fun _ _ h => w_X3_ofInvoice h) 2 (lw_S q2068 q2069 q87 q2070) xd_X3_ofInvoice ⟨rfl, rfl⟩ rfl hl.1 (Nat.le_of_ble_eq_true rfl) dX3_billsOf_17 (fun v5 H locs σ cells slots h hI => ?_)
    refine W.eq (g2 := F0 m 20 ls [.int v5, .ref a0, .int a2]) rfl ?_
    refine xr_callV (iv := (fun b => some (.int b))) (As := [.int v5]) (rest := [.int a2]) h hX hI (fun _ _ h => w_X3_at h) (fun _ _ h => o_X3_at h) rfl 1 (lw_V q2022 q2024 qs31 q87 q2025) ⟨rfl, xd_X3_at⟩ ⟨rfl, rfl⟩ rfl hl.1 (Nat.le_of_ble_eq_true rfl) dX3_billsOf_20 (fun v6 H locs σ cells slots h hI => ?_)
    refine W.eq (g2 := F0 m 23 ls [.int v6, .int a2]) rfl ?_
    refine lv_iload_n hx hb dX3_billsOf_23 rfl (lv_at hl 1 rfl) ?_
    refine lv_icmp_ne (tgt := 31) hx hb dX3_billsOf_24 (by decide) (fun hc => ?_) (fun hc => ?_)
    · have h := xif_f h hc
      refine lv_iconst (v := (0 : Int32)) hx hb dX3_billsOf_31 (by decide) ?_
      exact w_X3_billsOf_b32 hX hrec4 h hI (lv_sub hl [0, 1, 3] rfl)
    · have h := xif_t h hc
      refine lv_iconst (v := (1 : Int32)) hx hb dX3_billsOf_27 (by decide) ?_
      refine lv_goto (tgt := 32) hx hb dX3_billsOf_28 (by decide) ?_
      exact w_X3_billsOf_b32 hX hrec4 h hI (lv_sub hl [0, 1, 3] rfl)
theorem w_X3_billsOf_L4 {r : Int32} (hX : xX E R p m c cX3_billsOf 4 s args RX3 "billsOf" meth (some .int) 1 21 σ0 σ9) : ∀ (n : Nat) (a0 : Nat) (a1 : Int32) (a2 : Int32) (a3 : Int32) (σ : xS) (H : Heap) (locs : List Loc) (cells slots : Nat) (ls : Array Slot), (f_X3_billsOf_L4 n a0 a1 a2 a3).1 σ = some (r, σ9) → xI E σ0 σ s H locs cells slots → lv_has ls 4 [(0, .ref a0), (1, .int a1), (2, .int a2), (3, .int a3)] → W p l e R s m args below meth c H locs cells slots (xMQ E below args s σ0 σ9 (some (.int r))) (F0 m 4 ls []) := by
  intro n
  induction n with
  | zero =>
    intro a0 a1 a2 a3 σ H locs cells slots ls h
    exact xr_no h
  | succ n ih =>
    intro a0 a1 a2 a3 σ H locs cells slots ls h hI hl
    exact w_X3_billsOf_b4 hX ih h hI hl
theorem o_X3_billsOf {a0 : Nat} {a1 : Int32} {r : Int32} {σ σ9 : xS} (h : (f_X3_billsOf a0 a1).1 σ = some (r, σ9)) : ∃ fs, σ.1 a0 = some (.inl (3, fs)) := xck_of h
theorem w_X3_billsOf {E : xE} {l : Launch} {a0 : Nat} {a1 : Int32} {r : Int32} {σ σ9 : xS} (h : (f_X3_billsOf a0 a1).1 σ = some (r, σ9)) : xMet E l yX3_billsOf (ws_ yX3_billsOf cX3_billsOf 4 (some .int)) 1 21 [.ref a0, .int a1] σ σ9 (some (.int r)) := by
  refine xstart (by decide +kernel) ((f_X3_billsOf a0 a1).2 _ _ _ h) (Nat.le_of_ble_eq_true rfl) ?_
  intro p e s m args below meth c H locs cells slots ls R hX hI hl
  have hx := hX.1.1
  have hb := hX.1.2.1
  have hl : lv_has ls 4 [(0, .ref a0), (1, .int a1)] := hl
  generalize hσ0 : σ = σ0 at hX hI ⊢
  have h : (f_X3_billsOf a0 a1).1 σ0 = some (r, σ9) := by rw [← hσ0]; exact h
  clear hσ0
  delta f_X3_billsOf at h
  have h := (xck_bd h).2
  refine lv_iconst (v := (0 : Int32)) hx hb dX3_billsOf_0 (by decide) ?_
  refine lv_istore_n (lv' := [(2, .int (0 : Int32)), (0, .ref a0), (1, .int a1)]) hx hb dX3_billsOf_1 rfl hl (Nat.le_of_ble_eq_true rfl) rfl (fun ls hl => ?_)
  refine lv_iconst (v := (0 : Int32)) hx hb dX3_billsOf_2 (by decide) ?_
  refine lv_istore_n (lv' := [(3, .int (0 : Int32)), (2, .int (0 : Int32)), (0, .ref a0), (1, .int a1)]) hx hb dX3_billsOf_3 rfl hl (Nat.le_of_ble_eq_true rfl) rfl (fun ls hl => ?_)
  exact w_X3_billsOf_L4 hX xFU a0 a1 (0 : Int32) (0 : Int32) _ _ _ _ _ _ h hI (lv_sub hl [2, 3, 1, 0] rfl)
/-! PayMatchModel.order(II)I  -/
theorem o_X3_order {a0 : Nat} {a1 : Int32} {a2 : Int32} {r : Int32} {σ σ9 : xS} (h : (f_X3_order a0 a1 a2).1 σ = some (r, σ9)) : ∃ fs, σ.1 a0 = some (.inl (3, fs)) := xck_of h
theorem w_X3_order {E : xE} {l : Launch} {a0 : Nat} {a1 : Int32} {a2 : Int32} {r : Int32} {σ σ9 : xS} (h : (f_X3_order a0 a1 a2).1 σ = some (r, σ9)) : xMet E l yX3_order (ws_ yX3_order cX3_order 3 (some .int)) 2 44 [.ref a0, .int a1, .int a2] σ σ9 (some (.int r)) := by
  refine xstart (by decide +kernel) ((f_X3_order a0 a1 a2).2 _ _ _ h) (Nat.le_of_ble_eq_true rfl) ?_
  intro p e s m args below meth c H locs cells slots ls R hX hI hl
  have hx := hX.1.1
  have hb := hX.1.2.1
  have hl : lv_has ls 3 [(0, .ref a0), (1, .int a1), (2, .int a2)] := hl
  generalize hσ0 : σ = σ0 at hX hI ⊢
  have h : (f_X3_order a0 a1 a2).1 σ0 = some (r, σ9) := by rw [← hσ0]; exact h
  clear hσ0
  delta f_X3_order at h
  have h := (xck_bd h).2
  refine lv_aload_n hx hb dX3_order_0 rfl (lv_at hl 0 rfl) ?_
  refine lv_iconst (v := (0 : Int32)) hx hb dX3_order_1 (by decide) ?_
  refine xr_pt h hX hI xl_X3_1_3 (Or.inl rfl) rfl rfl dX3_order_2 (fun H locs σ h hI => ?_)
  refine lv_aload_n hx hb dX3_order_5 rfl (lv_at hl 0 rfl) ?_
  refine lv_iload_n hx hb dX3_order_6 rfl (lv_at hl 1 rfl) ?_
  refine xr_callV (iv := (fun b => some (.int b))) (As := [.int a1]) (rest := []) h hX hI (fun _ _ h => w_X3_isOrder h) (fun _ _ h => o_X3_isOrder h) rfl 1 (lw_V q2095 q2097 qs37 q87 q2098) ⟨rfl, xd_X3_isOrder⟩ ⟨rfl, rfl⟩ rfl hl.1 (Nat.le_of_ble_eq_true rfl) dX3_order_7 (fun v6 H locs σ cells slots h hI => ?_)
  refine W.eq (g2 := F0 m 10 ls [.int v6]) rfl ?_
  refine lv_if_ne (tgt := 15) hx hb dX3_order_10 (by decide) (fun hc => ?_) (fun hc => ?_)
  · have h := xif_f h hc
    refine lv_iload_n hx hb dX3_order_15 rfl (lv_at hl 2 rfl) ?_
    refine lv_iconst (v := (0 : Int32)) hx hb dX3_order_16 (by decide) ?_
    refine lv_iconst (v := (4 : Int32)) hx hb dX3_order_17 (by decide) ?_
    refine xr_callS (iv := (fun b => some (.int b))) (As := [.int a2, .int (0 : Int32), .int (4 : Int32)]) (rest := []) h hX hI (fun _ _ h => w_X3_in h) 3 (lw_S q2043 q2044 q87 q2045) xd_X3_in ⟨rfl, rfl⟩ rfl hl.1 (Nat.le_of_ble_eq_true rfl) dX3_order_18 (fun v7 H locs σ cells slots h hI => ?_)
    refine W.eq (g2 := F0 m 21 ls [.int v7]) rfl ?_
    refine lv_if_ne (tgt := 29) hx hb dX3_order_21 (by decide) (fun hc => ?_) (fun hc => ?_)
    · have h := xif_f h hc
      refine lv_iload_n hx hb dX3_order_29 rfl (lv_at hl 2 rfl) ?_
      refine lv_iconst (v := (4 : Int32)) hx hb dX3_order_30 (by decide) ?_
      refine lv_icmp_ge (tgt := 46) hx hb dX3_order_31 (by decide) (fun hc => ?_) (fun hc => ?_)
      · have h := xif_t h hc
        refine lv_aload_n hx hb dX3_order_46 rfl (lv_at hl 0 rfl) ?_
        refine lv_iload_n hx hb dX3_order_47 rfl (lv_at hl 1 rfl) ?_
        refine xr_callV (iv := (fun b => some (.int b))) (As := [.int a1]) (rest := []) h hX hI (fun _ _ h => w_X3_billsOf h) (fun _ _ h => o_X3_billsOf h) rfl 1 (lw_V q2312 q2314 qs69 q87 q2315) ⟨rfl, xd_X3_billsOf⟩ ⟨rfl, rfl⟩ rfl hl.1 (Nat.le_of_ble_eq_true rfl) dX3_order_48 (fun v8 H locs σ cells slots h hI => ?_)
        refine W.eq (g2 := F0 m 51 ls [.int v8]) rfl ?_
        exact xr_ireturn h hX hI dX3_order_51
      · have h := xif_f h hc
        refine lv_aload_n hx hb dX3_order_34 rfl (lv_at hl 0 rfl) ?_
        refine lv_iload_n hx hb dX3_order_35 rfl (lv_at hl 1 rfl) ?_
        refine lv_iload_n hx hb dX3_order_36 rfl (lv_at hl 2 rfl) ?_
        refine xr_callS (iv := (fun b => some (.int b))) (As := [.int a1, .int a2]) (rest := [.ref a0]) h hX hI (fun _ _ h => w_X3_ofOrder h) 2 (lw_S q2075 q2076 q87 q2077) xd_X3_ofOrder ⟨rfl, rfl⟩ rfl hl.1 (Nat.le_of_ble_eq_true rfl) dX3_order_37 (fun v9 H locs σ cells slots h hI => ?_)
        refine W.eq (g2 := F0 m 40 ls [.int v9, .ref a0]) rfl ?_
        refine xr_callV (iv := (fun b => some (.int b))) (As := [.int v9]) (rest := []) h hX hI (fun _ _ h => w_X3_at h) (fun _ _ h => o_X3_at h) rfl 1 (lw_V q2022 q2024 qs31 q87 q2025) ⟨rfl, xd_X3_at⟩ ⟨rfl, rfl⟩ rfl hl.1 (Nat.le_of_ble_eq_true rfl) dX3_order_40 (fun v10 H locs σ cells slots h hI => ?_)
        refine W.eq (g2 := F0 m 43 ls [.int v10]) rfl ?_
        refine lv_goto (tgt := 51) hx hb dX3_order_43 (by decide) ?_
        exact xr_ireturn h hX hI dX3_order_51
    · have h := xif_t h hc
      refine lv_bipush (v := (-2 : Int32)) hx hb dX3_order_24 (by decide) ?_
      refine lv_goto (tgt := 51) hx hb dX3_order_26 (by decide) ?_
      exact xr_ireturn h hX hI dX3_order_51
  · have h := xif_t h hc
    refine lv_iconst (v := (-1 : Int32)) hx hb dX3_order_13 (by decide) ?_
    exact xr_ireturn h hX hI dX3_order_14
/-! PayMatch.line(III)I  -/
theorem w_X0_line_b80 {a4 : Nat} {r : Int32} (hX : xX E R p m c cX0_line 5 s args RX0 "line" meth (some .int) 6 129 σ0 σ9)
    (h : (f_X0_line_b80 a4).1 σ = some (r, σ9)) (hI : xI E σ0 σ s H locs cells slots) (hl : lv_has ls 5 [(4, .ref a4)]) : W p l e R s m args below meth c H locs cells slots (xMQ E below args s σ0 σ9 (some (.int r))) (F0 m 80 ls []) := by
  have hx := hX.1.1
  have hb := hX.1.2.1
  delta f_X0_line_b80 at h
  refine lv_aload hx hb dX0_line_80 (lv_at hl 0 rfl) ?_
  refine xr_gI h hX hI xl_X0_352_5 dX0_line_82 (fun v32 h => ?_)
  refine lv_goto (tgt := 187) hx hb dX0_line_85 (by decide) ?_
  exact xr_ireturn h hX hI dX0_line_187
theorem w_X0_line_b88 {a4 : Nat} {r : Int32} (hX : xX E R p m c cX0_line 5 s args RX0 "line" meth (some .int) 6 129 σ0 σ9)
    (h : (f_X0_line_b88 a4).1 σ = some (r, σ9)) (hI : xI E σ0 σ s H locs cells slots) (hl : lv_has ls 5 [(4, .ref a4)]) : W p l e R s m args below meth c H locs cells slots (xMQ E below args s σ0 σ9 (some (.int r))) (F0 m 88 ls []) := by
  have hx := hX.1.1
  have hb := hX.1.2.1
  delta f_X0_line_b88 at h
  refine lv_aload hx hb dX0_line_88 (lv_at hl 0 rfl) ?_
  refine xr_gI h hX hI xl_X0_172_5.g dX0_line_90 (fun v31 h => ?_)
  refine lv_goto (tgt := 187) hx hb dX0_line_93 (by decide) ?_
  exact xr_ireturn h hX hI dX0_line_187
theorem w_X0_line_b96 {a4 : Nat} {r : Int32} (hX : xX E R p m c cX0_line 5 s args RX0 "line" meth (some .int) 6 129 σ0 σ9)
    (h : (f_X0_line_b96 a4).1 σ = some (r, σ9)) (hI : xI E σ0 σ s H locs cells slots) (hl : lv_has ls 5 [(4, .ref a4)]) : W p l e R s m args below meth c H locs cells slots (xMQ E below args s σ0 σ9 (some (.int r))) (F0 m 96 ls []) := by
  have hx := hX.1.1
  have hb := hX.1.2.1
  delta f_X0_line_b96 at h
  refine lv_aload hx hb dX0_line_96 (lv_at hl 0 rfl) ?_
  refine xr_gI h hX hI xl_X0_175_5.g dX0_line_98 (fun v30 h => ?_)
  refine lv_goto (tgt := 187) hx hb dX0_line_101 (by decide) ?_
  exact xr_ireturn h hX hI dX0_line_187
theorem w_X0_line_b104 {a4 : Nat} {r : Int32} (hX : xX E R p m c cX0_line 5 s args RX0 "line" meth (some .int) 6 129 σ0 σ9)
    (h : (f_X0_line_b104 a4).1 σ = some (r, σ9)) (hI : xI E σ0 σ s H locs cells slots) (hl : lv_has ls 5 [(4, .ref a4)]) : W p l e R s m args below meth c H locs cells slots (xMQ E below args s σ0 σ9 (some (.int r))) (F0 m 104 ls []) := by
  have hx := hX.1.1
  have hb := hX.1.2.1
  delta f_X0_line_b104 at h
  refine lv_aload hx hb dX0_line_104 (lv_at hl 0 rfl) ?_
  refine xr_gI h hX hI xl_X0_166_5.g dX0_line_106 (fun v29 h => ?_)
  refine lv_goto (tgt := 187) hx hb dX0_line_109 (by decide) ?_
  exact xr_ireturn h hX hI dX0_line_187
theorem w_X0_line_b112 {a4 : Nat} {r : Int32} (hX : xX E R p m c cX0_line 5 s args RX0 "line" meth (some .int) 6 129 σ0 σ9)
    (h : (f_X0_line_b112 a4).1 σ = some (r, σ9)) (hI : xI E σ0 σ s H locs cells slots) (hl : lv_has ls 5 [(4, .ref a4)]) : W p l e R s m args below meth c H locs cells slots (xMQ E below args s σ0 σ9 (some (.int r))) (F0 m 112 ls []) := by
  have hx := hX.1.1
  have hb := hX.1.2.1
  delta f_X0_line_b112 at h
  refine lv_aload hx hb dX0_line_112 (lv_at hl 0 rfl) ?_
  refine xr_gI h hX hI xl_X0_355_5.g dX0_line_114 (fun v28 h => ?_)
  refine lv_goto (tgt := 187) hx hb dX0_line_117 (by decide) ?_
  exact xr_ireturn h hX hI dX0_line_187
theorem w_X0_line_b120 {a4 : Nat} {r : Int32} (hX : xX E R p m c cX0_line 5 s args RX0 "line" meth (some .int) 6 129 σ0 σ9)
    (h : (f_X0_line_b120 a4).1 σ = some (r, σ9)) (hI : xI E σ0 σ s H locs cells slots) (hl : lv_has ls 5 [(4, .ref a4)]) : W p l e R s m args below meth c H locs cells slots (xMQ E below args s σ0 σ9 (some (.int r))) (F0 m 120 ls []) := by
  have hx := hX.1.1
  have hb := hX.1.2.1
  delta f_X0_line_b120 at h
  refine lv_aload hx hb dX0_line_120 (lv_at hl 0 rfl) ?_
  refine xr_gI h hX hI xl_X0_169_5.g dX0_line_122 (fun v27 h => ?_)
  refine lv_goto (tgt := 187) hx hb dX0_line_125 (by decide) ?_
  exact xr_ireturn h hX hI dX0_line_187
theorem w_X0_line_b128 {a4 : Nat} {r : Int32} (hX : xX E R p m c cX0_line 5 s args RX0 "line" meth (some .int) 6 129 σ0 σ9)
    (h : (f_X0_line_b128 a4).1 σ = some (r, σ9)) (hI : xI E σ0 σ s H locs cells slots) (hl : lv_has ls 5 [(4, .ref a4)]) : W p l e R s m args below meth c H locs cells slots (xMQ E below args s σ0 σ9 (some (.int r))) (F0 m 128 ls []) := by
  have hx := hX.1.1
  have hb := hX.1.2.1
  delta f_X0_line_b128 at h
  refine lv_aload hx hb dX0_line_128 (lv_at hl 0 rfl) ?_
  refine xr_gI h hX hI xl_X0_358_5.g dX0_line_130 (fun v26 h => ?_)
  refine lv_goto (tgt := 187) hx hb dX0_line_133 (by decide) ?_
  exact xr_ireturn h hX hI dX0_line_187
theorem w_X0_line_b136 {a4 : Nat} {r : Int32} (hX : xX E R p m c cX0_line 5 s args RX0 "line" meth (some .int) 6 129 σ0 σ9)
    (h : (f_X0_line_b136 a4).1 σ = some (r, σ9)) (hI : xI E σ0 σ s H locs cells slots) (hl : lv_has ls 5 [(4, .ref a4)]) : W p l e R s m args below meth c H locs cells slots (xMQ E below args s σ0 σ9 (some (.int r))) (F0 m 136 ls []) := by
  have hx := hX.1.1
  have hb := hX.1.2.1
  delta f_X0_line_b136 at h
  refine lv_aload hx hb dX0_line_136 (lv_at hl 0 rfl) ?_
  refine xr_gI h hX hI xl_X0_361_5.g dX0_line_138 (fun v25 h => ?_)
  refine lv_goto (tgt := 187) hx hb dX0_line_141 (by decide) ?_
  exact xr_ireturn h hX hI dX0_line_187
theorem w_X0_line_b144 {a0 : Nat} {a1 : Int32} {a2 : Int32} {r : Int32} (hX : xX E R p m c cX0_line 5 s args RX0 "line" meth (some .int) 6 129 σ0 σ9)
    (h : (f_X0_line_b144 a0 a1 a2).1 σ = some (r, σ9)) (hI : xI E σ0 σ s H locs cells slots) (hl : lv_has ls 5 [(0, .ref a0), (1, .int a1), (2, .int a2)]) : W p l e R s m args below meth c H locs cells slots (xMQ E below args s σ0 σ9 (some (.int r))) (F0 m 144 ls []) := by
  have hx := hX.1.1
  have hb := hX.1.2.1
  delta f_X0_line_b144 at h
  refine lv_aload_n hx hb dX0_line_144 rfl (lv_at hl 0 rfl) ?_
  refine lv_iload_n hx hb dX0_line_145 rfl (lv_at hl 1 rfl) ?_
  refine xr_callV (iv := (fun b => some (.int b))) (As := [.int a1]) (rest := []) h hX hI (fun _ _ h => w_X0_isOpen h) (fun _ _ h => o_X0_isOpen h) rfl 1 (lw_V q1308 q1310 qs12 q74 q1311) ⟨rfl, xd_X0_isOpen⟩ ⟨rfl, rfl⟩ rfl hl.1 (Nat.le_of_ble_eq_true rfl) dX0_line_146 (fun v22 H locs σ cells slots h hI => ?_)
  refine W.eq (g2 := F0 m 149 ls [.int v22]) rfl ?_
  refine lv_if_eq (tgt := 165) hx hb dX0_line_149 (by decide) (fun hc => ?_) (fun hc => ?_)
  · have h := xif_t h hc
    refine lv_iconst (v := (0 : Int32)) hx hb dX0_line_165 (by decide) ?_
    refine lv_goto (tgt := 187) hx hb dX0_line_166 (by decide) ?_
    exact xr_ireturn h hX hI dX0_line_187
  · have h := xif_f h hc
    refine lv_iconst (v := (0 : Int32)) hx hb dX0_line_152 (by decide) ?_
    refine lv_aload_n hx hb dX0_line_153 rfl (lv_at hl 0 rfl) ?_
    refine lv_iload_n hx hb dX0_line_154 rfl (lv_at hl 1 rfl) ?_
    refine lv_iload_n hx hb dX0_line_155 rfl (lv_at hl 2 rfl) ?_
    refine xr_callV (iv := (fun b => some (.int b))) (As := [.int a1, .int a2]) (rest := [.int (0 : Int32)]) h hX hI (fun _ _ h => w_X0_roomOf h) (fun _ _ h => o_X0_roomOf h) rfl 2 (lw_V q1430 q1432 qs14 q74 q1433) ⟨rfl, xd_X0_roomOf⟩ ⟨rfl, rfl⟩ rfl hl.1 (Nat.le_of_ble_eq_true rfl) dX0_line_156 (fun v23 H locs σ cells slots h hI => ?_)
    refine W.eq (g2 := F0 m 159 ls [.int v23, .int (0 : Int32)]) rfl ?_
    refine xr_callS (iv := (fun b => some (.int b))) (As := [.int (0 : Int32), .int v23]) (rest := []) h hX hI (fun _ _ h => w_J21_max h) 2 (lw_S q1879 q646 q101 q647) xd_J21_max ⟨rfl, rfl⟩ rfl hl.1 (Nat.le_of_ble_eq_true rfl) dX0_line_159 (fun v24 H locs σ cells slots h hI => ?_)
    refine W.eq (g2 := F0 m 162 ls [.int v24]) rfl ?_
    refine lv_goto (tgt := 187) hx hb dX0_line_162 (by decide) ?_
    exact xr_ireturn h hX hI dX0_line_187
theorem w_X0_line_b169 {a0 : Nat} {a1 : Int32} {a2 : Int32} {r : Int32} (hX : xX E R p m c cX0_line 5 s args RX0 "line" meth (some .int) 6 129 σ0 σ9)
    (h : (f_X0_line_b169 a0 a1 a2).1 σ = some (r, σ9)) (hI : xI E σ0 σ s H locs cells slots) (hl : lv_has ls 5 [(0, .ref a0), (1, .int a1), (2, .int a2)]) : W p l e R s m args below meth c H locs cells slots (xMQ E below args s σ0 σ9 (some (.int r))) (F0 m 169 ls []) := by
  have hx := hX.1.1
  have hb := hX.1.2.1
  delta f_X0_line_b169 at h
  refine lv_iconst (v := (0 : Int32)) hx hb dX0_line_169 (by decide) ?_
  refine lv_aload_n hx hb dX0_line_170 rfl (lv_at hl 0 rfl) ?_
  refine xr_gN h hX hI xl_X0_22_0.g dX0_line_171 (fun v19 h => ?_)
  refine lv_iload_n hx hb dX0_line_174 rfl (lv_at hl 1 rfl) ?_
  refine lv_iload_n hx hb dX0_line_175 rfl (lv_at hl 2 rfl) ?_
  refine xr_callV (iv := (fun b => some (.int b))) (As := [.int a1, .int a2]) (rest := [.int (0 : Int32)]) h hX hI (fun _ _ h => w_X1_left h) (fun _ _ h => o_X1_left h) rfl 2 (lw_V q1880 q1724 q1725 q75 q1726) ⟨rfl, xd_X1_left⟩ ⟨rfl, rfl⟩ rfl hl.1 (Nat.le_of_ble_eq_true rfl) dX0_line_176 (fun v20 H locs σ cells slots h hI => ?_)
  refine W.eq (g2 := F0 m 179 ls [.int v20, .int (0 : Int32)]) rfl ?_
  refine xr_callS (iv := (fun b => some (.int b))) (As := [.int (0 : Int32), .int v20]) (rest := []) h hX hI (fun _ _ h => w_J21_max h) 2 (lw_S q1879 q646 q101 q647) xd_J21_max ⟨rfl, rfl⟩ rfl hl.1 (Nat.le_of_ble_eq_true rfl) dX0_line_179 (fun v21 H locs σ cells slots h hI => ?_)
  refine W.eq (g2 := F0 m 182 ls [.int v21]) rfl ?_
  refine lv_goto (tgt := 187) hx hb dX0_line_182 (by decide) ?_
  exact xr_ireturn h hX hI dX0_line_187
theorem o_X0_line {a0 : Nat} {a1 : Int32} {a2 : Int32} {a3 : Int32} {r : Int32} {σ σ9 : xS} (h : (f_X0_line a0 a1 a2 a3).1 σ = some (r, σ9)) : ∃ fs, σ.1 a0 = some (.inl (0, fs)) := xck_of h
theorem w_X0_line {E : xE} {l : Launch} {a0 : Nat} {a1 : Int32} {a2 : Int32} {a3 : Int32} {r : Int32} {σ σ9 : xS} (h : (f_X0_line a0 a1 a2 a3).1 σ = some (r, σ9)) : xMet E l yX0_line (ws_ yX0_line cX0_line 5 (some .int)) 6 129 [.ref a0, .int a1, .int a2, .int a3] σ σ9 (some (.int r)) := by
  refine xstart (by decide +kernel) ((f_X0_line a0 a1 a2 a3).2 _ _ _ h) (Nat.le_of_ble_eq_true rfl) ?_
  intro p e s m args below meth c H locs cells slots ls R hX hI hl
  have hx := hX.1.1
  have hb := hX.1.2.1
  have hl : lv_has ls 5 [(0, .ref a0), (1, .int a1), (2, .int a2), (3, .int a3)] := hl
  generalize hσ0 : σ = σ0 at hX hI ⊢
  have h : (f_X0_line a0 a1 a2 a3).1 σ0 = some (r, σ9) := by rw [← hσ0]; exact h
  clear hσ0
  delta f_X0_line at h
  have h := (xck_bd h).2
  refine lv_aload_n hx hb dX0_line_0 rfl (lv_at hl 0 rfl) ?_
  refine xr_gN h hX hI xl_X0_22_0.g dX0_line_1 (fun v33 h => ?_)
  refine lv_iload_n hx hb dX0_line_4 rfl (lv_at hl 1 rfl) ?_
  refine lv_iload_n hx hb dX0_line_5 rfl (lv_at hl 2 rfl) ?_
  refine xr_callV (iv := (fun b => some (.int b))) (As := [.int a1, .int a2]) (rest := []) h hX hI (fun _ _ h => w_X1_hasLine h) (fun _ _ h => o_X1_hasLine h) rfl 2 (lw_V q1318 q1319 q1320 q75 q1321) ⟨rfl, xd_X1_hasLine⟩ ⟨rfl, rfl⟩ rfl hl.1 (Nat.le_of_ble_eq_true rfl) dX0_line_6 (fun v34 H locs σ cells slots h hI => ?_)
  refine W.eq (g2 := F0 m 9 ls [.int v34]) rfl ?_
  refine lv_if_ne (tgt := 14) hx hb dX0_line_9 (by decide) (fun hc => ?_) (fun hc => ?_)
  · have h := xif_f h hc
    refine lv_aload_n hx hb dX0_line_14 rfl (lv_at hl 0 rfl) ?_
    refine xr_gN h hX hI xl_X0_22_0.g dX0_line_15 (fun v35 h => ?_)
    refine lv_iload_n hx hb dX0_line_18 rfl (lv_at hl 1 rfl) ?_
    refine lv_iload_n hx hb dX0_line_19 rfl (lv_at hl 2 rfl) ?_
    refine xr_callV (iv := (fun b => some (.ref b))) (As := [.int a1, .int a2]) (rest := []) h hX hI (fun _ _ h => w_X1_line h) (fun _ _ h => o_X1_line h) rfl 2 (lw_V q1323 q1324 q1325 q75 q1326) ⟨rfl, xd_X1_line⟩ ⟨rfl, rfl⟩ rfl hl.1 (Nat.le_of_ble_eq_true rfl) dX0_line_20 (fun v36 H locs σ cells slots h hI => ?_)
    refine W.eq (g2 := F0 m 23 ls [.ref v36]) rfl ?_
    refine lv_astore (lv' := [(4, .ref v36), (0, .ref a0), (1, .int a1), (2, .int a2), (3, .int a3)]) hx hb dX0_line_23 hl (Nat.le_of_ble_eq_true rfl) rfl (fun ls hl => ?_)
    refine lv_iload_n hx hb dX0_line_25 rfl (lv_at hl 4 rfl) ?_
    refine xif h (fun hc0 h => ?_) (fun hc0 h => ?_)
    · refine W.eq (g2 := F0 m 26 ls (.int (0 : Int32) :: [])) (by rw [hc0]) ?_
      refine lv_tableIn (tgt := 80) (off := 54) hx hb dX0_line_26 (by decide) (by decide) (by decide) (by decide) ?_
      exact w_X0_line_b80 hX h hI (lv_sub hl [0] rfl)
    · refine xif h (fun hc1 h => ?_) (fun hc1 h => ?_)
      · refine W.eq (g2 := F0 m 26 ls (.int (1 : Int32) :: [])) (by rw [hc1]) ?_
        refine lv_tableIn (tgt := 88) (off := 62) hx hb dX0_line_26 (by decide) (by decide) (by decide) (by decide) ?_
        exact w_X0_line_b88 hX h hI (lv_sub hl [0] rfl)
      · refine xif h (fun hc2 h => ?_) (fun hc2 h => ?_)
        · refine W.eq (g2 := F0 m 26 ls (.int (2 : Int32) :: [])) (by rw [hc2]) ?_
          refine lv_tableIn (tgt := 96) (off := 70) hx hb dX0_line_26 (by decide) (by decide) (by decide) (by decide) ?_
          exact w_X0_line_b96 hX h hI (lv_sub hl [0] rfl)
        · refine xif h (fun hc3 h => ?_) (fun hc3 h => ?_)
          · refine W.eq (g2 := F0 m 26 ls (.int (3 : Int32) :: [])) (by rw [hc3]) ?_
            refine lv_tableIn (tgt := 104) (off := 78) hx hb dX0_line_26 (by decide) (by decide) (by decide) (by decide) ?_
            exact w_X0_line_b104 hX h hI (lv_sub hl [0] rfl)
          · refine xif h (fun hc4 h => ?_) (fun hc4 h => ?_)
            · refine W.eq (g2 := F0 m 26 ls (.int (4 : Int32) :: [])) (by rw [hc4]) ?_
              refine lv_tableIn (tgt := 112) (off := 86) hx hb dX0_line_26 (by decide) (by decide) (by decide) (by decide) ?_
              exact w_X0_line_b112 hX h hI (lv_sub hl [0] rfl)
            · refine xif h (fun hc5 h => ?_) (fun hc5 h => ?_)
              · refine W.eq (g2 := F0 m 26 ls (.int (5 : Int32) :: [])) (by rw [hc5]) ?_
                refine lv_tableIn (tgt := 120) (off := 94) hx hb dX0_line_26 (by decide) (by decide) (by decide) (by decide) ?_
                exact w_X0_line_b120 hX h hI (lv_sub hl [0] rfl)
              · refine xif h (fun hc6 h => ?_) (fun hc6 h => ?_)
                · refine W.eq (g2 := F0 m 26 ls (.int (6 : Int32) :: [])) (by rw [hc6]) ?_
                  refine lv_tableIn (tgt := 128) (off := 102) hx hb dX0_line_26 (by decide) (by decide) (by decide) (by decide) ?_
                  exact w_X0_line_b128 hX h hI (lv_sub hl [0] rfl)
                · refine xif h (fun hc7 h => ?_) (fun hc7 h => ?_)
                  · refine W.eq (g2 := F0 m 26 ls (.int (7 : Int32) :: [])) (by rw [hc7]) ?_
                    refine lv_tableIn (tgt := 136) (off := 110) hx hb dX0_line_26 (by decide) (by decide) (by decide) (by decide) ?_
                    exact w_X0_line_b136 hX h hI (lv_sub hl [0] rfl)
                  · refine xif h (fun hc8 h => ?_) (fun hc8 h => ?_)
                    · refine W.eq (g2 := F0 m 26 ls (.int (8 : Int32) :: [])) (by rw [hc8]) ?_
                      refine lv_tableIn (tgt := 144) (off := 118) hx hb dX0_line_26 (by decide) (by decide) (by decide) (by decide) ?_
                      exact w_X0_line_b144 hX h hI (lv_sub hl [1, 2, 3] rfl)
                    · refine xif h (fun hc9 h => ?_) (fun hc9 h => ?_)
                      · refine W.eq (g2 := F0 m 26 ls (.int (9 : Int32) :: [])) (by rw [hc9]) ?_
                        refine lv_tableIn (tgt := 169) (off := 143) hx hb dX0_line_26 (by decide) (by decide) (by decide) (by decide) ?_
                        exact w_X0_line_b169 hX h hI (lv_sub hl [1, 2, 3] rfl)
                      · refine lv_tableOut (tgt := 185) hx hb dX0_line_26 (xtblo (L := [(0 : Int32), (1 : Int32), (2 : Int32), (3 : Int32), (4 : Int32), (5 : Int32), (6 : Int32), (7 : Int32), (8 : Int32), (9 : Int32)]) (by decide) (by decide) (List.forall_mem_cons.mpr ⟨hc0, (List.forall_mem_cons.mpr ⟨hc1, (List.forall_mem_cons.mpr ⟨hc2, (List.forall_mem_cons.mpr ⟨hc3, (List.forall_mem_cons.mpr ⟨hc4, (List.forall_mem_cons.mpr ⟨hc5, (List.forall_mem_cons.mpr ⟨hc6, (List.forall_mem_cons.mpr ⟨hc7, (List.forall_mem_cons.mpr ⟨hc8, (List.forall_mem_cons.mpr ⟨hc9, (fun _ h => absurd h List.not_mem_nil)⟩)⟩)⟩)⟩)⟩)⟩)⟩)⟩)⟩)⟩)) (by decide) ?_
                        refine lv_bipush (v := (-2 : Int32)) hx hb dX0_line_185 (by decide) ?_
                        exact xr_ireturn h hX hI dX0_line_187
  · have h := xif_t h hc
    refine lv_iconst (v := (-1 : Int32)) hx hb dX0_line_12 (by decide) ?_
    exact xr_ireturn h hX hI dX0_line_13
end
