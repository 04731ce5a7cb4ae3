/-! walks, printed by gen.py -/
set_option maxRecDepth 100000
section
variable {E : xE} {p : Program} {l : Launch} {e : Env} {R : Room} {s : State} {m : MethodId} {args : Array Value} {below : List Frame} {meth : Method} {c : Code} {H : Heap} {locs : List Loc} {cells slots : Nat} {ls : Array Slot} {σ0 σ σ9 : xS}
/-! PayMatch.readInvoice()I  -/
theorem o_X0_readInvoice {a0 : Nat} {r : Int32} {σ σ9 : xS} (h : (f_X0_readInvoice a0).1 σ = some (r, σ9)) : ∃ fs, σ.1 a0 = some (.inl (0, fs)) := xck_of h
theorem w_X0_readInvoice {E : xE} {l : Launch} {a0 : Nat} {r : Int32} {σ σ9 : xS} (hl0 : l.stackTraces = false) (h : (f_X0_readInvoice a0).1 σ = some (r, σ9)) : xMet E l yX0_readInvoice (wsW_ yX0_readInvoice cX0_readInvoice 3 (some .int) [((0 : Nat), (34 : Nat), (61 : Nat), (256 : Nat)), ((35 : Nat), (60 : Nat), (61 : Nat), (256 : Nat))]) 15 463 [.ref a0] σ σ9 (some (.int r)) := by
  refine xstartH (by decide +kernel) ((f_X0_readInvoice a0).2 _ _ _ h) (Nat.le_of_ble_eq_true rfl) ?_
  intro p e s m args below meth c H locs cells slots ls R hX hE hI hl
  have hx := hX.1.1
  have hb := hX.1.2.1
  have hl : lv_has ls 3 [(0, .ref a0)] := hl
  generalize hσ0 : σ = σ0 at hX hI ⊢
  have h : (f_X0_readInvoice a0).1 σ0 = some (r, σ9) := by rw [← hσ0]; exact h
  clear hσ0
  delta f_X0_readInvoice at h
  have h := (xck_bd h).2
  refine xr_nw h hX hI xn_X0_230 dX0_readInvoice_0 (fun v12 H σ cells slots h hI => ?_)
  refine lv_dup hx hb dX0_readInvoice_3 rfl ?_
  refine lv_aload_n hx hb dX0_readInvoice_4 rfl (lv_at hl 0 rfl) ?_
  refine xr_gN h hX hI xl_X0_40_0.g dX0_readInvoice_5 (fun v13 h => ?_)
  refine xr_callI (As := [.ref v13]) (rest := [.ref v12]) h hX hI (fun _ _ h => w_X11_init h) 1 q1558 q1560 q114 q1559 rfl xd_X11_init ⟨rfl, rfl⟩ rfl hl.1 (Nat.le_of_ble_eq_true rfl) dX0_readInvoice_8 (fun _ H locs σ cells slots h hI => ?_)
  refine lv_astore_n (lv' := [(1, .ref v12), (0, .ref a0)]) hx hb dX0_readInvoice_11 rfl hl (Nat.le_of_ble_eq_true rfl) rfl (fun ls hl => ?_)
  refine lv_aload_n hx hb dX0_readInvoice_12 rfl (lv_at hl 0 rfl) ?_
  refine xr_callVX (iv := (fun _ => none)) (As := []) (rest := []) h hX hI (fun _ _ h => w_X11_read hl0 h) (fun _ _ h => o_X11_read h) rfl 0 (lw_V q1582 q1583 q1584 q114 q1585) ⟨rfl, xd_X11_read⟩ ⟨rfl, rfl⟩ rfl hl.1 (Nat.le_of_ble_eq_true rfl) dX0_readInvoice_13 (fun qv14 H locs σ cells slots ce h hI hce hcv hcl => ?_) (fun _ H locs σ cells slots h hI => ?_)
  · refine xr_catch hX hE rfl (by decide) rfl q1555 q1647 hce hcv hcl ?_
    refine lv_astore_n (lv' := [(1, .ref qv14), (0, .ref a0)]) hx hb dX0_readInvoice_61 rfl hl (Nat.le_of_ble_eq_true rfl) rfl (fun ls hl => ?_)
    refine lv_bipush (v := (-100 : Int32)) hx hb dX0_readInvoice_62 (by decide) ?_
    refine lv_aload_n hx hb dX0_readInvoice_64 rfl (lv_at hl 0 rfl) ?_
    refine xr_gI h hX hI xl_X0_258_11 dX0_readInvoice_65 (fun v22 h => ?_)
    refine lv_isub hx hb dX0_readInvoice_68 ?_
    exact xr_ireturn h hX hI dX0_readInvoice_69
  · refine lv_aload_n hx hb dX0_readInvoice_16 rfl (lv_at hl 0 rfl) ?_
    refine xr_callV (iv := (fun b => some (.ref b))) (As := []) (rest := []) h hX hI (fun _ _ h => w_X11_row h) (fun _ _ h => o_X11_row h) rfl 0 (lw_V q1679 q1680 q1681 q114 q1682) ⟨rfl, xd_X11_row⟩ ⟨rfl, rfl⟩ rfl hl.1 (Nat.le_of_ble_eq_true rfl) dX0_readInvoice_17 (fun v15 H locs σ cells slots h hI => ?_)
    refine W.eq (g2 := F0 m 20 ls [.ref v15]) rfl ?_
    refine lv_astore_n (lv' := [(2, .ref v15), (1, .ref v12), (0, .ref a0)]) hx hb dX0_readInvoice_20 rfl hl (Nat.le_of_ble_eq_true rfl) rfl (fun ls hl => ?_)
    refine lv_aload_n hx hb dX0_readInvoice_21 rfl (lv_at hl 2 rfl) ?_
    refine lv_aload_n hx hb dX0_readInvoice_22 rfl (lv_at hl 1 rfl) ?_
    refine xr_gI h hX hI xl_X0_242_10.g dX0_readInvoice_23 (fun v16 h => ?_)
    refine lv_aload_n hx hb dX0_readInvoice_26 rfl (lv_at hl 0 rfl) ?_
    refine xr_callV (iv := (fun b => some (.int b))) (As := [.int v16, .ref v15]) (rest := []) h hX hI (fun _ _ h => w_X0_areKnown h) (fun _ _ h => o_X0_areKnown h) rfl 2 (lw_V q1687 q1689 qs23 q74 q1690) ⟨rfl, xd_X0_areKnown⟩ ⟨rfl, rfl⟩ rfl hl.1 (Nat.le_of_ble_eq_true rfl) dX0_readInvoice_27 (fun v17 H locs σ cells slots h hI => ?_)
    refine W.eq (g2 := F0 m 30 ls [.int v17]) rfl ?_
    refine lv_if_ne (tgt := 35) hx hb dX0_readInvoice_30 (by decide) (fun hc => ?_) (fun hc => ?_)
    · have h := xif_f h hc
      refine lv_aload_n hx hb dX0_readInvoice_35 rfl (lv_at hl 0 rfl) ?_
      refine xr_callS (iv := (fun b => some (.int b))) (As := [.ref v15]) (rest := []) h hX hI (fun _ _ h => w_X0_areGood h) 1 (lw_S q1691 q1692 q74 q1693) xd_X0_areGood ⟨rfl, rfl⟩ rfl hl.1 (Nat.le_of_ble_eq_true rfl) dX0_readInvoice_36 (fun v18 H locs σ cells slots h hI => ?_)
      refine W.eq (g2 := F0 m 39 ls [.int v18]) rfl ?_
      refine lv_if_eq (tgt := 58) hx hb dX0_readInvoice_39 (by decide) (fun hc => ?_) (fun hc => ?_)
      · have h := xif_t h hc
        refine lv_bipush (v := (-2 : Int32)) hx hb dX0_readInvoice_58 (by decide) ?_
        exact xr_ireturn h hX hI dX0_readInvoice_60
      · have h := xif_f h hc
        refine lv_aload_n hx hb dX0_readInvoice_42 rfl (lv_at hl 2 rfl) ?_
        refine lv_aload_n hx hb dX0_readInvoice_43 rfl (lv_at hl 1 rfl) ?_
        refine xr_gI h hX hI xl_X0_253_10.g dX0_readInvoice_44 (fun v19 h => ?_)
        refine lv_aload_n hx hb dX0_readInvoice_47 rfl (lv_at hl 1 rfl) ?_
        refine xr_gI h hX hI xl_X0_242_10.g dX0_readInvoice_48 (fun v20 h => ?_)
        refine lv_aload_n hx hb dX0_readInvoice_51 rfl (lv_at hl 0 rfl) ?_
        refine xr_callV (iv := (fun b => some (.int b))) (As := [.int v19, .int v20, .ref v15]) (rest := []) h hX hI (fun _ _ h => w_X0_enter h) (fun _ _ h => o_X0_enter h) rfl 3 (lw_V q1532 q1534 qs18 q74 q1535) ⟨rfl, xd_X0_enter⟩ ⟨rfl, rfl⟩ rfl hl.1 (Nat.le_of_ble_eq_true rfl) dX0_readInvoice_52 (fun v21 H locs σ cells slots h hI => ?_)
        refine W.eq (g2 := F0 m 55 ls [.int v21]) rfl ?_
        refine lv_goto (tgt := 60) hx hb dX0_readInvoice_55 (by decide) ?_
        exact xr_ireturn h hX hI dX0_readInvoice_60
    · have h := xif_t h hc
      refine lv_iconst (v := (-1 : Int32)) hx hb dX0_readInvoice_33 (by decide) ?_
      exact xr_ireturn h hX hI dX0_readInvoice_34
/-! PayMatchModel.look()I  -/
theorem o_X3_look {a0 : Nat} {r : Int32} {σ σ9 : xS} (h : (f_X3_look a0).1 σ = some (r, σ9)) : ∃ fs, σ.1 a0 = some (.inl (3, fs)) := xck_of h
theorem w_X3_look {E : xE} {l : Launch} {a0 : Nat} {r : Int32} {σ σ9 : xS} (h : (f_X3_look a0).1 σ = some (r, σ9)) : xMet E l yX3_look (ws_ yX3_look cX3_look 1 (some .int)) 0 0 [.ref a0] σ σ9 (some (.int r)) := by
  refine xstart (by decide +kernel) ((f_X3_look a0).2 _ _ _ h) (Nat.le_of_ble_eq_true rfl) ?_
  intro p e s m args below meth c H locs cells slots ls R hX hI hl
  have hx := hX.1.1
  have hb := hX.1.2.1
  have hl : lv_has ls 1 [(0, .ref a0)] := hl
  generalize hσ0 : σ = σ0 at hX hI ⊢
  have h : (f_X3_look a0).1 σ0 = some (r, σ9) := by rw [← hσ0]; exact h
  clear hσ0
  delta f_X3_look at h
  have h := (xck_bd h).2
  refine lv_aload_n hx hb dX3_look_0 rfl (lv_at hl 0 rfl) ?_
  refine xr_gI h hX hI xl_X3_201_3.g dX3_look_1 (fun v6 h => ?_)
  refine lv_aload_n hx hb dX3_look_4 rfl (lv_at hl 0 rfl) ?_
  refine xr_gI h hX hI xl_X3_198_3.g dX3_look_5 (fun v7 h => ?_)
  refine lv_icmp_ge (tgt := 23) hx hb dX3_look_8 (by decide) (fun hc => ?_) (fun hc => ?_)
  · have h := xif_t h hc
    refine lv_iconst (v := (-1 : Int32)) hx hb dX3_look_23 (by decide) ?_
    exact xr_ireturn h hX hI dX3_look_24
  · have h := xif_f h hc
    refine lv_aload_n hx hb dX3_look_11 rfl (lv_at hl 0 rfl) ?_
    refine xr_gN h hX hI xl_X3_26_3.g dX3_look_12 (fun v8 h => ?_)
    refine lv_aload_n hx hb dX3_look_15 rfl (lv_at hl 0 rfl) ?_
    refine xr_gI h hX hI xl_X3_201_3.g dX3_look_16 (fun v9 h => ?_)
    refine xr_ldI h hX hI dX3_look_19 (fun v10 h => ?_)
    refine lv_goto (tgt := 24) hx hb dX3_look_20 (by decide) ?_
    exact xr_ireturn h hX hI dX3_look_24
/-! PayMatchModel.must(Z)V  -/
theorem w_X3_must_b37 {t0 : Nat} {t1 : Int32} {t2 : Int32} {r : Unit} (hX : xX E R p m c cX3_must 2 s args RX3 "must" meth none 0 0 σ0 σ9)
    (h : (f_X3_must_b37 t0 t1 t2).1 σ = some (r, σ9)) (hI : xI E σ0 σ s H locs cells slots) (hl : lv_has ls 2 []) : W p l e R s m args below meth c H locs cells slots (xMQ E below args s σ0 σ9 none) (F0 m 37 ls [.int t2, .int t1, .ref t0]) := by
  have hx := hX.1.1
  have hb := hX.1.2.1
  delta f_X3_must_b37 at h
  refine lv_iadd hx hb dX3_must_37 ?_
  refine xr_pt h hX hI xl_X3_201_3 (Or.inl rfl) rfl rfl dX3_must_38 (fun H locs σ h hI => ?_)
  exact xr_return h hX hI dX3_must_41
theorem w_X3_must_b17 {t0 : Nat} {t1 : Int32} {a0 : Nat} {r : Unit} (hX : xX E R p m c cX3_must 2 s args RX3 "must" meth none 0 0 σ0 σ9)
    (h : (f_X3_must_b17 t0 t1 a0).1 σ = some (r, σ9)) (hI : xI E σ0 σ s H locs cells slots) (hl : lv_has ls 2 [(0, .ref a0)]) : W p l e R s m args below meth c H locs cells slots (xMQ E below args s σ0 σ9 none) (F0 m 17 ls [.int t1, .ref t0]) := by
  have hx := hX.1.1
  have hb := hX.1.2.1
  delta f_X3_must_b17 at h
  refine xr_ptZ h hX hI xl_X3_204_3 (Or.inl rfl) dX3_must_17 (fun H locs σ h hI => ?_)
  refine lv_aload_n hx hb dX3_must_20 rfl (lv_at hl 0 rfl) ?_
  refine lv_dup hx hb dX3_must_21 rfl ?_
  refine xr_gI h hX hI xl_X3_201_3.g dX3_must_22 (fun v4 h => ?_)
  refine lv_aload_n hx hb dX3_must_25 rfl (lv_at hl 0 rfl) ?_
  refine xr_gI h hX hI xl_X3_204_3.g dX3_must_26 (fun v5 h => ?_)
  refine lv_if_eq (tgt := 36) hx hb dX3_must_29 (by decide) (fun hc => ?_) (fun hc => ?_)
  · have h := xif_t h hc
    refine lv_iconst (v := (1 : Int32)) hx hb dX3_must_36 (by decide) ?_
    exact w_X3_must_b37 hX h hI (lv_sub hl [] rfl)
  · have h := xif_f h hc
    refine lv_iconst (v := (0 : Int32)) hx hb dX3_must_32 (by decide) ?_
    refine lv_goto (tgt := 37) hx hb dX3_must_33 (by decide) ?_
    exact w_X3_must_b37 hX h hI (lv_sub hl [] rfl)
theorem w_X3_must_b12 {t0 : Nat} {a0 : Nat} {r : Unit} (hX : xX E R p m c cX3_must 2 s args RX3 "must" meth none 0 0 σ0 σ9)
    (h : (f_X3_must_b12 t0 a0).1 σ = some (r, σ9)) (hI : xI E σ0 σ s H locs cells slots) (hl : lv_has ls 2 [(0, .ref a0)]) : W p l e R s m args below meth c H locs cells slots (xMQ E below args s σ0 σ9 none) (F0 m 12 ls [.ref t0]) := by
  have hx := hX.1.1
  have hb := hX.1.2.1
  delta f_X3_must_b12 at h
  refine lv_iconst (v := (1 : Int32)) hx hb dX3_must_12 (by decide) ?_
  refine lv_goto (tgt := 17) hx hb dX3_must_13 (by decide) ?_
  exact w_X3_must_b17 hX h hI (lv_sub hl [0] rfl)
theorem o_X3_must {a0 : Nat} {a1 : Int32} {r : Unit} {σ σ9 : xS} (h : (f_X3_must a0 a1).1 σ = some (r, σ9)) : ∃ fs, σ.1 a0 = some (.inl (3, fs)) := xck_of h
theorem w_X3_must {E : xE} {l : Launch} {a0 : Nat} {a1 : Int32} {r : Unit} {σ σ9 : xS} (h : (f_X3_must a0 a1).1 σ = some (r, σ9)) : xMet E l yX3_must (ws_ yX3_must cX3_must 2 none) 0 0 [.ref a0, .int a1] σ σ9 none := by
  refine xstart (by decide +kernel) ((f_X3_must a0 a1).2 _ _ _ h) (Nat.le_of_ble_eq_true rfl) ?_
  intro p e s m args below meth c H locs cells slots ls R hX hI hl
  have hx := hX.1.1
  have hb := hX.1.2.1
  have hl : lv_has ls 2 [(0, .ref a0), (1, .int a1)] := hl
  generalize hσ0 : σ = σ0 at hX hI ⊢
  have h : (f_X3_must a0 a1).1 σ0 = some (r, σ9) := by rw [← hσ0]; exact h
  clear hσ0
  delta f_X3_must at h
  have h := (xck_bd h).2
  refine lv_aload_n hx hb dX3_must_0 rfl (lv_at hl 0 rfl) ?_
  refine lv_aload_n hx hb dX3_must_1 rfl (lv_at hl 0 rfl) ?_
  refine xr_gI h hX hI xl_X3_204_3.g dX3_must_2 (fun v6 h => ?_)
  refine lv_if_ne (tgt := 12) hx hb dX3_must_5 (by decide) (fun hc => ?_) (fun hc => ?_)
  · have h := xif_f h hc
    exact w_X3_must_b12 hX h hI (lv_sub hl [0] rfl)
  · have h := xif_t h hc
    refine lv_iload_n hx hb dX3_must_8 rfl (lv_at hl 1 rfl) ?_
    refine lv_if_ne (tgt := 16) hx hb dX3_must_9 (by decide) (fun hc => ?_) (fun hc => ?_)
    · have h := xif_f h hc
      refine lv_iconst (v := (0 : Int32)) hx hb dX3_must_16 (by decide) ?_
      exact w_X3_must_b17 hX h hI (lv_sub hl [0] rfl)
    · have h := xif_t h hc
      exact w_X3_must_b12 hX h hI (lv_sub hl [0] rfl)
/-! PayMatchModel.number(I)I  -/
theorem w_X3_number_b25 {rec25 : Nat → Int32 → Int32 → Int32 → xM Int32} {a0 : Nat} {a1 : Int32} {a2 : Int32} {a3 : Int32} {r : Int32} (hX : xX E R p m c cX3_number 4 s args RX3 "number" meth (some .int) 1 22 σ0 σ9) (hrec25 : ∀ (a0 : Nat) (a1 : Int32) (a2 : Int32) (a3 : Int32) (σ : xS) (H : Heap) (locs : List Loc) (cells slots : Nat) (ls : Array Slot), (rec25 a0 a1 a2 a3).1 σ = some (r, σ9) → xI E σ0 σ s H locs cells slots → lv_has ls 4 [(0, .ref a0), (1, .int a1), (2, .int a2), (3, .int a3)] → W p l e R s m args below meth c H locs cells slots (xMQ E below args s σ0 σ9 (some (.int r))) (F0 m 25 ls []))
    (h : (f_X3_number_b25 rec25 a0 a1 a2 a3).1 σ = some (r, σ9)) (hI : xI E σ0 σ s H locs cells slots) (hl : lv_has ls 4 [(0, .ref a0), (1, .int a1), (2, .int a2), (3, .int a3)]) : W p l e R s m args below meth c H locs cells slots (xMQ E below args s σ0 σ9 (some (.int r))) (F0 m 25 ls []) := by
  have hx := hX.1.1
  have hb := hX.1.2.1
  delta f_X3_number_b25 at h
  refine lv_iload_n hx hb dX3_number_25 rfl (lv_at hl 3 rfl) ?_
  refine lv_iload_n hx hb dX3_number_26 rfl (lv_at hl 1 rfl) ?_
  refine lv_icmp_ge (tgt := 84) hx hb dX3_number_27 (by decide) (fun hc => ?_) (fun hc => ?_)
  · have h := xif_t h hc
    refine lv_iload_n hx hb dX3_number_84 rfl (lv_at hl 2 rfl) ?_
    exact xr_ireturn h hX hI dX3_number_85
  · have h := xif_f h hc
    refine lv_aload_n hx hb dX3_number_30 rfl (lv_at hl 0 rfl) ?_
    refine xr_gI h hX hI xl_X3_204_3.g dX3_number_31 (fun v9 h => ?_)
    refine lv_if_ne (tgt := 84) hx hb dX3_number_34 (by decide) (fun hc => ?_) (fun hc => ?_)
    · have h := xif_f h hc
      refine lv_iload_n hx hb dX3_number_84 rfl (lv_at hl 2 rfl) ?_
      exact xr_ireturn h hX hI dX3_number_85
    · have h := xif_t h hc
      refine lv_iload_n hx hb dX3_number_37 rfl (lv_at hl 2 rfl) ?_
      refine lv_if_le (tgt := 84) hx hb dX3_number_38 (by decide) (fun hc => ?_) (fun hc => ?_)
      · have h := xif_t h hc
        refine lv_iload_n hx hb dX3_number_84 rfl (lv_at hl 2 rfl) ?_
        exact xr_ireturn h hX hI dX3_number_85
      · have h := xif_f h hc
        refine lv_aload_n hx hb dX3_number_41 rfl (lv_at hl 0 rfl) ?_
        refine xr_callV (iv := (fun b => some (.int b))) (As := []) (rest := []) h hX hI (fun _ _ h => w_X3_look h) (fun _ _ h => o_X3_look h) rfl 0 (lw_V q2263 q2265 qs63 q87 q2266) ⟨rfl, xd_X3_look⟩ ⟨rfl, rfl⟩ rfl hl.1 (Nat.le_of_ble_eq_true rfl) dX3_number_42 (fun v10 H locs σ cells slots h hI => ?_)
        refine W.eq (g2 := F0 m 45 ls [.int v10]) rfl ?_
        refine lv_bipush (v := (48 : Int32)) hx hb dX3_number_45 (by decide) ?_
        refine lv_bipush (v := (57 : Int32)) hx hb dX3_number_47 (by decide) ?_
        refine xr_callS (iv := (fun b => some (.int b))) (As := [.int v10, .int (48 : Int32), .int (57 : Int32)]) (rest := []) h hX hI (fun _ _ h => w_X3_in h) 3 (lw_S q2043 q2044 q87 q2045) xd_X3_in ⟨rfl, rfl⟩ rfl hl.1 (Nat.le_of_ble_eq_true rfl) dX3_number_49 (fun v11 H locs σ cells slots h hI => ?_)
        refine W.eq (g2 := F0 m 52 ls [.int v11]) rfl ?_
        refine lv_if_eq (tgt := 84) hx hb dX3_number_52 (by decide) (fun hc => ?_) (fun hc => ?_)
        · have h := xif_t h hc
          refine lv_iload_n hx hb dX3_number_84 rfl (lv_at hl 2 rfl) ?_
          exact xr_ireturn h hX hI dX3_number_85
        · have h := xif_f h hc
          refine lv_bipush (v := (10 : Int32)) hx hb dX3_number_55 (by decide) ?_
          refine lv_iload_n hx hb dX3_number_57 rfl (lv_at hl 2 rfl) ?_
          refine lv_imul hx hb dX3_number_58 ?_
          refine lv_aload_n hx hb dX3_number_59 rfl (lv_at hl 0 rfl) ?_
          refine xr_callV (iv := (fun b => some (.int b))) (As := []) (rest := [.int ((10 : Int32) * a2)]) h hX hI (fun _ _ h => w_X3_look h) (fun _ _ h => o_X3_look h) rfl 0 (lw_V q2263 q2265 qs63 q87 q2266) ⟨rfl, xd_X3_look⟩ ⟨rfl, rfl⟩ rfl hl.1 (Nat.le_of_ble_eq_true rfl) dX3_number_60 (fun v12 H locs σ cells slots h hI => ?_)
          refine W.eq (g2 := F0 m 63 ls [.int v12, .int ((10 : Int32) * a2)]) rfl ?_
          refine lv_iadd hx hb dX3_number_63 ?_
          refine lv_bipush (v := (48 : Int32)) hx hb dX3_number_64 (by decide) ?_
          refine lv_isub hx hb dX3_number_66 ?_
          refine lv_istore_n (lv' := [(2, .int ((((10 : Int32) * a2) + v12) - (48 : Int32))), (0, .ref a0), (1, .int a1), (3, .int a3)]) hx hb dX3_number_67 rfl hl (Nat.le_of_ble_eq_true rfl) rfl (fun ls hl => ?_)
          refine lv_aload_n hx hb dX3_number_68 rfl (lv_at hl 1 rfl) ?_
          refine lv_dup hx hb dX3_number_69 rfl ?_
          refine xr_gI h hX hI xl_X3_201_3.g dX3_number_70 (fun v13 h => ?_)
          refine lv_iconst (v := (1 : Int32)) hx hb dX3_number_73 (by decide) ?_
          refine lv_iadd hx hb dX3_number_74 ?_
          refine xr_pt h hX hI xl_X3_201_3 (Or.inl rfl) rfl rfl dX3_number_75 (fun H locs σ h hI => ?_)
          refine lv_iinc (k := 3) (lv' := [(3, .int (a3 + (1 : Int32))), (2, .int ((((10 : Int32) * a2) + v12) - (48 : Int32))), (0, .ref a0), (1, .int a1)]) hx hb dX3_number_78 hl rfl (xiinc (by decide)) (Nat.le_of_ble_eq_true rfl) rfl (fun ls hl => ?_)
          refine lv_goto (tgt := 25) hx hb dX3_number_81 (by decide) ?_
          exact hrec25 a0 a1 ((((10 : Int32) * a2) + v12) - (48 : Int32)) (a3 + (1 : Int32)) _ _ _ _ _ _ h hI (lv_sub hl [2, 3, 1, 0] rfl)
theorem w_X3_number_L25 {r : Int32} (hX : xX E R p m c cX3_number 4 s args RX3 "number" meth (some .int) 1 22 σ0 σ9) : ∀ (n : Nat) (a0 : Nat) (a1 : Int32) (a2 : Int32) (a3 : Int32) (σ : xS) (H : Heap) (locs : List Loc) (cells slots : Nat) (ls : Array Slot), (f_X3_number_L25 n a0 a1 a2 a3).1 σ = some (r, σ9) → xI E σ0 σ s H locs cells slots → lv_has ls 4 [(0, .ref a0), (1, .int a1), (2, .int a2), (3, .int a3)] → W p l e R s m args below meth c H locs cells slots (xMQ E below args s σ0 σ9 (some (.int r))) (F0 m 25 ls []) := by
  intro n
  induction n with
  | zero =>
    intro a0 a1 a2 a3 σ H locs cells slots ls h
    exact xr_no h
  | succ n ih =>
    intro a0 a1 a2 a3 σ H locs cells slots ls h hI hl
    exact w_X3_number_b25 hX ih h hI hl
theorem o_X3_number {a0 : Nat} {a1 : Int32} {r : Int32} {σ σ9 : xS} (h : (f_X3_number a0 a1).1 σ = some (r, σ9)) : ∃ fs, σ.1 a0 = some (.inl (3, fs)) := xck_of h
theorem w_X3_number {E : xE} {l : Launch} {a0 : Nat} {a1 : Int32} {r : Int32} {σ σ9 : xS} (h : (f_X3_number a0 a1).1 σ = some (r, σ9)) : xMet E l yX3_number (ws_ yX3_number cX3_number 4 (some .int)) 1 22 [.ref a0, .int a1] σ σ9 (some (.int r)) := by
  refine xstart (by decide +kernel) ((f_X3_number a0 a1).2 _ _ _ h) (Nat.le_of_ble_eq_true rfl) ?_
  intro p e s m args below meth c H locs cells slots ls R hX hI hl
  have hx := hX.1.1
  have hb := hX.1.2.1
  have hl : lv_has ls 4 [(0, .ref a0), (1, .int a1)] := hl
  generalize hσ0 : σ = σ0 at hX hI ⊢
  have h : (f_X3_number a0 a1).1 σ0 = some (r, σ9) := by rw [← hσ0]; exact h
  clear hσ0
  delta f_X3_number at h
  have h := (xck_bd h).2
  refine lv_aload_n hx hb dX3_number_0 rfl (lv_at hl 0 rfl) ?_
  refine xr_callV (iv := (fun b => some (.int b))) (As := []) (rest := []) h hX hI (fun _ _ h => w_X3_look h) (fun _ _ h => o_X3_look h) rfl 0 (lw_V q2263 q2265 qs63 q87 q2266) ⟨rfl, xd_X3_look⟩ ⟨rfl, rfl⟩ rfl hl.1 (Nat.le_of_ble_eq_true rfl) dX3_number_1 (fun v14 H locs σ cells slots h hI => ?_)
  refine W.eq (g2 := F0 m 4 ls [.int v14]) rfl ?_
  refine lv_bipush (v := (48 : Int32)) hx hb dX3_number_4 (by decide) ?_
  refine lv_isub hx hb dX3_number_6 ?_
  refine lv_istore_n (lv' := [(2, .int (v14 - (48 : Int32))), (0, .ref a0), (1, .int a1)]) hx hb dX3_number_7 rfl hl (Nat.le_of_ble_eq_true rfl) rfl (fun ls hl => ?_)
  refine lv_aload_n hx hb dX3_number_8 rfl (lv_at hl 1 rfl) ?_
  refine lv_aload_n hx hb dX3_number_9 rfl (lv_at hl 1 rfl) ?_
  refine xr_callV (iv := (fun b => some (.int b))) (As := []) (rest := [.ref a0]) h hX hI (fun _ _ h => w_X3_look h) (fun _ _ h => o_X3_look h) rfl 0 (lw_V q2263 q2265 qs63 q87 q2266) ⟨rfl, xd_X3_look⟩ ⟨rfl, rfl⟩ rfl hl.1 (Nat.le_of_ble_eq_true rfl) dX3_number_10 (fun v15 H locs σ cells slots h hI => ?_)
  refine W.eq (g2 := F0 m 13 ls [.int v15, .ref a0]) rfl ?_
  refine lv_bipush (v := (48 : Int32)) hx hb dX3_number_13 (by decide) ?_
  refine lv_bipush (v := (57 : Int32)) hx hb dX3_number_15 (by decide) ?_
  refine xr_callS (iv := (fun b => some (.int b))) (As := [.int v15, .int (48 : Int32), .int (57 : Int32)]) (rest := [.ref a0]) h hX hI (fun _ _ h => w_X3_in h) 3 (lw_S q2043 q2044 q87 q2045) xd_X3_in ⟨rfl, rfl⟩ rfl hl.1 (Nat.le_of_ble_eq_true rfl) dX3_number_17 (fun v16 H locs σ cells slots h hI => ?_)
  refine W.eq (g2 := F0 m 20 ls [.int v16, .ref a0]) rfl ?_
  refine xr_callV (iv := (fun _ => none)) (As := [.int v16]) (rest := []) h hX hI (fun _ _ h => w_X3_must h) (fun _ _ h => o_X3_must h) rfl 1 (lw_V q2267 q2269 qs64 q87 q2270) ⟨rfl, xd_X3_must⟩ ⟨rfl, rfl⟩ rfl hl.1 (Nat.le_of_ble_eq_true rfl) dX3_number_20 (fun _ H locs σ cells slots h hI => ?_)
  refine lv_iconst (v := (1 : Int32)) hx hb dX3_number_23 (by decide) ?_
  refine lv_istore_n (lv' := [(3, .int (1 : Int32)), (2, .int (v14 - (48 : Int32))), (0, .ref a0), (1, .int a1)]) hx hb dX3_number_24 rfl hl (Nat.le_of_ble_eq_true rfl) rfl (fun ls hl => ?_)
  exact w_X3_number_L25 hX xFU a0 a1 (v14 - (48 : Int32)) (1 : Int32) _ _ _ _ _ _ h hI (lv_sub hl [2, 3, 1, 0] rfl)
/-! PayMatchModel.tell(I)V  -/
theorem w_X3_tell_b61 {t0 : Nat} {t1 : Int32} {a0 : Nat} {a1 : Int32} {r : Unit} (hX : xX E R p m c cX3_tell 2 s args RX3 "tell" meth none 2 45 σ0 σ9)
    (h : (f_X3_tell_b61 t0 t1 a0 a1).1 σ = some (r, σ9)) (hI : xI E σ0 σ s H locs cells slots) (hl : lv_has ls 2 [(0, .ref a0), (1, .int a1)]) : W p l e R s m args below meth c H locs cells slots (xMQ E below args s σ0 σ9 none) (F0 m 61 ls [.int t1, .ref t0]) := by
  have hx := hX.1.1
  have hb := hX.1.2.1
  delta f_X3_tell_b61 at h
  refine xr_callV (iv := (fun _ => none)) (As := [.int t1]) (rest := []) h hX hI (fun _ _ h => w_X3_must h) (fun _ _ h => o_X3_must h) rfl 1 (lw_V q2267 q2269 qs64 q87 q2270) ⟨rfl, xd_X3_must⟩ ⟨rfl, rfl⟩ rfl hl.1 (Nat.le_of_ble_eq_true rfl) dX3_tell_61 (fun _ H locs σ cells slots h hI => ?_)
  refine lv_aload_n hx hb dX3_tell_64 rfl (lv_at hl 0 rfl) ?_
  refine xr_gN h hX hI xl_X3_30_3.g dX3_tell_65 (fun v12 h => ?_)
  refine lv_iconst (v := (3 : Int32)) hx hb dX3_tell_68 (by decide) ?_
  refine lv_iload_n hx hb dX3_tell_69 rfl (lv_at hl 1 rfl) ?_
  refine lv_imul hx hb dX3_tell_70 ?_
  refine lv_iconst (v := (2 : Int32)) hx hb dX3_tell_71 (by decide) ?_
  refine lv_iadd hx hb dX3_tell_72 ?_
  refine lv_aload_n hx hb dX3_tell_73 rfl (lv_at hl 0 rfl) ?_
  refine lv_iconst (v := (4 : Int32)) hx hb dX3_tell_74 (by decide) ?_
  refine xr_callV (iv := (fun b => some (.int b))) (As := [.int (4 : Int32)]) (rest := [.int (((3 : Int32) * a1) + (2 : Int32)), .ref v12]) h hX hI (fun _ _ h => w_X3_number h) (fun _ _ h => o_X3_number h) rfl 1 (lw_V q2259 q2261 qs62 q87 q2262) ⟨rfl, xd_X3_number⟩ ⟨rfl, rfl⟩ rfl hl.1 (Nat.le_of_ble_eq_true rfl) dX3_tell_75 (fun v13 H locs σ cells slots h hI => ?_)
  refine W.eq (g2 := F0 m 78 ls [.int v13, .int (((3 : Int32) * a1) + (2 : Int32)), .ref v12]) rfl ?_
  refine xr_stI h hX hI dX3_tell_78 (fun H locs σ h hI => ?_)
  exact xr_return h hX hI dX3_tell_79
theorem w_X3_tell_b28 {t0 : Nat} {t1 : Int32} {a0 : Nat} {a1 : Int32} {r : Unit} (hX : xX E R p m c cX3_tell 2 s args RX3 "tell" meth none 2 45 σ0 σ9)
    (h : (f_X3_tell_b28 t0 t1 a0 a1).1 σ = some (r, σ9)) (hI : xI E σ0 σ s H locs cells slots) (hl : lv_has ls 2 [(0, .ref a0), (1, .int a1)]) : W p l e R s m args below meth c H locs cells slots (xMQ E below args s σ0 σ9 none) (F0 m 28 ls [.int t1, .ref t0]) := by
  have hx := hX.1.1
  have hb := hX.1.2.1
  delta f_X3_tell_b28 at h
  refine xr_callV (iv := (fun _ => none)) (As := [.int t1]) (rest := []) h hX hI (fun _ _ h => w_X3_must h) (fun _ _ h => o_X3_must h) rfl 1 (lw_V q2267 q2269 qs64 q87 q2270) ⟨rfl, xd_X3_must⟩ ⟨rfl, rfl⟩ rfl hl.1 (Nat.le_of_ble_eq_true rfl) dX3_tell_28 (fun _ H locs σ cells slots h hI => ?_)
  refine lv_aload_n hx hb dX3_tell_31 rfl (lv_at hl 0 rfl) ?_
  refine xr_gN h hX hI xl_X3_30_3.g dX3_tell_32 (fun v9 h => ?_)
  refine lv_iconst (v := (3 : Int32)) hx hb dX3_tell_35 (by decide) ?_
  refine lv_iload_n hx hb dX3_tell_36 rfl (lv_at hl 1 rfl) ?_
  refine lv_imul hx hb dX3_tell_37 ?_
  refine lv_iconst (v := (1 : Int32)) hx hb dX3_tell_38 (by decide) ?_
  refine lv_iadd hx hb dX3_tell_39 ?_
  refine lv_aload_n hx hb dX3_tell_40 rfl (lv_at hl 0 rfl) ?_
  refine lv_iconst (v := (3 : Int32)) hx hb dX3_tell_41 (by decide) ?_
  refine xr_callV (iv := (fun b => some (.int b))) (As := [.int (3 : Int32)]) (rest := [.int (((3 : Int32) * a1) + (1 : Int32)), .ref v9]) h hX hI (fun _ _ h => w_X3_number h) (fun _ _ h => o_X3_number h) rfl 1 (lw_V q2259 q2261 qs62 q87 q2262) ⟨rfl, xd_X3_number⟩ ⟨rfl, rfl⟩ rfl hl.1 (Nat.le_of_ble_eq_true rfl) dX3_tell_42 (fun v10 H locs σ cells slots h hI => ?_)
  refine W.eq (g2 := F0 m 45 ls [.int v10, .int (((3 : Int32) * a1) + (1 : Int32)), .ref v9]) rfl ?_
  refine xr_stI h hX hI dX3_tell_45 (fun H locs σ h hI => ?_)
  refine lv_aload_n hx hb dX3_tell_46 rfl (lv_at hl 0 rfl) ?_
  refine lv_aload_n hx hb dX3_tell_47 rfl (lv_at hl 0 rfl) ?_
  refine xr_callV (iv := (fun b => some (.int b))) (As := []) (rest := [.ref a0]) h hX hI (fun _ _ h => w_X3_look h) (fun _ _ h => o_X3_look h) rfl 0 (lw_V q2263 q2265 qs63 q87 q2266) ⟨rfl, xd_X3_look⟩ ⟨rfl, rfl⟩ rfl hl.1 (Nat.le_of_ble_eq_true rfl) dX3_tell_48 (fun v11 H locs σ cells slots h hI => ?_)
  refine W.eq (g2 := F0 m 51 ls [.int v11, .ref a0]) rfl ?_
  refine lv_bipush (v := (64 : Int32)) hx hb dX3_tell_51 (by decide) ?_
  refine lv_icmp_ne (tgt := 60) hx hb dX3_tell_53 (by decide) (fun hc => ?_) (fun hc => ?_)
  · have h := xif_f h hc
    refine lv_iconst (v := (0 : Int32)) hx hb dX3_tell_60 (by decide) ?_
    exact w_X3_tell_b61 hX h hI (lv_sub hl [0, 1] rfl)
  · have h := xif_t h hc
    refine lv_iconst (v := (1 : Int32)) hx hb dX3_tell_56 (by decide) ?_
    refine lv_goto (tgt := 61) hx hb dX3_tell_57 (by decide) ?_
    exact w_X3_tell_b61 hX h hI (lv_sub hl [0, 1] rfl)
theorem o_X3_tell {a0 : Nat} {a1 : Int32} {r : Unit} {σ σ9 : xS} (h : (f_X3_tell a0 a1).1 σ = some (r, σ9)) : ∃ fs, σ.1 a0 = some (.inl (3, fs)) := xck_of h
theorem w_X3_tell {E : xE} {l : Launch} {a0 : Nat} {a1 : Int32} {r : Unit} {σ σ9 : xS} (h : (f_X3_tell a0 a1).1 σ = some (r, σ9)) : xMet E l yX3_tell (ws_ yX3_tell cX3_tell 2 none) 2 45 [.ref a0, .int a1] σ σ9 none := by
  refine xstart (by decide +kernel) ((f_X3_tell a0 a1).2 _ _ _ h) (Nat.le_of_ble_eq_true rfl) ?_
  intro p e s m args below meth c H locs cells slots ls R hX hI hl
  have hx := hX.1.1
  have hb := hX.1.2.1
  have hl : lv_has ls 2 [(0, .ref a0), (1, .int a1)] := hl
  generalize hσ0 : σ = σ0 at hX hI ⊢
  have h : (f_X3_tell a0 a1).1 σ0 = some (r, σ9) := by rw [← hσ0]; exact h
  clear hσ0
  delta f_X3_tell at h
  have h := (xck_bd h).2
  refine lv_aload_n hx hb dX3_tell_0 rfl (lv_at hl 0 rfl) ?_
  refine xr_gN h hX hI xl_X3_30_3.g dX3_tell_1 (fun v14 h => ?_)
  refine lv_iconst (v := (3 : Int32)) hx hb dX3_tell_4 (by decide) ?_
  refine lv_iload_n hx hb dX3_tell_5 rfl (lv_at hl 1 rfl) ?_
  refine lv_imul hx hb dX3_tell_6 ?_
  refine lv_aload_n hx hb dX3_tell_7 rfl (lv_at hl 0 rfl) ?_
  refine lv_iconst (v := (3 : Int32)) hx hb dX3_tell_8 (by decide) ?_
  refine xr_callV (iv := (fun b => some (.int b))) (As := [.int (3 : Int32)]) (rest := [.int ((3 : Int32) * a1), .ref v14]) h hX hI (fun _ _ h => w_X3_number h) (fun _ _ h => o_X3_number h) rfl 1 (lw_V q2259 q2261 qs62 q87 q2262) ⟨rfl, xd_X3_number⟩ ⟨rfl, rfl⟩ rfl hl.1 (Nat.le_of_ble_eq_true rfl) dX3_tell_9 (fun v15 H locs σ cells slots h hI => ?_)
  refine W.eq (g2 := F0 m 12 ls [.int v15, .int ((3 : Int32) * a1), .ref v14]) rfl ?_
  refine xr_stI h hX hI dX3_tell_12 (fun H locs σ h hI => ?_)
  refine lv_aload_n hx hb dX3_tell_13 rfl (lv_at hl 0 rfl) ?_
  refine lv_aload_n hx hb dX3_tell_14 rfl (lv_at hl 0 rfl) ?_
  refine xr_callV (iv := (fun b => some (.int b))) (As := []) (rest := [.ref a0]) h hX hI (fun _ _ h => w_X3_look h) (fun _ _ h => o_X3_look h) rfl 0 (lw_V q2263 q2265 qs63 q87 q2266) ⟨rfl, xd_X3_look⟩ ⟨rfl, rfl⟩ rfl hl.1 (Nat.le_of_ble_eq_true rfl) dX3_tell_15 (fun v16 H locs σ cells slots h hI => ?_)
  refine W.eq (g2 := F0 m 18 ls [.int v16, .ref a0]) rfl ?_
  refine lv_bipush (v := (120 : Int32)) hx hb dX3_tell_18 (by decide) ?_
  refine lv_icmp_ne (tgt := 27) hx hb dX3_tell_20 (by decide) (fun hc => ?_) (fun hc => ?_)
  · have h := xif_f h hc
    refine lv_iconst (v := (0 : Int32)) hx hb dX3_tell_27 (by decide) ?_
    exact w_X3_tell_b28 hX h hI (lv_sub hl [0, 1] rfl)
  · have h := xif_t h hc
    refine lv_iconst (v := (1 : Int32)) hx hb dX3_tell_23 (by decide) ?_
    refine lv_goto (tgt := 28) hx hb dX3_tell_24 (by decide) ?_
    exact w_X3_tell_b28 hX h hI (lv_sub hl [0, 1] rfl)
/-! PayMatchModel.areLines(II)Z  -/
theorem w_X3_areLines_b41 {rec9 : Nat → Int32 → Int32 → Int32 → Int32 → xM Int32} {t0 : Int32} {a0 : Nat} {a1 : Int32} {a2 : Int32} {a4 : Int32} {r : Int32} (hX : xX E R p m c cX3_areLines 5 s args RX3 "areLines" meth (some .boolean) 3 65 σ0 σ9) (hrec9 : ∀ (a0 : Nat) (a1 : Int32) (a2 : Int32) (a3 : Int32) (a4 : Int32) (σ : xS) (H : Heap) (locs : List Loc) (cells slots : Nat) (ls : Array Slot), (rec9 a0 a1 a2 a3 a4).1 σ = some (r, σ9) → xI E σ0 σ s H locs cells slots → lv_has ls 5 [(0, .ref a0), (1, .int a1), (2, .int a2), (3, .int a3), (4, .int a4)] → W p l e R s m args below meth c H locs cells slots (xMQ E below args s σ0 σ9 (some (.int r))) (F0 m 9 ls []))
    (h : (f_X3_areLines_b41 rec9 t0 a0 a1 a2 a4).1 σ = some (r, σ9)) (hI : xI E σ0 σ s H locs cells slots) (hl : lv_has ls 5 [(0, .ref a0), (1, .int a1), (2, .int a2), (4, .int a4)]) : W p l e R s m args below meth c H locs cells slots (xMQ E below args s σ0 σ9 (some (.int r))) (F0 m 41 ls [.int t0]) := by
  have hx := hX.1.1
  have hb := hX.1.2.1
  delta f_X3_areLines_b41 at h
  refine lv_istore_n (lv' := [(3, .int t0), (0, .ref a0), (1, .int a1), (2, .int a2), (4, .int a4)]) hx hb dX3_areLines_41 rfl hl (Nat.le_of_ble_eq_true rfl) rfl (fun ls hl => ?_)
  refine lv_iinc (k := 4) (lv' := [(4, .int (a4 + (1 : Int32))), (3, .int t0), (0, .ref a0), (1, .int a1), (2, .int a2)]) hx hb dX3_areLines_42 hl rfl (xiinc (by decide)) (Nat.le_of_ble_eq_true rfl) rfl (fun ls hl => ?_)
  refine lv_goto (tgt := 9) hx hb dX3_areLines_45 (by decide) ?_
  exact hrec9 a0 a1 a2 t0 (a4 + (1 : Int32)) _ _ _ _ _ _ h hI (lv_sub hl [2, 3, 4, 1, 0] rfl)
theorem w_X3_areLines_b40 {rec9 : Nat → Int32 → Int32 → Int32 → Int32 → xM Int32} {a0 : Nat} {a1 : Int32} {a2 : Int32} {a4 : Int32} {r : Int32} (hX : xX E R p m c cX3_areLines 5 s args RX3 "areLines" meth (some .boolean) 3 65 σ0 σ9) (hrec9 : ∀ (a0 : Nat) (a1 : Int32) (a2 : Int32) (a3 : Int32) (a4 : Int32) (σ : xS) (H : Heap) (locs : List Loc) (cells slots : Nat) (ls : Array Slot), (rec9 a0 a1 a2 a3 a4).1 σ = some (r, σ9) → xI E σ0 σ s H locs cells slots → lv_has ls 5 [(0, .ref a0), (1, .int a1), (2, .int a2), (3, .int a3), (4, .int a4)] → W p l e R s m args below meth c H locs cells slots (xMQ E below args s σ0 σ9 (some (.int r))) (F0 m 9 ls []))
    (h : (f_X3_areLines_b40 rec9 a0 a1 a2 a4).1 σ = some (r, σ9)) (hI : xI E σ0 σ s H locs cells slots) (hl : lv_has ls 5 [(0, .ref a0), (1, .int a1), (2, .int a2), (4, .int a4)]) : W p l e R s m args below meth c H locs cells slots (xMQ E below args s σ0 σ9 (some (.int r))) (F0 m 40 ls []) := by
  have hx := hX.1.1
  have hb := hX.1.2.1
  delta f_X3_areLines_b40 at h
  refine lv_iconst (v := (0 : Int32)) hx hb dX3_areLines_40 (by decide) ?_
  exact w_X3_areLines_b41 hX hrec9 h hI (lv_sub hl [0, 1, 2, 3] rfl)
theorem w_X3_areLines_b9 {rec9 : Nat → Int32 → Int32 → Int32 → Int32 → xM Int32} {a0 : Nat} {a1 : Int32} {a2 : Int32} {a3 : Int32} {a4 : Int32} {r : Int32} (hX : xX E R p m c cX3_areLines 5 s args RX3 "areLines" meth (some .boolean) 3 65 σ0 σ9) (hrec9 : ∀ (a0 : Nat) (a1 : Int32) (a2 : Int32) (a3 : Int32) (a4 : Int32) (σ : xS) (H : Heap) (locs : List Loc) (cells slots : Nat) (ls : Array Slot), (rec9 a0 a1 a2 a3 a4).1 σ = some (r, σ9) → xI E σ0 σ s H locs cells slots → lv_has ls 5 [(0, .ref a0), (1, .int a1), (2, .int a2), (3, .int a3), (4, .int a4)] → W p l e R s m args below meth c H locs cells slots (xMQ E below args s σ0 σ9 (some (.int r))) (F0 m 9 ls []))
    (h : (f_X3_areLines_b9 rec9 a0 a1 a2 a3 a4).1 σ = some (r, σ9)) (hI : xI E σ0 σ s H locs cells slots) (hl : lv_has ls 5 [(0, .ref a0), (1, .int a1), (2, .int a2), (3, .int a3), (4, .int a4)]) : W p l e R s m args below meth c H locs cells slots (xMQ E below args s σ0 σ9 (some (.int r))) (F0 m 9 ls []) := by
  have hx := hX.1.1
  have hb := hX.1.2.1
  delta f_X3_areLines_b9 at h
  refine lv_iload hx hb dX3_areLines_9 (lv_at hl 4 rfl) ?_
  refine lv_iload_n hx hb dX3_areLines_11 rfl (lv_at hl 2 rfl) ?_
  refine lv_icmp_ge (tgt := 48) hx hb dX3_areLines_12 (by decide) (fun hc => ?_) (fun hc => ?_)
  · have h := xif_t h hc
    refine lv_iload_n hx hb dX3_areLines_48 rfl (lv_at hl 3 rfl) ?_
    exact xr_zreturn h hX hI dX3_areLines_49
  · have h := xif_f h hc
    refine lv_iload_n hx hb dX3_areLines_15 rfl (lv_at hl 3 rfl) ?_
    refine lv_if_eq (tgt := 40) hx hb dX3_areLines_16 (by decide) (fun hc => ?_) (fun hc => ?_)
    · have h := xif_t h hc
      exact w_X3_areLines_b40 hX hrec9 h hI (lv_sub hl [0, 1, 2, 4] rfl)
    · have h := xif_f h hc
      refine lv_aload_n hx hb dX3_areLines_19 rfl (lv_at hl 0 rfl) ?_
      refine lv_iload_n hx hb dX3_areLines_20 rfl (lv_at hl 1 rfl) ?_
      refine lv_aload_n hx hb dX3_areLines_21 rfl (lv_at hl 0 rfl) ?_
      refine xr_gN h hX hI xl_X3_30_3.g dX3_areLines_22 (fun v5 h => ?_)
      refine lv_iconst (v := (3 : Int32)) hx hb dX3_areLines_25 (by decide) ?_
      refine lv_iload hx hb dX3_areLines_26 (lv_at hl 4 rfl) ?_
      refine lv_imul hx hb dX3_areLines_28 ?_
      refine xr_ldI h hX hI dX3_areLines_29 (fun v6 h => ?_)
      refine xr_callV (iv := (fun b => some (.int b))) (As := [.int a1, .int v6]) (rest := []) h hX hI (fun _ _ h => w_X3_isLine h) (fun _ _ h => o_X3_isLine h) rfl 2 (lw_V q2110 q2112 qs39 q87 q2113) ⟨rfl, xd_X3_isLine⟩ ⟨rfl, rfl⟩ rfl hl.1 (Nat.le_of_ble_eq_true rfl) dX3_areLines_30 (fun v7 H locs σ cells slots h hI => ?_)
      refine W.eq (g2 := F0 m 33 ls [.int v7]) rfl ?_
      refine lv_if_eq (tgt := 40) hx hb dX3_areLines_33 (by decide) (fun hc => ?_) (fun hc => ?_)
      · have h := xif_t h hc
        exact w_X3_areLines_b40 hX hrec9 h hI (lv_sub hl [0, 1, 2, 4] rfl)
      · have h := xif_f h hc
        refine lv_iconst (v := (1 : Int32)) hx hb dX3_areLines_36 (by decide) ?_
        refine lv_goto (tgt := 41) hx hb dX3_areLines_37 (by decide) ?_
        exact w_X3_areLines_b41 hX hrec9 h hI (lv_sub hl [0, 1, 2, 4] rfl)
theorem w_X3_areLines_L9 {r : Int32} (hX : xX E R p m c cX3_areLines 5 s args RX3 "areLines" meth (some .boolean) 3 65 σ0 σ9) : ∀ (n : Nat) (a0 : Nat) (a1 : Int32) (a2 : Int32) (a3 : Int32) (a4 : Int32) (σ : xS) (H : Heap) (locs : List Loc) (cells slots : Nat) (ls : Array Slot), (f_X3_areLines_L9 n a0 a1 a2 a3 a4).1 σ = some (r, σ9) → xI E σ0 σ s H locs cells slots → lv_has ls 5 [(0, .ref a0), (1, .int a1), (2, .int a2), (3, .int a3), (4, .int a4)] → W p l e R s m args below meth c H locs cells slots (xMQ E below args s σ0 σ9 (some (.int r))) (F0 m 9 ls []) := by
  intro n
  induction n with
  | zero =>
    intro a0 a1 a2 a3 a4 σ H locs cells slots ls h
    exact xr_no h
  | succ n ih =>
    intro a0 a1 a2 a3 a4 σ H locs cells slots ls h hI hl
    exact w_X3_areLines_b9 hX ih h hI hl
theorem o_X3_areLines {a0 : Nat} {a1 : Int32} {a2 : Int32} {r : Int32} {σ σ9 : xS} (h : (f_X3_areLines a0 a1 a2).1 σ = some (r, σ9)) : ∃ fs, σ.1 a0 = some (.inl (3, fs)) := xck_of h
theorem w_X3_areLines {E : xE} {l : Launch} {a0 : Nat} {a1 : Int32} {a2 : Int32} {r : Int32} {σ σ9 : xS} (h : (f_X3_areLines a0 a1 a2).1 σ = some (r, σ9)) : xMet E l yX3_areLines (ws_ yX3_areLines cX3_areLines 5 (some .boolean)) 3 65 [.ref a0, .int a1, .int a2] σ σ9 (some (.int r)) := by
  refine xstart (by decide +kernel) ((f_X3_areLines a0 a1 a2).2 _ _ _ h) (Nat.le_of_ble_eq_true rfl) ?_
  intro p e s m args below meth c H locs cells slots ls R hX hI hl
  have hx := hX.1.1
  have hb := hX.1.2.1
  have hl : lv_has ls 5 [(0, .ref a0), (1, .int a1), (2, .int a2)] := hl
  generalize hσ0 : σ = σ0 at hX hI ⊢
  have h : (f_X3_areLines a0 a1 a2).1 σ0 = some (r, σ9) := by rw [← hσ0]; exact h
  clear hσ0
  delta f_X3_areLines at h
  have h := (xck_bd h).2
  refine lv_aload_n hx hb dX3_areLines_0 rfl (lv_at hl 0 rfl) ?_
  refine lv_iload_n hx hb dX3_areLines_1 rfl (lv_at hl 1 rfl) ?_
  refine xr_callV (iv := (fun b => some (.int b))) (As := [.int a1]) (rest := []) h hX hI (fun _ _ h => w_X3_isOrder h) (fun _ _ h => o_X3_isOrder h) rfl 1 (lw_V q2095 q2097 qs37 q87 q2098) ⟨rfl, xd_X3_isOrder⟩ ⟨rfl, rfl⟩ rfl hl.1 (Nat.le_of_ble_eq_true rfl) dX3_areLines_2 (fun v8 H locs σ cells slots h hI => ?_)
  refine W.eq (g2 := F0 m 5 ls [.int v8]) rfl ?_
  refine lv_istore_n (lv' := [(3, .int v8), (0, .ref a0), (1, .int a1), (2, .int a2)]) hx hb dX3_areLines_5 rfl hl (Nat.le_of_ble_eq_true rfl) rfl (fun ls hl => ?_)
  refine lv_iconst (v := (0 : Int32)) hx hb dX3_areLines_6 (by decide) ?_
  refine lv_istore (lv' := [(4, .int (0 : Int32)), (3, .int v8), (0, .ref a0), (1, .int a1), (2, .int a2)]) hx hb dX3_areLines_7 hl (Nat.le_of_ble_eq_true rfl) rfl (fun ls hl => ?_)
  exact w_X3_areLines_L9 hX xFU a0 a1 a2 v8 (0 : Int32) _ _ _ _ _ _ h hI (lv_sub hl [2, 3, 4, 1, 0] rfl)
/-! PayMatchModel.areEntries(I)Z  -/
theorem w_X3_areEntries_b83 {rec4 : Nat → Int32 → Int32 → Int32 → xM Int32} {rec48 : Nat → Int32 → Int32 → Int32 → Int32 → xM Int32} {t0 : Int32} {a0 : Nat} {a1 : Int32} {a3 : Int32} {a4 : Int32} {r : Int32} (hX : xX E R p m c cX3_areEntries 5 s args RX3 "areEntries" meth (some .boolean) 0 0 σ0 σ9) (hrec4 : ∀ (a0 : Nat) (a1 : Int32) (a2 : Int32) (a3 : Int32) (σ : xS) (H : Heap) (locs : List Loc) (cells slots : Nat) (ls : Array Slot), (rec4 a0 a1 a2 a3).1 σ = some (r, σ9) → xI E σ0 σ s H locs cells slots → lv_has ls 5 [(0, .ref a0), (1, .int a1), (2, .int a2), (3, .int a3)] → W p l e R s m args below meth c H locs cells slots (xMQ E below args s σ0 σ9 (some (.int r))) (F0 m 4 ls [])) (hrec48 : ∀ (a0 : Nat) (a1 : Int32) (a2 : Int32) (a3 : Int32) (a4 : Int32) (σ : xS) (H : Heap) (locs : List Loc) (cells slots : Nat) (ls : Array Slot), (rec48 a0 a1 a2 a3 a4).1 σ = some (r, σ9) → xI E σ0 σ s H locs cells slots → lv_has ls 5 [(0, .ref a0), (1, .int a1), (2, .int a2), (3, .int a3), (4, .int a4)] → W p l e R s m args below meth c H locs cells slots (xMQ E below args s σ0 σ9 (some (.int r))) (F0 m 48 ls []))
    (h : (f_X3_areEntries_b83 rec4 rec48 t0 a0 a1 a3 a4).1 σ = some (r, σ9)) (hI : xI E σ0 σ s H locs cells slots) (hl : lv_has ls 5 [(0, .ref a0), (1, .int a1), (3, .int a3), (4, .int a4)]) : W p l e R s m args below meth c H locs cells slots (xMQ E below args s σ0 σ9 (some (.int r))) (F0 m 83 ls [.int t0]) := by
  have hx := hX.1.1
  have hb := hX.1.2.1
  delta f_X3_areEntries_b83 at h
  refine lv_istore_n (lv' := [(2, .int t0), (0, .ref a0), (1, .int a1), (3, .int a3), (4, .int a4)]) hx hb dX3_areEntries_83 rfl hl (Nat.le_of_ble_eq_true rfl) rfl (fun ls hl => ?_)
  refine lv_iinc (k := 4) (lv' := [(4, .int (a4 + (1 : Int32))), (2, .int t0), (0, .ref a0), (1, .int a1), (3, .int a3)]) hx hb dX3_areEntries_84 hl rfl (xiinc (by decide)) (Nat.le_of_ble_eq_true rfl) rfl (fun ls hl => ?_)
  refine lv_goto (tgt := 48) hx hb dX3_areEntries_87 (by decide) ?_
  exact hrec48 a0 a1 t0 a3 (a4 + (1 : Int32)) _ _ _ _ _ _ h hI (lv_sub hl [2, 3, 1, 4, 0] rfl)
theorem w_X3_areEntries_b82 {rec4 : Nat → Int32 → Int32 → Int32 → xM Int32} {rec48 : Nat → Int32 → Int32 → Int32 → Int32 → xM Int32} {a0 : Nat} {a1 : Int32} {a3 : Int32} {a4 : Int32} {r : Int32} (hX : xX E R p m c cX3_areEntries 5 s args RX3 "areEntries" meth (some .boolean) 0 0 σ0 σ9) (hrec4 : ∀ (a0 : Nat) (a1 : Int32) (a2 : Int32) (a3 : Int32) (σ : xS) (H : Heap) (locs : List Loc) (cells slots : Nat) (ls : Array Slot), (rec4 a0 a1 a2 a3).1 σ = some (r, σ9) → xI E σ0 σ s H locs cells slots → lv_has ls 5 [(0, .ref a0), (1, .int a1), (2, .int a2), (3, .int a3)] → W p l e R s m args below meth c H locs cells slots (xMQ E below args s σ0 σ9 (some (.int r))) (F0 m 4 ls [])) (hrec48 : ∀ (a0 : Nat) (a1 : Int32) (a2 : Int32) (a3 : Int32) (a4 : Int32) (σ : xS) (H : Heap) (locs : List Loc) (cells slots : Nat) (ls : Array Slot), (rec48 a0 a1 a2 a3 a4).1 σ = some (r, σ9) → xI E σ0 σ s H locs cells slots → lv_has ls 5 [(0, .ref a0), (1, .int a1), (2, .int a2), (3, .int a3), (4, .int a4)] → W p l e R s m args below meth c H locs cells slots (xMQ E below args s σ0 σ9 (some (.int r))) (F0 m 48 ls []))
    (h : (f_X3_areEntries_b82 rec4 rec48 a0 a1 a3 a4).1 σ = some (r, σ9)) (hI : xI E σ0 σ s H locs cells slots) (hl : lv_has ls 5 [(0, .ref a0), (1, .int a1), (3, .int a3), (4, .int a4)]) : W p l e R s m args below meth c H locs cells slots (xMQ E below args s σ0 σ9 (some (.int r))) (F0 m 82 ls []) := by
  have hx := hX.1.1
  have hb := hX.1.2.1
  delta f_X3_areEntries_b82 at h
  refine lv_iconst (v := (0 : Int32)) hx hb dX3_areEntries_82 (by decide) ?_
  exact w_X3_areEntries_b83 hX hrec4 hrec48 h hI (lv_sub hl [0, 1, 2, 3] rfl)
theorem w_X3_areEntries_b90 {rec4 : Nat → Int32 → Int32 → Int32 → xM Int32} {a0 : Nat} {a1 : Int32} {a2 : Int32} {a3 : Int32} {r : Int32} (hX : xX E R p m c cX3_areEntries 5 s args RX3 "areEntries" meth (some .boolean) 0 0 σ0 σ9) (hrec4 : ∀ (a0 : Nat) (a1 : Int32) (a2 : Int32) (a3 : Int32) (σ : xS) (H : Heap) (locs : List Loc) (cells slots : Nat) (ls : Array Slot), (rec4 a0 a1 a2 a3).1 σ = some (r, σ9) → xI E σ0 σ s H locs cells slots → lv_has ls 5 [(0, .ref a0), (1, .int a1), (2, .int a2), (3, .int a3)] → W p l e R s m args below meth c H locs cells slots (xMQ E below args s σ0 σ9 (some (.int r))) (F0 m 4 ls []))
    (h : (f_X3_areEntries_b90 rec4 a0 a1 a2 a3).1 σ = some (r, σ9)) (hI : xI E σ0 σ s H locs cells slots) (hl : lv_has ls 5 [(0, .ref a0), (1, .int a1), (2, .int a2), (3, .int a3)]) : W p l e R s m args below meth c H locs cells slots (xMQ E below args s σ0 σ9 (some (.int r))) (F0 m 90 ls []) := by
  have hx := hX.1.1
  have hb := hX.1.2.1
  delta f_X3_areEntries_b90 at h
  refine lv_iinc (k := 3) (lv' := [(3, .int (a3 + (1 : Int32))), (0, .ref a0), (1, .int a1), (2, .int a2)]) hx hb dX3_areEntries_90 hl rfl (xiinc (by decide)) (Nat.le_of_ble_eq_true rfl) rfl (fun ls hl => ?_)
  refine lv_goto (tgt := 4) hx hb dX3_areEntries_93 (by decide) ?_
  exact hrec4 a0 a1 a2 (a3 + (1 : Int32)) _ _ _ _ _ _ h hI (lv_sub hl [1, 2, 3, 0] rfl)
theorem w_X3_areEntries_b48 {rec4 : Nat → Int32 → Int32 → Int32 → xM Int32} {rec48 : Nat → Int32 → Int32 → Int32 → Int32 → xM Int32} {a0 : Nat} {a1 : Int32} {a2 : Int32} {a3 : Int32} {a4 : Int32} {r : Int32} (hX : xX E R p m c cX3_areEntries 5 s args RX3 "areEntries" meth (some .boolean) 0 0 σ0 σ9) (hrec4 : ∀ (a0 : Nat) (a1 : Int32) (a2 : Int32) (a3 : Int32) (σ : xS) (H : Heap) (locs : List Loc) (cells slots : Nat) (ls : Array Slot), (rec4 a0 a1 a2 a3).1 σ = some (r, σ9) → xI E σ0 σ s H locs cells slots → lv_has ls 5 [(0, .ref a0), (1, .int a1), (2, .int a2), (3, .int a3)] → W p l e R s m args below meth c H locs cells slots (xMQ E below args s σ0 σ9 (some (.int r))) (F0 m 4 ls [])) (hrec48 : ∀ (a0 : Nat) (a1 : Int32) (a2 : Int32) (a3 : Int32) (a4 : Int32) (σ : xS) (H : Heap) (locs : List Loc) (cells slots : Nat) (ls : Array Slot), (rec48 a0 a1 a2 a3 a4).1 σ = some (r, σ9) → xI E σ0 σ s H locs cells slots → lv_has ls 5 [(0, .ref a0), (1, .int a1), (2, .int a2), (3, .int a3), (4, .int a4)] → W p l e R s m args below meth c H locs cells slots (xMQ E below args s σ0 σ9 (some (.int r))) (F0 m 48 ls []))
    (h : (f_X3_areEntries_b48 rec4 rec48 a0 a1 a2 a3 a4).1 σ = some (r, σ9)) (hI : xI E σ0 σ s H locs cells slots) (hl : lv_has ls 5 [(0, .ref a0), (1, .int a1), (2, .int a2), (3, .int a3), (4, .int a4)]) : W p l e R s m args below meth c H locs cells slots (xMQ E below args s σ0 σ9 (some (.int r))) (F0 m 48 ls []) := by
  have hx := hX.1.1
  have hb := hX.1.2.1
  delta f_X3_areEntries_b48 at h
  refine lv_iload hx hb dX3_areEntries_48 (lv_at hl 4 rfl) ?_
  refine lv_iload_n hx hb dX3_areEntries_50 rfl (lv_at hl 3 rfl) ?_
  refine lv_icmp_ge (tgt := 90) hx hb dX3_areEntries_51 (by decide) (fun hc => ?_) (fun hc => ?_)
  · have h := xif_t h hc
    exact w_X3_areEntries_b90 hX hrec4 h hI (lv_sub hl [0, 1, 2, 3] rfl)
  · have h := xif_f h hc
    refine lv_iload_n hx hb dX3_areEntries_54 rfl (lv_at hl 2 rfl) ?_
    refine lv_if_eq (tgt := 82) hx hb dX3_areEntries_55 (by decide) (fun hc => ?_) (fun hc => ?_)
    · have h := xif_t h hc
      exact w_X3_areEntries_b82 hX hrec4 hrec48 h hI (lv_sub hl [0, 1, 3, 4] rfl)
    · have h := xif_f h hc
      refine lv_aload_n hx hb dX3_areEntries_58 rfl (lv_at hl 0 rfl) ?_
      refine xr_gN h hX hI xl_X3_30_3.g dX3_areEntries_59 (fun v13 h => ?_)
      refine lv_iconst (v := (3 : Int32)) hx hb dX3_areEntries_62 (by decide) ?_
      refine lv_iload hx hb dX3_areEntries_63 (lv_at hl 4 rfl) ?_
      refine lv_imul hx hb dX3_areEntries_65 ?_
      refine xr_ldI h hX hI dX3_areEntries_66 (fun v14 h => ?_)
      refine lv_aload_n hx hb dX3_areEntries_67 rfl (lv_at hl 0 rfl) ?_
      refine xr_gN h hX hI xl_X3_30_3.g dX3_areEntries_68 (fun v15 h => ?_)
      refine lv_iconst (v := (3 : Int32)) hx hb dX3_areEntries_71 (by decide) ?_
      refine lv_iload_n hx hb dX3_areEntries_72 rfl (lv_at hl 3 rfl) ?_
      refine lv_imul hx hb dX3_areEntries_73 ?_
      refine xr_ldI h hX hI dX3_areEntries_74 (fun v16 h => ?_)
      refine lv_icmp_eq (tgt := 82) hx hb dX3_areEntries_75 (by decide) (fun hc => ?_) (fun hc => ?_)
      · have h := xif_t h hc
        exact w_X3_areEntries_b82 hX hrec4 hrec48 h hI (lv_sub hl [0, 1, 3, 4] rfl)
      · have h := xif_f h hc
        refine lv_iconst (v := (1 : Int32)) hx hb dX3_areEntries_78 (by decide) ?_
        refine lv_goto (tgt := 83) hx hb dX3_areEntries_79 (by decide) ?_
        exact w_X3_areEntries_b83 hX hrec4 hrec48 h hI (lv_sub hl [0, 1, 3, 4] rfl)
theorem w_X3_areEntries_L48 {rec4 : Nat → Int32 → Int32 → Int32 → xM Int32} {r : Int32} (hX : xX E R p m c cX3_areEntries 5 s args RX3 "areEntries" meth (some .boolean) 0 0 σ0 σ9) (hrec4 : ∀ (a0 : Nat) (a1 : Int32) (a2 : Int32) (a3 : Int32) (σ : xS) (H : Heap) (locs : List Loc) (cells slots : Nat) (ls : Array Slot), (rec4 a0 a1 a2 a3).1 σ = some (r, σ9) → xI E σ0 σ s H locs cells slots → lv_has ls 5 [(0, .ref a0), (1, .int a1), (2, .int a2), (3, .int a3)] → W p l e R s m args below meth c H locs cells slots (xMQ E below args s σ0 σ9 (some (.int r))) (F0 m 4 ls [])) : ∀ (n : Nat) (a0 : Nat) (a1 : Int32) (a2 : Int32) (a3 : Int32) (a4 : Int32) (σ : xS) (H : Heap) (locs : List Loc) (cells slots : Nat) (ls : Array Slot), (f_X3_areEntries_L48 rec4 n a0 a1 a2 a3 a4).1 σ = some (r, σ9) → xI E σ0 σ s H locs cells slots → lv_has ls 5 [(0, .ref a0), (1, .int a1), (2, .int a2), (3, .int a3), (4, .int a4)] → W p l e R s m args below meth c H locs cells slots (xMQ E below args s σ0 σ9 (some (.int r))) (F0 m 48 ls []) := by
  intro n
  induction n with
  | zero =>
    intro a0 a1 a2 a3 a4 σ H locs cells slots ls h
    exact xr_no h
  | succ n ih =>
    intro a0 a1 a2 a3 a4 σ H locs cells slots ls h hI hl
    exact w_X3_areEntries_b48 hX hrec4 ih h hI hl
theorem w_X3_areEntries_b44 {rec4 : Nat → Int32 → Int32 → Int32 → xM Int32} {t0 : Int32} {a0 : Nat} {a1 : Int32} {a3 : Int32} {r : Int32} (hX : xX E R p m c cX3_areEntries 5 s args RX3 "areEntries" meth (some .boolean) 0 0 σ0 σ9) (hrec4 : ∀ (a0 : Nat) (a1 : Int32) (a2 : Int32) (a3 : Int32) (σ : xS) (H : Heap) (locs : List Loc) (cells slots : Nat) (ls : Array Slot), (rec4 a0 a1 a2 a3).1 σ = some (r, σ9) → xI E σ0 σ s H locs cells slots → lv_has ls 5 [(0, .ref a0), (1, .int a1), (2, .int a2), (3, .int a3)] → W p l e R s m args below meth c H locs cells slots (xMQ E below args s σ0 σ9 (some (.int r))) (F0 m 4 ls []))
    (h : (f_X3_areEntries_b44 rec4 t0 a0 a1 a3).1 σ = some (r, σ9)) (hI : xI E σ0 σ s H locs cells slots) (hl : lv_has ls 5 [(0, .ref a0), (1, .int a1), (3, .int a3)]) : W p l e R s m args below meth c H locs cells slots (xMQ E below args s σ0 σ9 (some (.int r))) (F0 m 44 ls [.int t0]) := by
  have hx := hX.1.1
  have hb := hX.1.2.1
  delta f_X3_areEntries_b44 at h
  refine lv_istore_n (lv' := [(2, .int t0), (0, .ref a0), (1, .int a1), (3, .int a3)]) hx hb dX3_areEntries_44 rfl hl (Nat.le_of_ble_eq_true rfl) rfl (fun ls hl => ?_)
  refine lv_iconst (v := (0 : Int32)) hx hb dX3_areEntries_45 (by decide) ?_
  refine lv_istore (lv' := [(4, .int (0 : Int32)), (2, .int t0), (0, .ref a0), (1, .int a1), (3, .int a3)]) hx hb dX3_areEntries_46 hl (Nat.le_of_ble_eq_true rfl) rfl (fun ls hl => ?_)
  exact w_X3_areEntries_L48 hX hrec4 xFU a0 a1 t0 a3 (0 : Int32) _ _ _ _ _ _ h hI (lv_sub hl [2, 3, 1, 4, 0] rfl)
theorem w_X3_areEntries_b43 {rec4 : Nat → Int32 → Int32 → Int32 → xM Int32} {a0 : Nat} {a1 : Int32} {a3 : Int32} {r : Int32} (hX : xX E R p m c cX3_areEntries 5 s args RX3 "areEntries" meth (some .boolean) 0 0 σ0 σ9) (hrec4 : ∀ (a0 : Nat) (a1 : Int32) (a2 : Int32) (a3 : Int32) (σ : xS) (H : Heap) (locs : List Loc) (cells slots : Nat) (ls : Array Slot), (rec4 a0 a1 a2 a3).1 σ = some (r, σ9) → xI E σ0 σ s H locs cells slots → lv_has ls 5 [(0, .ref a0), (1, .int a1), (2, .int a2), (3, .int a3)] → W p l e R s m args below meth c H locs cells slots (xMQ E below args s σ0 σ9 (some (.int r))) (F0 m 4 ls []))
    (h : (f_X3_areEntries_b43 rec4 a0 a1 a3).1 σ = some (r, σ9)) (hI : xI E σ0 σ s H locs cells slots) (hl : lv_has ls 5 [(0, .ref a0), (1, .int a1), (3, .int a3)]) : W p l e R s m args below meth c H locs cells slots (xMQ E below args s σ0 σ9 (some (.int r))) (F0 m 43 ls []) := by
  have hx := hX.1.1
  have hb := hX.1.2.1
  delta f_X3_areEntries_b43 at h
  refine lv_iconst (v := (0 : Int32)) hx hb dX3_areEntries_43 (by decide) ?_
  exact w_X3_areEntries_b44 hX hrec4 h hI (lv_sub hl [0, 1, 2] rfl)
theorem w_X3_areEntries_b4 {rec4 : Nat → Int32 → Int32 → Int32 → xM Int32} {a0 : Nat} {a1 : Int32} {a2 : Int32} {a3 : Int32} {r : Int32} (hX : xX E R p m c cX3_areEntries 5 s args RX3 "areEntries" meth (some .boolean) 0 0 σ0 σ9) (hrec4 : ∀ (a0 : Nat) (a1 : Int32) (a2 : Int32) (a3 : Int32) (σ : xS) (H : Heap) (locs : List Loc) (cells slots : Nat) (ls : Array Slot), (rec4 a0 a1 a2 a3).1 σ = some (r, σ9) → xI E σ0 σ s H locs cells slots → lv_has ls 5 [(0, .ref a0), (1, .int a1), (2, .int a2), (3, .int a3)] → W p l e R s m args below meth c H locs cells slots (xMQ E below args s σ0 σ9 (some (.int r))) (F0 m 4 ls []))
    (h : (f_X3_areEntries_b4 rec4 a0 a1 a2 a3).1 σ = some (r, σ9)) (hI : xI E σ0 σ s H locs cells slots) (hl : lv_has ls 5 [(0, .ref a0), (1, .int a1), (2, .int a2), (3, .int a3)]) : W p l e R s m args below meth c H locs cells slots (xMQ E below args s σ0 σ9 (some (.int r))) (F0 m 4 ls []) := by
  have hx := hX.1.1
  have hb := hX.1.2.1
  delta f_X3_areEntries_b4 at h
  refine lv_iload_n hx hb dX3_areEntries_4 rfl (lv_at hl 3 rfl) ?_
  refine lv_iload_n hx hb dX3_areEntries_5 rfl (lv_at hl 1 rfl) ?_
  refine lv_icmp_ge (tgt := 96) hx hb dX3_areEntries_6 (by decide) (fun hc => ?_) (fun hc => ?_)
  · have h := xif_t h hc
    refine lv_iload_n hx hb dX3_areEntries_96 rfl (lv_at hl 2 rfl) ?_
    exact xr_zreturn h hX hI dX3_areEntries_97
  · have h := xif_f h hc
    refine lv_iload_n hx hb dX3_areEntries_9 rfl (lv_at hl 2 rfl) ?_
    refine lv_if_eq (tgt := 43) hx hb dX3_areEntries_10 (by decide) (fun hc => ?_) (fun hc => ?_)
    · have h := xif_t h hc
      exact w_X3_areEntries_b43 hX hrec4 h hI (lv_sub hl [0, 1, 3] rfl)
    · have h := xif_f h hc
      refine lv_aload_n hx hb dX3_areEntries_13 rfl (lv_at hl 0 rfl) ?_
      refine xr_gN h hX hI xl_X3_30_3.g dX3_areEntries_14 (fun v9 h => ?_)
      refine lv_iconst (v := (3 : Int32)) hx hb dX3_areEntries_17 (by decide) ?_
      refine lv_iload_n hx hb dX3_areEntries_18 rfl (lv_at hl 3 rfl) ?_
      refine lv_imul hx hb dX3_areEntries_19 ?_
      refine lv_iconst (v := (1 : Int32)) hx hb dX3_areEntries_20 (by decide) ?_
      refine lv_iadd hx hb dX3_areEntries_21 ?_
      refine xr_ldI h hX hI dX3_areEntries_22 (fun v10 h => ?_)
      refine lv_if_le (tgt := 43) hx hb dX3_areEntries_23 (by decide) (fun hc => ?_) (fun hc => ?_)
      · have h := xif_t h hc
        exact w_X3_areEntries_b43 hX hrec4 h hI (lv_sub hl [0, 1, 3] rfl)
      · have h := xif_f h hc
        refine lv_aload_n hx hb dX3_areEntries_26 rfl (lv_at hl 0 rfl) ?_
        refine xr_gN h hX hI xl_X3_30_3.g dX3_areEntries_27 (fun v11 h => ?_)
        refine lv_iconst (v := (3 : Int32)) hx hb dX3_areEntries_30 (by decide) ?_
        refine lv_iload_n hx hb dX3_areEntries_31 rfl (lv_at hl 3 rfl) ?_
        refine lv_imul hx hb dX3_areEntries_32 ?_
        refine lv_iconst (v := (2 : Int32)) hx hb dX3_areEntries_33 (by decide) ?_
        refine lv_iadd hx hb dX3_areEntries_34 ?_
        refine xr_ldI h hX hI dX3_areEntries_35 (fun v12 h => ?_)
        refine lv_if_le (tgt := 43) hx hb dX3_areEntries_36 (by decide) (fun hc => ?_) (fun hc => ?_)
        · have h := xif_t h hc
          exact w_X3_areEntries_b43 hX hrec4 h hI (lv_sub hl [0, 1, 3] rfl)
        · have h := xif_f h hc
          refine lv_iconst (v := (1 : Int32)) hx hb dX3_areEntries_39 (by decide) ?_
          refine lv_goto (tgt := 44) hx hb dX3_areEntries_40 (by decide) ?_
          exact w_X3_areEntries_b44 hX hrec4 h hI (lv_sub hl [0, 1, 3] rfl)
theorem w_X3_areEntries_L4 {r : Int32} (hX : xX E R p m c cX3_areEntries 5 s args RX3 "areEntries" meth (some .boolean) 0 0 σ0 σ9) : ∀ (n : Nat) (a0 : Nat) (a1 : Int32) (a2 : Int32) (a3 : Int32) (σ : xS) (H : Heap) (locs : List Loc) (cells slots : Nat) (ls : Array Slot), (f_X3_areEntries_L4 n a0 a1 a2 a3).1 σ = some (r, σ9) → xI E σ0 σ s H locs cells slots → lv_has ls 5 [(0, .ref a0), (1, .int a1), (2, .int a2), (3, .int a3)] → W p l e R s m args below meth c H locs cells slots (xMQ E below args s σ0 σ9 (some (.int r))) (F0 m 4 ls []) := by
  intro n
  induction n with
  | zero =>
    intro a0 a1 a2 a3 σ H locs cells slots ls h
    exact xr_no h
  | succ n ih =>
    intro a0 a1 a2 a3 σ H locs cells slots ls h hI hl
    exact w_X3_areEntries_b4 hX ih h hI hl
theorem o_X3_areEntries {a0 : Nat} {a1 : Int32} {r : Int32} {σ σ9 : xS} (h : (f_X3_areEntries a0 a1).1 σ = some (r, σ9)) : ∃ fs, σ.1 a0 = some (.inl (3, fs)) := xck_of h
theorem w_X3_areEntries {E : xE} {l : Launch} {a0 : Nat} {a1 : Int32} {r : Int32} {σ σ9 : xS} (h : (f_X3_areEntries a0 a1).1 σ = some (r, σ9)) : xMet E l yX3_areEntries (ws_ yX3_areEntries cX3_areEntries 5 (some .boolean)) 0 0 [.ref a0, .int a1] σ σ9 (some (.int r)) := by
  refine xstart (by decide +kernel) ((f_X3_areEntries a0 a1).2 _ _ _ h) (Nat.le_of_ble_eq_true rfl) ?_
  intro p e s m args below meth c H locs cells slots ls R hX hI hl
  have hx := hX.1.1
  have hb := hX.1.2.1
  have hl : lv_has ls 5 [(0, .ref a0), (1, .int a1)] := hl
  generalize hσ0 : σ = σ0 at hX hI ⊢
  have h : (f_X3_areEntries a0 a1).1 σ0 = some (r, σ9) := by rw [← hσ0]; exact h
  clear hσ0
  delta f_X3_areEntries at h
  have h := (xck_bd h).2
  refine lv_iconst (v := (1 : Int32)) hx hb dX3_areEntries_0 (by decide) ?_
  refine lv_istore_n (lv' := [(2, .int (1 : Int32)), (0, .ref a0), (1, .int a1)]) hx hb dX3_areEntries_1 rfl hl (Nat.le_of_ble_eq_true rfl) rfl (fun ls hl => ?_)
  refine lv_iconst (v := (0 : Int32)) hx hb dX3_areEntries_2 (by decide) ?_
  refine lv_istore_n (lv' := [(3, .int (0 : Int32)), (2, .int (1 : Int32)), (0, .ref a0), (1, .int a1)]) hx hb dX3_areEntries_3 rfl hl (Nat.le_of_ble_eq_true rfl) rfl (fun ls hl => ?_)
  exact w_X3_areEntries_L4 hX xFU a0 a1 (1 : Int32) (0 : Int32) _ _ _ _ _ _ h hI (lv_sub hl [2, 3, 1, 0] rfl)
/-! PayMatchModel.readInvoice()I  -/
theorem w_X3_readInvoice_b140 {rec67 : Nat → Int32 → Int32 → Int32 → Int32 → xM Int32} {t0 : Int32} {a0 : Nat} {a1 : Int32} {a2 : Int32} {a3 : Int32} {r : Int32} (hX : xX E R p m c cX3_readInvoice 7 s args RX3 "readInvoice" meth (some .int) 4 89 σ0 σ9) (hrec67 : ∀ (a0 : Nat) (a1 : Int32) (a2 : Int32) (a3 : Int32) (a4 : Int32) (σ : xS) (H : Heap) (locs : List Loc) (cells slots : Nat) (ls : Array Slot), (rec67 a0 a1 a2 a3 a4).1 σ = some (r, σ9) → xI E σ0 σ s H locs cells slots → lv_has ls 7 [(0, .ref a0), (1, .int a1), (2, .int a2), (3, .int a3), (4, .int a4)] → W p l e R s m args below meth c H locs cells slots (xMQ E below args s σ0 σ9 (some (.int r))) (F0 m 67 ls []))
    (h : (f_X3_readInvoice_b140 rec67 t0 a0 a1 a2 a3).1 σ = some (r, σ9)) (hI : xI E σ0 σ s H locs cells slots) (hl : lv_has ls 7 [(0, .ref a0), (1, .int a1), (2, .int a2), (3, .int a3)]) : W p l e R s m args below meth c H locs cells slots (xMQ E below args s σ0 σ9 (some (.int r))) (F0 m 140 ls [.int t0]) := by
  have hx := hX.1.1
  have hb := hX.1.2.1
  delta f_X3_readInvoice_b140 at h
  refine lv_istore (lv' := [(4, .int t0), (0, .ref a0), (1, .int a1), (2, .int a2), (3, .int a3)]) hx hb dX3_readInvoice_140 hl (Nat.le_of_ble_eq_true rfl) rfl (fun ls hl => ?_)
  refine lv_goto (tgt := 67) hx hb dX3_readInvoice_142 (by decide) ?_
  exact hrec67 a0 a1 a2 a3 t0 _ _ _ _ _ _ h hI (lv_sub hl [1, 2, 3, 4, 0] rfl)
theorem w_X3_readInvoice_b125 {rec67 : Nat → Int32 → Int32 → Int32 → Int32 → xM Int32} {t0 : Nat} {t1 : Int32} {a0 : Nat} {a1 : Int32} {a2 : Int32} {a3 : Int32} {r : Int32} (hX : xX E R p m c cX3_readInvoice 7 s args RX3 "readInvoice" meth (some .int) 4 89 σ0 σ9) (hrec67 : ∀ (a0 : Nat) (a1 : Int32) (a2 : Int32) (a3 : Int32) (a4 : Int32) (σ : xS) (H : Heap) (locs : List Loc) (cells slots : Nat) (ls : Array Slot), (rec67 a0 a1 a2 a3 a4).1 σ = some (r, σ9) → xI E σ0 σ s H locs cells slots → lv_has ls 7 [(0, .ref a0), (1, .int a1), (2, .int a2), (3, .int a3), (4, .int a4)] → W p l e R s m args below meth c H locs cells slots (xMQ E below args s σ0 σ9 (some (.int r))) (F0 m 67 ls []))
    (h : (f_X3_readInvoice_b125 rec67 t0 t1 a0 a1 a2 a3).1 σ = some (r, σ9)) (hI : xI E σ0 σ s H locs cells slots) (hl : lv_has ls 7 [(0, .ref a0), (1, .int a1), (2, .int a2), (3, .int a3)]) : W p l e R s m args below meth c H locs cells slots (xMQ E below args s σ0 σ9 (some (.int r))) (F0 m 125 ls [.int t1, .ref t0]) := by
  have hx := hX.1.1
  have hb := hX.1.2.1
  delta f_X3_readInvoice_b125 at h
  refine xr_callV (iv := (fun _ => none)) (As := [.int t1]) (rest := []) h hX hI (fun _ _ h => w_X3_must h) (fun _ _ h => o_X3_must h) rfl 1 (lw_V q2267 q2269 qs64 q87 q2270) ⟨rfl, xd_X3_must⟩ ⟨rfl, rfl⟩ rfl hl.1 (Nat.le_of_ble_eq_true rfl) dX3_readInvoice_125 (fun _ H locs σ cells slots h hI => ?_)
  refine lv_aload_n hx hb dX3_readInvoice_128 rfl (lv_at hl 0 rfl) ?_
  refine xr_gI h hX hI xl_X3_204_3.g dX3_readInvoice_129 (fun v42 h => ?_)
  refine lv_if_ne (tgt := 139) hx hb dX3_readInvoice_132 (by decide) (fun hc => ?_) (fun hc => ?_)
  · have h := xif_f h hc
    refine lv_iconst (v := (0 : Int32)) hx hb dX3_readInvoice_139 (by decide) ?_
    exact w_X3_readInvoice_b140 hX hrec67 h hI (lv_sub hl [0, 1, 2, 3] rfl)
  · have h := xif_t h hc
    refine lv_iconst (v := (1 : Int32)) hx hb dX3_readInvoice_135 (by decide) ?_
    refine lv_goto (tgt := 140) hx hb dX3_readInvoice_136 (by decide) ?_
    exact w_X3_readInvoice_b140 hX hrec67 h hI (lv_sub hl [0, 1, 2, 3] rfl)
theorem w_X3_readInvoice_b103 {rec67 : Nat → Int32 → Int32 → Int32 → Int32 → xM Int32} {t0 : Int32} {a0 : Nat} {a1 : Int32} {a2 : Int32} {a3 : Int32} {r : Int32} (hX : xX E R p m c cX3_readInvoice 7 s args RX3 "readInvoice" meth (some .int) 4 89 σ0 σ9) (hrec67 : ∀ (a0 : Nat) (a1 : Int32) (a2 : Int32) (a3 : Int32) (a4 : Int32) (σ : xS) (H : Heap) (locs : List Loc) (cells slots : Nat) (ls : Array Slot), (rec67 a0 a1 a2 a3 a4).1 σ = some (r, σ9) → xI E σ0 σ s H locs cells slots → lv_has ls 7 [(0, .ref a0), (1, .int a1), (2, .int a2), (3, .int a3), (4, .int a4)] → W p l e R s m args below meth c H locs cells slots (xMQ E below args s σ0 σ9 (some (.int r))) (F0 m 67 ls []))
    (h : (f_X3_readInvoice_b103 rec67 t0 a0 a1 a2 a3).1 σ = some (r, σ9)) (hI : xI E σ0 σ s H locs cells slots) (hl : lv_has ls 7 [(0, .ref a0), (1, .int a1), (2, .int a2), (3, .int a3)]) : W p l e R s m args below meth c H locs cells slots (xMQ E below args s σ0 σ9 (some (.int r))) (F0 m 103 ls [.int t0]) := by
  have hx := hX.1.1
  have hb := hX.1.2.1
  delta f_X3_readInvoice_b103 at h
  refine lv_istore (lv' := [(4, .int t0), (0, .ref a0), (1, .int a1), (2, .int a2), (3, .int a3)]) hx hb dX3_readInvoice_103 hl (Nat.le_of_ble_eq_true rfl) rfl (fun ls hl => ?_)
  refine lv_iload hx hb dX3_readInvoice_105 (lv_at hl 0 rfl) ?_
  refine lv_if_eq (tgt := 67) hx hb dX3_readInvoice_107 (by decide) (fun hc => ?_) (fun hc => ?_)
  · have h := xif_t h hc
    exact hrec67 a0 a1 a2 a3 t0 _ _ _ _ _ _ h hI (lv_sub hl [1, 2, 3, 4, 0] rfl)
  · have h := xif_f h hc
    refine lv_aload_n hx hb dX3_readInvoice_110 rfl (lv_at hl 1 rfl) ?_
    refine lv_aload_n hx hb dX3_readInvoice_111 rfl (lv_at hl 1 rfl) ?_
    refine xr_callV (iv := (fun b => some (.int b))) (As := []) (rest := [.ref a0]) h hX hI (fun _ _ h => w_X3_look h) (fun _ _ h => o_X3_look h) rfl 0 (lw_V q2263 q2265 qs63 q87 q2266) ⟨rfl, xd_X3_look⟩ ⟨rfl, rfl⟩ rfl hl.1 (Nat.le_of_ble_eq_true rfl) dX3_readInvoice_112 (fun v41 H locs σ cells slots h hI => ?_)
    refine W.eq (g2 := F0 m 115 ls [.int v41, .ref a0]) rfl ?_
    refine lv_bipush (v := (44 : Int32)) hx hb dX3_readInvoice_115 (by decide) ?_
    refine lv_icmp_ne (tgt := 124) hx hb dX3_readInvoice_117 (by decide) (fun hc => ?_) (fun hc => ?_)
    · have h := xif_f h hc
      refine lv_iconst (v := (0 : Int32)) hx hb dX3_readInvoice_124 (by decide) ?_
      exact w_X3_readInvoice_b125 hX hrec67 h hI (lv_sub hl [1, 2, 3, 4] rfl)
    · have h := xif_t h hc
      refine lv_iconst (v := (1 : Int32)) hx hb dX3_readInvoice_120 (by decide) ?_
      refine lv_goto (tgt := 125) hx hb dX3_readInvoice_121 (by decide) ?_
      exact w_X3_readInvoice_b125 hX hrec67 h hI (lv_sub hl [1, 2, 3, 4] rfl)
theorem w_X3_readInvoice_b102 {rec67 : Nat → Int32 → Int32 → Int32 → Int32 → xM Int32} {a0 : Nat} {a1 : Int32} {a2 : Int32} {a3 : Int32} {r : Int32} (hX : xX E R p m c cX3_readInvoice 7 s args RX3 "readInvoice" meth (some .int) 4 89 σ0 σ9) (hrec67 : ∀ (a0 : Nat) (a1 : Int32) (a2 : Int32) (a3 : Int32) (a4 : Int32) (σ : xS) (H : Heap) (locs : List Loc) (cells slots : Nat) (ls : Array Slot), (rec67 a0 a1 a2 a3 a4).1 σ = some (r, σ9) → xI E σ0 σ s H locs cells slots → lv_has ls 7 [(0, .ref a0), (1, .int a1), (2, .int a2), (3, .int a3), (4, .int a4)] → W p l e R s m args below meth c H locs cells slots (xMQ E below args s σ0 σ9 (some (.int r))) (F0 m 67 ls []))
    (h : (f_X3_readInvoice_b102 rec67 a0 a1 a2 a3).1 σ = some (r, σ9)) (hI : xI E σ0 σ s H locs cells slots) (hl : lv_has ls 7 [(0, .ref a0), (1, .int a1), (2, .int a2), (3, .int a3)]) : W p l e R s m args below meth c H locs cells slots (xMQ E below args s σ0 σ9 (some (.int r))) (F0 m 102 ls []) := by
  have hx := hX.1.1
  have hb := hX.1.2.1
  delta f_X3_readInvoice_b102 at h
  refine lv_iconst (v := (0 : Int32)) hx hb dX3_readInvoice_102 (by decide) ?_
  exact w_X3_readInvoice_b103 hX hrec67 h hI (lv_sub hl [0, 1, 2, 3] rfl)
theorem w_X3_readInvoice_b255 {a0 : Nat} {a5 : Int32} {r : Int32} (hX : xX E R p m c cX3_readInvoice 7 s args RX3 "readInvoice" meth (some .int) 4 89 σ0 σ9)
    (h : (f_X3_readInvoice_b255 a0 a5).1 σ = some (r, σ9)) (hI : xI E σ0 σ s H locs cells slots) (hl : lv_has ls 7 [(0, .ref a0), (5, .int a5)]) : W p l e R s m args below meth c H locs cells slots (xMQ E below args s σ0 σ9 (some (.int r))) (F0 m 255 ls []) := by
  have hx := hX.1.1
  have hb := hX.1.2.1
  delta f_X3_readInvoice_b255 at h
  refine lv_aload_n hx hb dX3_readInvoice_255 rfl (lv_at hl 0 rfl) ?_
  refine lv_iload hx hb dX3_readInvoice_256 (lv_at hl 1 rfl) ?_
  refine xr_callV (iv := (fun b => some (.int b))) (As := [.int a5]) (rest := []) h hX hI (fun _ _ h => w_X3_entered h) (fun _ _ h => o_X3_entered h) rfl 1 (lw_V q2169 q2171 qs48 q87 q2172) ⟨rfl, xd_X3_entered⟩ ⟨rfl, rfl⟩ rfl hl.1 (Nat.le_of_ble_eq_true rfl) dX3_readInvoice_258 (fun v40 H locs σ cells slots h hI => ?_)
  refine W.eq (g2 := F0 m 261 ls [.int v40]) rfl ?_
  exact xr_ireturn h hX hI dX3_readInvoice_261
theorem w_X3_readInvoice_b206 {rec206 : Nat → Int32 → Int32 → Int32 → xM Int32} {a0 : Nat} {a3 : Int32} {a5 : Int32} {a6 : Int32} {r : Int32} (hX : xX E R p m c cX3_readInvoice 7 s args RX3 "readInvoice" meth (some .int) 4 89 σ0 σ9) (hrec206 : ∀ (a0 : Nat) (a3 : Int32) (a5 : Int32) (a6 : Int32) (σ : xS) (H : Heap) (locs : List Loc) (cells slots : Nat) (ls : Array Slot), (rec206 a0 a3 a5 a6).1 σ = some (r, σ9) → xI E σ0 σ s H locs cells slots → lv_has ls 7 [(0, .ref a0), (3, .int a3), (5, .int a5), (6, .int a6)] → W p l e R s m args below meth c H locs cells slots (xMQ E below args s σ0 σ9 (some (.int r))) (F0 m 206 ls []))
    (h : (f_X3_readInvoice_b206 rec206 a0 a3 a5 a6).1 σ = some (r, σ9)) (hI : xI E σ0 σ s H locs cells slots) (hl : lv_has ls 7 [(0, .ref a0), (3, .int a3), (5, .int a5), (6, .int a6)]) : W p l e R s m args below meth c H locs cells slots (xMQ E below args s σ0 σ9 (some (.int r))) (F0 m 206 ls []) := by
  have hx := hX.1.1
  have hb := hX.1.2.1
  delta f_X3_readInvoice_b206 at h
  refine lv_iload hx hb dX3_readInvoice_206 (lv_at hl 3 rfl) ?_
  refine lv_iload_n hx hb dX3_readInvoice_208 rfl (lv_at hl 1 rfl) ?_
  refine lv_icmp_ge (tgt := 255) hx hb dX3_readInvoice_209 (by decide) (fun hc => ?_) (fun hc => ?_)
  · have h := xif_t h hc
    exact w_X3_readInvoice_b255 hX h hI (lv_sub hl [0, 2] rfl)
  · have h := xif_f h hc
    refine lv_aload_n hx hb dX3_readInvoice_212 rfl (lv_at hl 0 rfl) ?_
    refine lv_iload hx hb dX3_readInvoice_213 (lv_at hl 2 rfl) ?_
    refine lv_aload_n hx hb dX3_readInvoice_215 rfl (lv_at hl 0 rfl) ?_
    refine xr_gN h hX hI xl_X3_30_3.g dX3_readInvoice_216 (fun v34 h => ?_)
    refine lv_iconst (v := (3 : Int32)) hx hb dX3_readInvoice_219 (by decide) ?_
    refine lv_iload hx hb dX3_readInvoice_220 (lv_at hl 3 rfl) ?_
    refine lv_imul hx hb dX3_readInvoice_222 ?_
    refine xr_ldI h hX hI dX3_readInvoice_223 (fun v35 h => ?_)
    refine lv_aload_n hx hb dX3_readInvoice_224 rfl (lv_at hl 0 rfl) ?_
    refine xr_gN h hX hI xl_X3_30_3.g dX3_readInvoice_225 (fun v36 h => ?_)
    refine lv_iconst (v := (3 : Int32)) hx hb dX3_readInvoice_228 (by decide) ?_
    refine lv_iload hx hb dX3_readInvoice_229 (lv_at hl 3 rfl) ?_
    refine lv_imul hx hb dX3_readInvoice_231 ?_
    refine lv_iconst (v := (1 : Int32)) hx hb dX3_readInvoice_232 (by decide) ?_
    refine lv_iadd hx hb dX3_readInvoice_233 ?_
    refine xr_ldI h hX hI dX3_readInvoice_234 (fun v37 h => ?_)
    refine lv_aload_n hx hb dX3_readInvoice_235 rfl (lv_at hl 0 rfl) ?_
    refine xr_gN h hX hI xl_X3_30_3.g dX3_readInvoice_236 (fun v38 h => ?_)
    refine lv_iconst (v := (3 : Int32)) hx hb dX3_readInvoice_239 (by decide) ?_
    refine lv_iload hx hb dX3_readInvoice_240 (lv_at hl 3 rfl) ?_
    refine lv_imul hx hb dX3_readInvoice_242 ?_
    refine lv_iconst (v := (2 : Int32)) hx hb dX3_readInvoice_243 (by decide) ?_
    refine lv_iadd hx hb dX3_readInvoice_244 ?_
    refine xr_ldI h hX hI dX3_readInvoice_245 (fun v39 h => ?_)
    refine xr_callV (iv := (fun _ => none)) (As := [.int a5, .int v35, .int v37, .int v39]) (rest := []) h hX hI (fun _ _ h => w_X3_adds h) (fun _ _ h => o_X3_adds h) rfl 4 (lw_V q2165 q2167 qs47 q87 q2168) ⟨rfl, xd_X3_adds⟩ ⟨rfl, rfl⟩ rfl hl.1 (Nat.le_of_ble_eq_true rfl) dX3_readInvoice_246 (fun _ H locs σ cells slots h hI => ?_)
    refine lv_iinc (k := 3) (lv' := [(6, .int (a6 + (1 : Int32))), (0, .ref a0), (3, .int a3), (5, .int a5)]) hx hb dX3_readInvoice_249 hl rfl (xiinc (by decide)) (Nat.le_of_ble_eq_true rfl) rfl (fun ls hl => ?_)
    refine lv_goto (tgt := 206) hx hb dX3_readInvoice_252 (by decide) ?_
    exact hrec206 a0 a3 a5 (a6 + (1 : Int32)) _ _ _ _ _ _ h hI (lv_sub hl [1, 2, 3, 0] rfl)
theorem w_X3_readInvoice_L206 {r : Int32} (hX : xX E R p m c cX3_readInvoice 7 s args RX3 "readInvoice" meth (some .int) 4 89 σ0 σ9) : ∀ (n : Nat) (a0 : Nat) (a3 : Int32) (a5 : Int32) (a6 : Int32) (σ : xS) (H : Heap) (locs : List Loc) (cells slots : Nat) (ls : Array Slot), (f_X3_readInvoice_L206 n a0 a3 a5 a6).1 σ = some (r, σ9) → xI E σ0 σ s H locs cells slots → lv_has ls 7 [(0, .ref a0), (3, .int a3), (5, .int a5), (6, .int a6)] → W p l e R s m args below meth c H locs cells slots (xMQ E below args s σ0 σ9 (some (.int r))) (F0 m 206 ls []) := by
  intro n
  induction n with
  | zero =>
    intro a0 a3 a5 a6 σ H locs cells slots ls h
    exact xr_no h
  | succ n ih =>
    intro a0 a3 a5 a6 σ H locs cells slots ls h hI hl
    exact w_X3_readInvoice_b206 hX ih h hI hl
theorem w_X3_readInvoice_b145 {a0 : Nat} {a1 : Int32} {a2 : Int32} {a3 : Int32} {r : Int32} (hX : xX E R p m c cX3_readInvoice 7 s args RX3 "readInvoice" meth (some .int) 4 89 σ0 σ9)
    (h : (f_X3_readInvoice_b145 a0 a1 a2 a3).1 σ = some (r, σ9)) (hI : xI E σ0 σ s H locs cells slots) (hl : lv_has ls 7 [(0, .ref a0), (1, .int a1), (2, .int a2), (3, .int a3)]) : W p l e R s m args below meth c H locs cells slots (xMQ E below args s σ0 σ9 (some (.int r))) (F0 m 145 ls []) := by
  have hx := hX.1.1
  have hb := hX.1.2.1
  delta f_X3_readInvoice_b145 at h
  refine lv_aload_n hx hb dX3_readInvoice_145 rfl (lv_at hl 0 rfl) ?_
  refine xr_gI h hX hI xl_X3_204_3.g dX3_readInvoice_146 (fun v28 h => ?_)
  refine lv_if_eq (tgt := 160) hx hb dX3_readInvoice_149 (by decide) (fun hc => ?_) (fun hc => ?_)
  · have h := xif_t h hc
    refine lv_aload_n hx hb dX3_readInvoice_160 rfl (lv_at hl 0 rfl) ?_
    refine lv_iload_n hx hb dX3_readInvoice_161 rfl (lv_at hl 2 rfl) ?_
    refine lv_iload_n hx hb dX3_readInvoice_162 rfl (lv_at hl 3 rfl) ?_
    refine xr_callV (iv := (fun b => some (.int b))) (As := [.int a2, .int a3]) (rest := []) h hX hI (fun _ _ h => w_X3_areLines h) (fun _ _ h => o_X3_areLines h) rfl 2 (lw_V q2275 q2277 qs66 q87 q2278) ⟨rfl, xd_X3_areLines⟩ ⟨rfl, rfl⟩ rfl hl.1 (Nat.le_of_ble_eq_true rfl) dX3_readInvoice_163 (fun v29 H locs σ cells slots h hI => ?_)
    refine W.eq (g2 := F0 m 166 ls [.int v29]) rfl ?_
    refine lv_if_ne (tgt := 171) hx hb dX3_readInvoice_166 (by decide) (fun hc => ?_) (fun hc => ?_)
    · have h := xif_f h hc
      refine lv_aload_n hx hb dX3_readInvoice_171 rfl (lv_at hl 0 rfl) ?_
      refine lv_iload_n hx hb dX3_readInvoice_172 rfl (lv_at hl 3 rfl) ?_
      refine xr_callV (iv := (fun b => some (.int b))) (As := [.int a3]) (rest := []) h hX hI (fun _ _ h => w_X3_areEntries h) (fun _ _ h => o_X3_areEntries h) rfl 1 (lw_V q2279 q2281 qs67 q87 q2282) ⟨rfl, xd_X3_areEntries⟩ ⟨rfl, rfl⟩ rfl hl.1 (Nat.le_of_ble_eq_true rfl) dX3_readInvoice_173 (fun v30 H locs σ cells slots h hI => ?_)
      refine W.eq (g2 := F0 m 176 ls [.int v30]) rfl ?_
      refine lv_if_ne (tgt := 182) hx hb dX3_readInvoice_176 (by decide) (fun hc => ?_) (fun hc => ?_)
      · have h := xif_f h hc
        refine lv_aload_n hx hb dX3_readInvoice_182 rfl (lv_at hl 0 rfl) ?_
        refine lv_iconst (v := (3 : Int32)) hx hb dX3_readInvoice_183 (by decide) ?_
        refine xr_callV (iv := (fun b => some (.int b))) (As := [.int (3 : Int32)]) (rest := []) h hX hI (fun _ _ h => w_X3_at h) (fun _ _ h => o_X3_at h) rfl 1 (lw_V q2022 q2024 qs31 q87 q2025) ⟨rfl, xd_X3_at⟩ ⟨rfl, rfl⟩ rfl hl.1 (Nat.le_of_ble_eq_true rfl) dX3_readInvoice_184 (fun v31 H locs σ cells slots h hI => ?_)
        refine W.eq (g2 := F0 m 187 ls [.int v31]) rfl ?_
        refine lv_bipush (v := (24 : Int32)) hx hb dX3_readInvoice_187 (by decide) ?_
        refine lv_icmp_ne (tgt := 195) hx hb dX3_readInvoice_189 (by decide) (fun hc => ?_) (fun hc => ?_)
        · have h := xif_f h hc
          refine lv_aload_n hx hb dX3_readInvoice_195 rfl (lv_at hl 0 rfl) ?_
          refine lv_iload_n hx hb dX3_readInvoice_196 rfl (lv_at hl 1 rfl) ?_
          refine lv_iload_n hx hb dX3_readInvoice_197 rfl (lv_at hl 2 rfl) ?_
          refine xr_callV (iv := (fun b => some (.int b))) (As := [.int a1, .int a2]) (rest := []) h hX hI (fun _ _ h => w_X3_begins h) (fun _ _ h => o_X3_begins h) rfl 2 (lw_V q2160 q2162 qs46 q87 q2163) ⟨rfl, xd_X3_begins⟩ ⟨rfl, rfl⟩ rfl hl.1 (Nat.le_of_ble_eq_true rfl) dX3_readInvoice_198 (fun v32 H locs σ cells slots h hI => ?_)
          refine W.eq (g2 := F0 m 201 ls [.int v32]) rfl ?_
          refine lv_istore (lv' := [(5, .int v32), (0, .ref a0), (1, .int a1), (2, .int a2), (3, .int a3)]) hx hb dX3_readInvoice_201 hl (Nat.le_of_ble_eq_true rfl) rfl (fun ls hl => ?_)
          refine lv_iconst (v := (0 : Int32)) hx hb dX3_readInvoice_203 (by decide) ?_
          refine lv_istore (lv' := [(6, .int (0 : Int32)), (5, .int v32), (0, .ref a0), (1, .int a1), (2, .int a2), (3, .int a3)]) hx hb dX3_readInvoice_204 hl (Nat.le_of_ble_eq_true rfl) rfl (fun ls hl => ?_)
          exact w_X3_readInvoice_L206 hX xFU a0 a3 v32 (0 : Int32) _ _ _ _ _ _ h hI (lv_sub hl [2, 5, 1, 0] rfl)
        · have h := xif_t h hc
          refine lv_bipush (v := (-3 : Int32)) hx hb dX3_readInvoice_192 (by decide) ?_
          exact xr_ireturn h hX hI dX3_readInvoice_194
      · have h := xif_t h hc
        refine lv_bipush (v := (-2 : Int32)) hx hb dX3_readInvoice_179 (by decide) ?_
        exact xr_ireturn h hX hI dX3_readInvoice_181
    · have h := xif_t h hc
      refine lv_iconst (v := (-1 : Int32)) hx hb dX3_readInvoice_169 (by decide) ?_
      exact xr_ireturn h hX hI dX3_readInvoice_170
  · have h := xif_f h hc
    refine lv_bipush (v := (-100 : Int32)) hx hb dX3_readInvoice_152 (by decide) ?_
    refine lv_aload_n hx hb dX3_readInvoice_154 rfl (lv_at hl 0 rfl) ?_
    refine xr_gI h hX hI xl_X3_201_3.g dX3_readInvoice_155 (fun v33 h => ?_)
    refine lv_isub hx hb dX3_readInvoice_158 ?_
    exact xr_ireturn h hX hI dX3_readInvoice_159
theorem w_X3_readInvoice_b67 {rec67 : Nat → Int32 → Int32 → Int32 → Int32 → xM Int32} {a0 : Nat} {a1 : Int32} {a2 : Int32} {a3 : Int32} {a4 : Int32} {r : Int32} (hX : xX E R p m c cX3_readInvoice 7 s args RX3 "readInvoice" meth (some .int) 4 89 σ0 σ9) (hrec67 : ∀ (a0 : Nat) (a1 : Int32) (a2 : Int32) (a3 : Int32) (a4 : Int32) (σ : xS) (H : Heap) (locs : List Loc) (cells slots : Nat) (ls : Array Slot), (rec67 a0 a1 a2 a3 a4).1 σ = some (r, σ9) → xI E σ0 σ s H locs cells slots → lv_has ls 7 [(0, .ref a0), (1, .int a1), (2, .int a2), (3, .int a3), (4, .int a4)] → W p l e R s m args below meth c H locs cells slots (xMQ E below args s σ0 σ9 (some (.int r))) (F0 m 67 ls []))
    (h : (f_X3_readInvoice_b67 rec67 a0 a1 a2 a3 a4).1 σ = some (r, σ9)) (hI : xI E σ0 σ s H locs cells slots) (hl : lv_has ls 7 [(0, .ref a0), (1, .int a1), (2, .int a2), (3, .int a3), (4, .int a4)]) : W p l e R s m args below meth c H locs cells slots (xMQ E below args s σ0 σ9 (some (.int r))) (F0 m 67 ls []) := by
  have hx := hX.1.1
  have hb := hX.1.2.1
  delta f_X3_readInvoice_b67 at h
  refine lv_iload hx hb dX3_readInvoice_67 (lv_at hl 4 rfl) ?_
  refine lv_if_eq (tgt := 145) hx hb dX3_readInvoice_69 (by decide) (fun hc => ?_) (fun hc => ?_)
  · have h := xif_t h hc
    exact w_X3_readInvoice_b145 hX h hI (lv_sub hl [0, 1, 2, 3] rfl)
  · have h := xif_f h hc
    refine lv_aload_n hx hb dX3_readInvoice_72 rfl (lv_at hl 0 rfl) ?_
    refine lv_iload_n hx hb dX3_readInvoice_73 rfl (lv_at hl 3 rfl) ?_
    refine xr_callV (iv := (fun _ => none)) (As := [.int a3]) (rest := []) h hX hI (fun _ _ h => w_X3_tell h) (fun _ _ h => o_X3_tell h) rfl 1 (lw_V q2271 q2273 qs65 q87 q2274) ⟨rfl, xd_X3_tell⟩ ⟨rfl, rfl⟩ rfl hl.1 (Nat.le_of_ble_eq_true rfl) dX3_readInvoice_74 (fun _ H locs σ cells slots h hI => ?_)
    refine lv_iinc (k := 3) (lv' := [(3, .int (a3 + (1 : Int32))), (0, .ref a0), (1, .int a1), (2, .int a2), (4, .int a4)]) hx hb dX3_readInvoice_77 hl rfl (xiinc (by decide)) (Nat.le_of_ble_eq_true rfl) rfl (fun ls hl => ?_)
    refine lv_aload_n hx hb dX3_readInvoice_80 rfl (lv_at hl 1 rfl) ?_
    refine xr_gI h hX hI xl_X3_204_3.g dX3_readInvoice_81 (fun v25 h => ?_)
    refine lv_if_ne (tgt := 102) hx hb dX3_readInvoice_84 (by decide) (fun hc => ?_) (fun hc => ?_)
    · have h := xif_f h hc
      exact w_X3_readInvoice_b102 hX hrec67 h hI (lv_sub hl [1, 2, 3, 0] rfl)
    · have h := xif_t h hc
      refine lv_aload_n hx hb dX3_readInvoice_87 rfl (lv_at hl 1 rfl) ?_
      refine xr_gI h hX hI xl_X3_201_3.g dX3_readInvoice_88 (fun v26 h => ?_)
      refine lv_aload_n hx hb dX3_readInvoice_91 rfl (lv_at hl 1 rfl) ?_
      refine xr_gI h hX hI xl_X3_198_3.g dX3_readInvoice_92 (fun v27 h => ?_)
      refine lv_icmp_ge (tgt := 102) hx hb dX3_readInvoice_95 (by decide) (fun hc => ?_) (fun hc => ?_)
      · have h := xif_t h hc
        exact w_X3_readInvoice_b102 hX hrec67 h hI (lv_sub hl [1, 2, 3, 0] rfl)
      · have h := xif_f h hc
        refine lv_iconst (v := (1 : Int32)) hx hb dX3_readInvoice_98 (by decide) ?_
        refine lv_goto (tgt := 103) hx hb dX3_readInvoice_99 (by decide) ?_
        exact w_X3_readInvoice_b103 hX hrec67 h hI (lv_sub hl [1, 2, 3, 0] rfl)
theorem w_X3_readInvoice_L67 {r : Int32} (hX : xX E R p m c cX3_readInvoice 7 s args RX3 "readInvoice" meth (some .int) 4 89 σ0 σ9) : ∀ (n : Nat) (a0 : Nat) (a1 : Int32) (a2 : Int32) (a3 : Int32) (a4 : Int32) (σ : xS) (H : Heap) (locs : List Loc) (cells slots : Nat) (ls : Array Slot), (f_X3_readInvoice_L67 n a0 a1 a2 a3 a4).1 σ = some (r, σ9) → xI E σ0 σ s H locs cells slots → lv_has ls 7 [(0, .ref a0), (1, .int a1), (2, .int a2), (3, .int a3), (4, .int a4)] → W p l e R s m args below meth c H locs cells slots (xMQ E below args s σ0 σ9 (some (.int r))) (F0 m 67 ls []) := by
  intro n
  induction n with
  | zero =>
    intro a0 a1 a2 a3 a4 σ H locs cells slots ls h
    exact xr_no h
  | succ n ih =>
    intro a0 a1 a2 a3 a4 σ H locs cells slots ls h hI hl
    exact w_X3_readInvoice_b67 hX ih h hI hl
theorem w_X3_readInvoice_b59 {t0 : Nat} {t1 : Int32} {a0 : Nat} {a1 : Int32} {a2 : Int32} {r : Int32} (hX : xX E R p m c cX3_readInvoice 7 s args RX3 "readInvoice" meth (some .int) 4 89 σ0 σ9)
    (h : (f_X3_readInvoice_b59 t0 t1 a0 a1 a2).1 σ = some (r, σ9)) (hI : xI E σ0 σ s H locs cells slots) (hl : lv_has ls 7 [(0, .ref a0), (1, .int a1), (2, .int a2)]) : W p l e R s m args below meth c H locs cells slots (xMQ E below args s σ0 σ9 (some (.int r))) (F0 m 59 ls [.int t1, .ref t0]) := by
  have hx := hX.1.1
  have hb := hX.1.2.1
  delta f_X3_readInvoice_b59 at h
  refine xr_callV (iv := (fun _ => none)) (As := [.int t1]) (rest := []) h hX hI (fun _ _ h => w_X3_must h) (fun _ _ h => o_X3_must h) rfl 1 (lw_V q2267 q2269 qs64 q87 q2270) ⟨rfl, xd_X3_must⟩ ⟨rfl, rfl⟩ rfl hl.1 (Nat.le_of_ble_eq_true rfl) dX3_readInvoice_59 (fun _ H locs σ cells slots h hI => ?_)
  refine lv_iconst (v := (0 : Int32)) hx hb dX3_readInvoice_62 (by decide) ?_
  refine lv_istore_n (lv' := [(3, .int (0 : Int32)), (0, .ref a0), (1, .int a1), (2, .int a2)]) hx hb dX3_readInvoice_63 rfl hl (Nat.le_of_ble_eq_true rfl) rfl (fun ls hl => ?_)
  refine lv_iconst (v := (1 : Int32)) hx hb dX3_readInvoice_64 (by decide) ?_
  refine lv_istore (lv' := [(4, .int (1 : Int32)), (3, .int (0 : Int32)), (0, .ref a0), (1, .int a1), (2, .int a2)]) hx hb dX3_readInvoice_65 hl (Nat.le_of_ble_eq_true rfl) rfl (fun ls hl => ?_)
  exact w_X3_readInvoice_L67 hX xFU a0 a1 a2 (0 : Int32) (1 : Int32) _ _ _ _ _ _ h hI (lv_sub hl [2, 3, 4, 1, 0] rfl)
theorem w_X3_readInvoice_b35 {t0 : Nat} {t1 : Int32} {a0 : Nat} {a1 : Int32} {r : Int32} (hX : xX E R p m c cX3_readInvoice 7 s args RX3 "readInvoice" meth (some .int) 4 89 σ0 σ9)
    (h : (f_X3_readInvoice_b35 t0 t1 a0 a1).1 σ = some (r, σ9)) (hI : xI E σ0 σ s H locs cells slots) (hl : lv_has ls 7 [(0, .ref a0), (1, .int a1)]) : W p l e R s m args below meth c H locs cells slots (xMQ E below args s σ0 σ9 (some (.int r))) (F0 m 35 ls [.int t1, .ref t0]) := by
  have hx := hX.1.1
  have hb := hX.1.2.1
  delta f_X3_readInvoice_b35 at h
  refine xr_callV (iv := (fun _ => none)) (As := [.int t1]) (rest := []) h hX hI (fun _ _ h => w_X3_must h) (fun _ _ h => o_X3_must h) rfl 1 (lw_V q2267 q2269 qs64 q87 q2270) ⟨rfl, xd_X3_must⟩ ⟨rfl, rfl⟩ rfl hl.1 (Nat.le_of_ble_eq_true rfl) dX3_readInvoice_35 (fun _ H locs σ cells slots h hI => ?_)
  refine lv_aload_n hx hb dX3_readInvoice_38 rfl (lv_at hl 0 rfl) ?_
  refine lv_iconst (v := (3 : Int32)) hx hb dX3_readInvoice_39 (by decide) ?_
  refine xr_callV (iv := (fun b => some (.int b))) (As := [.int (3 : Int32)]) (rest := []) h hX hI (fun _ _ h => w_X3_number h) (fun _ _ h => o_X3_number h) rfl 1 (lw_V q2259 q2261 qs62 q87 q2262) ⟨rfl, xd_X3_number⟩ ⟨rfl, rfl⟩ rfl hl.1 (Nat.le_of_ble_eq_true rfl) dX3_readInvoice_40 (fun v23 H locs σ cells slots h hI => ?_)
  refine W.eq (g2 := F0 m 43 ls [.int v23]) rfl ?_
  refine lv_istore_n (lv' := [(2, .int v23), (0, .ref a0), (1, .int a1)]) hx hb dX3_readInvoice_43 rfl hl (Nat.le_of_ble_eq_true rfl) rfl (fun ls hl => ?_)
  refine lv_aload_n hx hb dX3_readInvoice_44 rfl (lv_at hl 1 rfl) ?_
  refine lv_aload_n hx hb dX3_readInvoice_45 rfl (lv_at hl 1 rfl) ?_
  refine xr_callV (iv := (fun b => some (.int b))) (As := []) (rest := [.ref a0]) h hX hI (fun _ _ h => w_X3_look h) (fun _ _ h => o_X3_look h) rfl 0 (lw_V q2263 q2265 qs63 q87 q2266) ⟨rfl, xd_X3_look⟩ ⟨rfl, rfl⟩ rfl hl.1 (Nat.le_of_ble_eq_true rfl) dX3_readInvoice_46 (fun v24 H locs σ cells slots h hI => ?_)
  refine W.eq (g2 := F0 m 49 ls [.int v24, .ref a0]) rfl ?_
  refine lv_bipush (v := (58 : Int32)) hx hb dX3_readInvoice_49 (by decide) ?_
  refine lv_icmp_ne (tgt := 58) hx hb dX3_readInvoice_51 (by decide) (fun hc => ?_) (fun hc => ?_)
  · have h := xif_f h hc
    refine lv_iconst (v := (0 : Int32)) hx hb dX3_readInvoice_58 (by decide) ?_
    exact w_X3_readInvoice_b59 hX h hI (lv_sub hl [1, 2, 0] rfl)
  · have h := xif_t h hc
    refine lv_iconst (v := (1 : Int32)) hx hb dX3_readInvoice_54 (by decide) ?_
    refine lv_goto (tgt := 59) hx hb dX3_readInvoice_55 (by decide) ?_
    exact w_X3_readInvoice_b59 hX h hI (lv_sub hl [1, 2, 0] rfl)
theorem o_X3_readInvoice {a0 : Nat} {r : Int32} {σ σ9 : xS} (h : (f_X3_readInvoice a0).1 σ = some (r, σ9)) : ∃ fs, σ.1 a0 = some (.inl (3, fs)) := xck_of h
theorem w_X3_readInvoice {E : xE} {l : Launch} {a0 : Nat} {r : Int32} {σ σ9 : xS} (h : (f_X3_readInvoice a0).1 σ = some (r, σ9)) : xMet E l yX3_readInvoice (ws_ yX3_readInvoice cX3_readInvoice 7 (some .int)) 4 89 [.ref a0] σ σ9 (some (.int r)) := by
  refine xstart (by decide +kernel) ((f_X3_readInvoice a0).2 _ _ _ h) (Nat.le_of_ble_eq_true rfl) ?_
  intro p e s m args below meth c H locs cells slots ls R hX hI hl
  have hx := hX.1.1
  have hb := hX.1.2.1
  have hl : lv_has ls 7 [(0, .ref a0)] := hl
  generalize hσ0 : σ = σ0 at hX hI ⊢
  have h : (f_X3_readInvoice a0).1 σ0 = some (r, σ9) := by rw [← hσ0]; exact h
  clear hσ0
  delta f_X3_readInvoice at h
  have h := (xck_bd h).2
  refine lv_aload_n hx hb dX3_readInvoice_0 rfl (lv_at hl 0 rfl) ?_
  refine xr_callV (iv := (fun _ => none)) (As := []) (rest := []) h hX hI (fun _ _ h => w_X3_aside h) (fun _ _ h => o_X3_aside h) rfl 0 (lw_V q2018 q2020 qs30 q87 q2021) ⟨rfl, xd_X3_aside⟩ ⟨rfl, rfl⟩ rfl hl.1 (Nat.le_of_ble_eq_true rfl) dX3_readInvoice_1 (fun _ H locs σ cells slots h hI => ?_)
  refine lv_aload_n hx hb dX3_readInvoice_4 rfl (lv_at hl 0 rfl) ?_
  refine lv_iconst (v := (0 : Int32)) hx hb dX3_readInvoice_5 (by decide) ?_
  refine xr_pt h hX hI xl_X3_201_3 (Or.inl rfl) rfl rfl dX3_readInvoice_6 (fun H locs σ h hI => ?_)
  refine lv_aload_n hx hb dX3_readInvoice_9 rfl (lv_at hl 0 rfl) ?_
  refine lv_iconst (v := (0 : Int32)) hx hb dX3_readInvoice_10 (by decide) ?_
  refine xr_ptZ h hX hI xl_X3_204_3 (Or.inl rfl) dX3_readInvoice_11 (fun H locs σ h hI => ?_)
  refine lv_aload_n hx hb dX3_readInvoice_14 rfl (lv_at hl 0 rfl) ?_
  refine lv_iconst (v := (3 : Int32)) hx hb dX3_readInvoice_15 (by decide) ?_
  refine xr_callV (iv := (fun b => some (.int b))) (As := [.int (3 : Int32)]) (rest := []) h hX hI (fun _ _ h => w_X3_number h) (fun _ _ h => o_X3_number h) rfl 1 (lw_V q2259 q2261 qs62 q87 q2262) ⟨rfl, xd_X3_number⟩ ⟨rfl, rfl⟩ rfl hl.1 (Nat.le_of_ble_eq_true rfl) dX3_readInvoice_16 (fun v43 H locs σ cells slots h hI => ?_)
  refine W.eq (g2 := F0 m 19 ls [.int v43]) rfl ?_
  refine lv_istore_n (lv' := [(1, .int v43), (0, .ref a0)]) hx hb dX3_readInvoice_19 rfl hl (Nat.le_of_ble_eq_true rfl) rfl (fun ls hl => ?_)
  refine lv_aload_n hx hb dX3_readInvoice_20 rfl (lv_at hl 1 rfl) ?_
  refine lv_aload_n hx hb dX3_readInvoice_21 rfl (lv_at hl 1 rfl) ?_
  refine xr_callV (iv := (fun b => some (.int b))) (As := []) (rest := [.ref a0]) h hX hI (fun _ _ h => w_X3_look h) (fun _ _ h => o_X3_look h) rfl 0 (lw_V q2263 q2265 qs63 q87 q2266) ⟨rfl, xd_X3_look⟩ ⟨rfl, rfl⟩ rfl hl.1 (Nat.le_of_ble_eq_true rfl) dX3_readInvoice_22 (fun v44 H locs σ cells slots h hI => ?_)
  refine W.eq (g2 := F0 m 25 ls [.int v44, .ref a0]) rfl ?_
  refine lv_bipush (v := (47 : Int32)) hx hb dX3_readInvoice_25 (by decide) ?_
  refine lv_icmp_ne (tgt := 34) hx hb dX3_readInvoice_27 (by decide) (fun hc => ?_) (fun hc => ?_)
  · have h := xif_f h hc
    refine lv_iconst (v := (0 : Int32)) hx hb dX3_readInvoice_34 (by decide) ?_
    exact w_X3_readInvoice_b35 hX h hI (lv_sub hl [1, 0] rfl)
  · have h := xif_t h hc
    refine lv_iconst (v := (1 : Int32)) hx hb dX3_readInvoice_30 (by decide) ?_
    refine lv_goto (tgt := 35) hx hb dX3_readInvoice_31 (by decide) ?_
    exact w_X3_readInvoice_b35 hX h hI (lv_sub hl [1, 0] rfl)
/-! PayMatch$Invoice.isWaiting()Z  -/
theorem o_X4_isWaiting {a0 : Nat} {r : Int32} {σ σ9 : xS} (h : (f_X4_isWaiting a0).1 σ = some (r, σ9)) : ∃ fs, σ.1 a0 = some (.inl (4, fs)) := xck_of h
theorem w_X4_isWaiting {E : xE} {l : Launch} {a0 : Nat} {r : Int32} {σ σ9 : xS} (h : (f_X4_isWaiting a0).1 σ = some (r, σ9)) : xMet E l yX4_isWaiting (ws_ yX4_isWaiting cX4_isWaiting 1 (some .boolean)) 0 0 [.ref a0] σ σ9 (some (.int r)) := by
  refine xstart (by decide +kernel) ((f_X4_isWaiting a0).2 _ _ _ h) (Nat.le_of_ble_eq_true rfl) ?_
  intro p e s m args below meth c H locs cells slots ls R hX hI hl
  have hx := hX.1.1
  have hb := hX.1.2.1
  have hl : lv_has ls 1 [(0, .ref a0)] := hl
  generalize hσ0 : σ = σ0 at hX hI ⊢
  have h : (f_X4_isWaiting a0).1 σ0 = some (r, σ9) := by rw [← hσ0]; exact h
  clear hσ0
  delta f_X4_isWaiting at h
  have h := (xck_bd h).2
  refine lv_aload_n hx hb dX4_isWaiting_0 rfl (lv_at hl 0 rfl) ?_
  refine xr_gI h hX hI xl_X4_9_4.g dX4_isWaiting_1 (fun v3 h => ?_)
  refine lv_if_eq (tgt := 15) hx hb dX4_isWaiting_4 (by decide) (fun hc => ?_) (fun hc => ?_)
  · have h := xif_t h hc
    refine lv_iconst (v := (1 : Int32)) hx hb dX4_isWaiting_15 (by decide) ?_
    refine lv_goto (tgt := 20) hx hb dX4_isWaiting_16 (by decide) ?_
    exact xr_zreturn h hX hI dX4_isWaiting_20
  · have h := xif_f h hc
    refine lv_aload_n hx hb dX4_isWaiting_7 rfl (lv_at hl 0 rfl) ?_
    refine xr_gI h hX hI xl_X4_9_4.g dX4_isWaiting_8 (fun v4 h => ?_)
    refine lv_iconst (v := (2 : Int32)) hx hb dX4_isWaiting_11 (by decide) ?_
    refine lv_icmp_ne (tgt := 19) hx hb dX4_isWaiting_12 (by decide) (fun hc => ?_) (fun hc => ?_)
    · have h := xif_f h hc
      refine lv_iconst (v := (0 : Int32)) hx hb dX4_isWaiting_19 (by decide) ?_
      exact xr_zreturn h hX hI dX4_isWaiting_20
    · have h := xif_t h hc
      refine lv_iconst (v := (1 : Int32)) hx hb dX4_isWaiting_15 (by decide) ?_
      refine lv_goto (tgt := 20) hx hb dX4_isWaiting_16 (by decide) ?_
      exact xr_zreturn h hX hI dX4_isWaiting_20
/-! PayMatch$State.isTwice(LPayMatch$Invoice;)Z  -/
theorem w_X1_isTwice_b75 {rec4 : Nat → Nat → Int32 → Int32 → xM Int32} {t0 : Int32} {a0 : Nat} {a1 : Nat} {a3 : Int32} {r : Int32} (hX : xX E R p m c cX1_isTwice 5 s args RX1 "isTwice" meth (some .boolean) 5 106 σ0 σ9) (hrec4 : ∀ (a0 : Nat) (a1 : Nat) (a2 : Int32) (a3 : Int32) (σ : xS) (H : Heap) (locs : List Loc) (cells slots : Nat) (ls : Array Slot), (rec4 a0 a1 a2 a3).1 σ = some (r, σ9) → xI E σ0 σ s H locs cells slots → lv_has ls 5 [(0, .ref a0), (1, .ref a1), (2, .int a2), (3, .int a3)] → W p l e R s m args below meth c H locs cells slots (xMQ E below args s σ0 σ9 (some (.int r))) (F0 m 4 ls []))
    (h : (f_X1_isTwice_b75 rec4 t0 a0 a1 a3).1 σ = some (r, σ9)) (hI : xI E σ0 σ s H locs cells slots) (hl : lv_has ls 5 [(0, .ref a0), (1, .ref a1), (3, .int a3)]) : W p l e R s m args below meth c H locs cells slots (xMQ E below args s σ0 σ9 (some (.int r))) (F0 m 75 ls [.int t0]) := by
  have hx := hX.1.1
  have hb := hX.1.2.1
  delta f_X1_isTwice_b75 at h
  refine lv_istore_n (lv' := [(2, .int t0), (0, .ref a0), (1, .ref a1), (3, .int a3)]) hx hb dX1_isTwice_75 rfl hl (Nat.le_of_ble_eq_true rfl) rfl (fun ls hl => ?_)
  refine lv_iinc (k := 3) (lv' := [(3, .int (a3 + (1 : Int32))), (2, .int t0), (0, .ref a0), (1, .ref a1)]) hx hb dX1_isTwice_76 hl rfl (xiinc (by decide)) (Nat.le_of_ble_eq_true rfl) rfl (fun ls hl => ?_)
  refine lv_goto (tgt := 4) hx hb dX1_isTwice_79 (by decide) ?_
  exact hrec4 a0 a1 t0 (a3 + (1 : Int32)) _ _ _ _ _ _ h hI (lv_sub hl [2, 3, 1, 0] rfl)
theorem w_X1_isTwice_b70 {rec4 : Nat → Nat → Int32 → Int32 → xM Int32} {a0 : Nat} {a1 : Nat} {a3 : Int32} {r : Int32} (hX : xX E R p m c cX1_isTwice 5 s args RX1 "isTwice" meth (some .boolean) 5 106 σ0 σ9) (hrec4 : ∀ (a0 : Nat) (a1 : Nat) (a2 : Int32) (a3 : Int32) (σ : xS) (H : Heap) (locs : List Loc) (cells slots : Nat) (ls : Array Slot), (rec4 a0 a1 a2 a3).1 σ = some (r, σ9) → xI E σ0 σ s H locs cells slots → lv_has ls 5 [(0, .ref a0), (1, .ref a1), (2, .int a2), (3, .int a3)] → W p l e R s m args below meth c H locs cells slots (xMQ E below args s σ0 σ9 (some (.int r))) (F0 m 4 ls []))
    (h : (f_X1_isTwice_b70 rec4 a0 a1 a3).1 σ = some (r, σ9)) (hI : xI E σ0 σ s H locs cells slots) (hl : lv_has ls 5 [(0, .ref a0), (1, .ref a1), (3, .int a3)]) : W p l e R s m args below meth c H locs cells slots (xMQ E below args s σ0 σ9 (some (.int r))) (F0 m 70 ls []) := by
  have hx := hX.1.1
  have hb := hX.1.2.1
  delta f_X1_isTwice_b70 at h
  refine lv_iconst (v := (1 : Int32)) hx hb dX1_isTwice_70 (by decide) ?_
  refine lv_goto (tgt := 75) hx hb dX1_isTwice_71 (by decide) ?_
  exact w_X1_isTwice_b75 hX hrec4 h hI (lv_sub hl [0, 1, 2] rfl)
theorem w_X1_isTwice_b74 {rec4 : Nat → Nat → Int32 → Int32 → xM Int32} {a0 : Nat} {a1 : Nat} {a3 : Int32} {r : Int32} (hX : xX E R p m c cX1_isTwice 5 s args RX1 "isTwice" meth (some .boolean) 5 106 σ0 σ9) (hrec4 : ∀ (a0 : Nat) (a1 : Nat) (a2 : Int32) (a3 : Int32) (σ : xS) (H : Heap) (locs : List Loc) (cells slots : Nat) (ls : Array Slot), (rec4 a0 a1 a2 a3).1 σ = some (r, σ9) → xI E σ0 σ s H locs cells slots → lv_has ls 5 [(0, .ref a0), (1, .ref a1), (2, .int a2), (3, .int a3)] → W p l e R s m args below meth c H locs cells slots (xMQ E below args s σ0 σ9 (some (.int r))) (F0 m 4 ls []))
    (h : (f_X1_isTwice_b74 rec4 a0 a1 a3).1 σ = some (r, σ9)) (hI : xI E σ0 σ s H locs cells slots) (hl : lv_has ls 5 [(0, .ref a0), (1, .ref a1), (3, .int a3)]) : W p l e R s m args below meth c H locs cells slots (xMQ E below args s σ0 σ9 (some (.int r))) (F0 m 74 ls []) := by
  have hx := hX.1.1
  have hb := hX.1.2.1
  delta f_X1_isTwice_b74 at h
  refine lv_iconst (v := (0 : Int32)) hx hb dX1_isTwice_74 (by decide) ?_
  exact w_X1_isTwice_b75 hX hrec4 h hI (lv_sub hl [0, 1, 2] rfl)
theorem w_X1_isTwice_b4 {rec4 : Nat → Nat → Int32 → Int32 → xM Int32} {a0 : Nat} {a1 : Nat} {a2 : Int32} {a3 : Int32} {r : Int32} (hX : xX E R p m c cX1_isTwice 5 s args RX1 "isTwice" meth (some .boolean) 5 106 σ0 σ9) (hrec4 : ∀ (a0 : Nat) (a1 : Nat) (a2 : Int32) (a3 : Int32) (σ : xS) (H : Heap) (locs : List Loc) (cells slots : Nat) (ls : Array Slot), (rec4 a0 a1 a2 a3).1 σ = some (r, σ9) → xI E σ0 σ s H locs cells slots → lv_has ls 5 [(0, .ref a0), (1, .ref a1), (2, .int a2), (3, .int a3)] → W p l e R s m args below meth c H locs cells slots (xMQ E below args s σ0 σ9 (some (.int r))) (F0 m 4 ls []))
    (h : (f_X1_isTwice_b4 rec4 a0 a1 a2 a3).1 σ = some (r, σ9)) (hI : xI E σ0 σ s H locs cells slots) (hl : lv_has ls 5 [(0, .ref a0), (1, .ref a1), (2, .int a2), (3, .int a3)]) : W p l e R s m args below meth c H locs cells slots (xMQ E below args s σ0 σ9 (some (.int r))) (F0 m 4 ls []) := by
  have hx := hX.1.1
  have hb := hX.1.2.1
  delta f_X1_isTwice_b4 at h
  refine lv_iload_n hx hb dX1_isTwice_4 rfl (lv_at hl 3 rfl) ?_
  refine lv_aload_n hx hb dX1_isTwice_5 rfl (lv_at hl 1 rfl) ?_
  refine xr_gI h hX hI xl_X1_159_4 dX1_isTwice_6 (fun v11 h => ?_)
  refine lv_icmp_ge (tgt := 82) hx hb dX1_isTwice_9 (by decide) (fun hc => ?_) (fun hc => ?_)
  · have h := xif_t h hc
    refine lv_iload_n hx hb dX1_isTwice_82 rfl (lv_at hl 2 rfl) ?_
    exact xr_zreturn h hX hI dX1_isTwice_83
  · have h := xif_f h hc
    refine lv_aload_n hx hb dX1_isTwice_12 rfl (lv_at hl 0 rfl) ?_
    refine xr_gN h hX hI xl_X1_21_1.g dX1_isTwice_13 (fun v12 h => ?_)
    refine lv_iload_n hx hb dX1_isTwice_16 rfl (lv_at hl 3 rfl) ?_
    refine xr_callV (iv := (fun b => some (.ref b))) (As := [.int a3]) (rest := []) h hX hI (fun _ _ h => w_X2_get h) (fun _ _ h => o_X2_get h) rfl 1 (lw_V q1281 q1250 q1251 q76 q1252) ⟨rfl, xd_X2_get⟩ ⟨rfl, rfl⟩ rfl hl.1 (Nat.le_of_ble_eq_true rfl) dX1_isTwice_17 (fun v13 H locs σ cells slots h hI => ?_)
    refine W.eq (g2 := F0 m 20 ls [.ref v13]) rfl ?_
    refine xr_cks h hX hI xc_X1_109 dX1_isTwice_20 (fun h => ?_)
    refine lv_astore (lv' := [(4, .ref v13), (0, .ref a0), (1, .ref a1), (2, .int a2), (3, .int a3)]) hx hb dX1_isTwice_23 hl (Nat.le_of_ble_eq_true rfl) rfl (fun ls hl => ?_)
    refine lv_iload_n hx hb dX1_isTwice_25 rfl (lv_at hl 3 rfl) ?_
    refine lv_if_ne (tgt := 70) hx hb dX1_isTwice_26 (by decide) (fun hc => ?_) (fun hc => ?_)
    · have h := xif_f h hc
      exact w_X1_isTwice_b70 hX hrec4 h hI (lv_sub hl [1, 2, 4] rfl)
    · have h := xif_t h hc
      refine lv_aload hx hb dX1_isTwice_29 (lv_at hl 0 rfl) ?_
      refine xr_gI h hX hI xl_X1_165_4 dX1_isTwice_31 (fun v14 h => ?_)
      refine lv_aload_n hx hb dX1_isTwice_34 rfl (lv_at hl 2 rfl) ?_
      refine xr_gI h hX hI xl_X1_165_4 dX1_isTwice_35 (fun v15 h => ?_)
      refine lv_icmp_ne (tgt := 74) hx hb dX1_isTwice_38 (by decide) (fun hc => ?_) (fun hc => ?_)
      · have h := xif_f h hc
        exact w_X1_isTwice_b74 hX hrec4 h hI (lv_sub hl [1, 2, 4] rfl)
      · have h := xif_t h hc
        refine lv_aload hx hb dX1_isTwice_41 (lv_at hl 0 rfl) ?_
        refine xr_gI h hX hI xl_X1_168_4.g dX1_isTwice_43 (fun v16 h => ?_)
        refine lv_iconst (v := (4 : Int32)) hx hb dX1_isTwice_46 (by decide) ?_
        refine lv_icmp_eq (tgt := 74) hx hb dX1_isTwice_47 (by decide) (fun hc => ?_) (fun hc => ?_)
        · have h := xif_t h hc
          exact w_X1_isTwice_b74 hX hrec4 h hI (lv_sub hl [1, 2, 4] rfl)
        · have h := xif_f h hc
          refine lv_aload_n hx hb dX1_isTwice_50 rfl (lv_at hl 1 rfl) ?_
          refine lv_aload hx hb dX1_isTwice_51 (lv_at hl 0 rfl) ?_
          refine xr_gI h hX hI xl_X1_108_4 dX1_isTwice_53 (fun v17 h => ?_)
          refine xr_callV (iv := (fun b => some (.ref b))) (As := [.int v17]) (rest := []) h hX hI (fun _ _ h => w_X1_supplierOf h) (fun _ _ h => o_X1_supplierOf h) rfl 1 (lw_V q1496 q1435 q1436 q75 q1437) ⟨rfl, xd_X1_supplierOf⟩ ⟨rfl, rfl⟩ rfl hl.1 (Nat.le_of_ble_eq_true rfl) dX1_isTwice_56 (fun v18 H locs σ cells slots h hI => ?_)
          refine W.eq (g2 := F0 m 59 ls [.ref v18]) rfl ?_
          refine lv_aload_n hx hb dX1_isTwice_59 rfl (lv_at hl 1 rfl) ?_
          refine lv_aload_n hx hb dX1_isTwice_60 rfl (lv_at hl 2 rfl) ?_
          refine xr_gI h hX hI xl_X1_108_4 dX1_isTwice_61 (fun v19 h => ?_)
          refine xr_callV (iv := (fun b => some (.ref b))) (As := [.int v19]) (rest := [.ref v18]) h hX hI (fun _ _ h => w_X1_supplierOf h) (fun _ _ h => o_X1_supplierOf h) rfl 1 (lw_V q1496 q1435 q1436 q75 q1437) ⟨rfl, xd_X1_supplierOf⟩ ⟨rfl, rfl⟩ rfl hl.1 (Nat.le_of_ble_eq_true rfl) dX1_isTwice_64 (fun v20 H locs σ cells slots h hI => ?_)
          refine W.eq (g2 := F0 m 67 ls [.ref v20, .ref v18]) rfl ?_
          refine xr_acmp_ne (tgt := 74) h hx hb dX1_isTwice_67 (by decide) (fun h => ?_) (fun h => ?_)
          · exact w_X1_isTwice_b74 hX hrec4 h hI (lv_sub hl [1, 2, 4] rfl)
          · exact w_X1_isTwice_b70 hX hrec4 h hI (lv_sub hl [1, 2, 4] rfl)
theorem w_X1_isTwice_L4 {r : Int32} (hX : xX E R p m c cX1_isTwice 5 s args RX1 "isTwice" meth (some .boolean) 5 106 σ0 σ9) : ∀ (n : Nat) (a0 : Nat) (a1 : Nat) (a2 : Int32) (a3 : Int32) (σ : xS) (H : Heap) (locs : List Loc) (cells slots : Nat) (ls : Array Slot), (f_X1_isTwice_L4 n a0 a1 a2 a3).1 σ = some (r, σ9) → xI E σ0 σ s H locs cells slots → lv_has ls 5 [(0, .ref a0), (1, .ref a1), (2, .int a2), (3, .int a3)] → W p l e R s m args below meth c H locs cells slots (xMQ E below args s σ0 σ9 (some (.int r))) (F0 m 4 ls []) := by
  intro n
  induction n with
  | zero =>
    intro a0 a1 a2 a3 σ H locs cells slots ls h
    exact xr_no h
  | succ n ih =>
    intro a0 a1 a2 a3 σ H locs cells slots ls h hI hl
    exact w_X1_isTwice_b4 hX ih h hI hl
theorem o_X1_isTwice {a0 : Nat} {a1 : Nat} {r : Int32} {σ σ9 : xS} (h : (f_X1_isTwice a0 a1).1 σ = some (r, σ9)) : ∃ fs, σ.1 a0 = some (.inl (1, fs)) := xck_of h
theorem w_X1_isTwice {E : xE} {l : Launch} {a0 : Nat} {a1 : Nat} {r : Int32} {σ σ9 : xS} (h : (f_X1_isTwice a0 a1).1 σ = some (r, σ9)) : xMet E l yX1_isTwice (ws_ yX1_isTwice cX1_isTwice 5 (some .boolean)) 5 106 [.ref a0, .ref a1] σ σ9 (some (.int r)) := by
  refine xstart (by decide +kernel) ((f_X1_isTwice a0 a1).2 _ _ _ h) (Nat.le_of_ble_eq_true rfl) ?_
  intro p e s m args below meth c H locs cells slots ls R hX hI hl
  have hx := hX.1.1
  have hb := hX.1.2.1
  have hl : lv_has ls 5 [(0, .ref a0), (1, .ref a1)] := hl
  generalize hσ0 : σ = σ0 at hX hI ⊢
  have h : (f_X1_isTwice a0 a1).1 σ0 = some (r, σ9) := by rw [← hσ0]; exact h
  clear hσ0
  delta f_X1_isTwice at h
  have h := (xck_bd h).2
  refine lv_iconst (v := (0 : Int32)) hx hb dX1_isTwice_0 (by decide) ?_
  refine lv_istore_n (lv' := [(2, .int (0 : Int32)), (0, .ref a0), (1, .ref a1)]) hx hb dX1_isTwice_1 rfl hl (Nat.le_of_ble_eq_true rfl) rfl (fun ls hl => ?_)
  refine lv_iconst (v := (0 : Int32)) hx hb dX1_isTwice_2 (by decide) ?_
  refine lv_istore_n (lv' := [(3, .int (0 : Int32)), (2, .int (0 : Int32)), (0, .ref a0), (1, .ref a1)]) hx hb dX1_isTwice_3 rfl hl (Nat.le_of_ble_eq_true rfl) rfl (fun ls hl => ?_)
  exact w_X1_isTwice_L4 hX xFU a0 a1 (0 : Int32) (0 : Int32) _ _ _ _ _ _ h hI (lv_sub hl [2, 3, 1, 0] rfl)
/-! PayMatch$State.lineOf(LPayMatch$Invoice;LPayMatch$Entry;)LPayMatch$Line;  -/
theorem o_X1_lineOf {a0 : Nat} {a1 : Nat} {a2 : Nat} {r : Nat} {σ σ9 : xS} (h : (f_X1_lineOf a0 a1 a2).1 σ = some (r, σ9)) : ∃ fs, σ.1 a0 = some (.inl (1, fs)) := xck_of h
theorem w_X1_lineOf {E : xE} {l : Launch} {a0 : Nat} {a1 : Nat} {a2 : Nat} {r : Nat} {σ σ9 : xS} (h : (f_X1_lineOf a0 a1 a2).1 σ = some (r, σ9)) : xMet E l yX1_lineOf (ws_ yX1_lineOf cX1_lineOf 3 (some (.object "PayMatch$Line"))) 5 107 [.ref a0, .ref a1, .ref a2] σ σ9 (some (.ref r)) := by
  refine xstart (by decide +kernel) ((f_X1_lineOf a0 a1 a2).2 _ _ _ h) (Nat.le_of_ble_eq_true rfl) ?_
  intro p e s m args below meth c H locs cells slots ls R hX hI hl
  have hx := hX.1.1
  have hb := hX.1.2.1
  have hl : lv_has ls 3 [(0, .ref a0), (1, .ref a1), (2, .ref a2)] := hl
  generalize hσ0 : σ = σ0 at hX hI ⊢
  have h : (f_X1_lineOf a0 a1 a2).1 σ0 = some (r, σ9) := by rw [← hσ0]; exact h
  clear hσ0
  delta f_X1_lineOf at h
  have h := (xck_bd h).2
  refine lv_aload_n hx hb dX1_lineOf_0 rfl (lv_at hl 0 rfl) ?_
  refine lv_aload_n hx hb dX1_lineOf_1 rfl (lv_at hl 1 rfl) ?_
  refine xr_gI h hX hI xl_X1_108_4 dX1_lineOf_2 (fun v4 h => ?_)
  refine lv_aload_n hx hb dX1_lineOf_5 rfl (lv_at hl 2 rfl) ?_
  refine xr_gI h hX hI xl_X1_113_9 dX1_lineOf_6 (fun v5 h => ?_)
  refine xr_callV (iv := (fun b => some (.ref b))) (As := [.int v4, .int v5]) (rest := []) h hX hI (fun _ _ h => w_X1_line h) (fun _ _ h => o_X1_line h) rfl 2 (lw_V q1448 q1324 q1325 q75 q1326) ⟨rfl, xd_X1_line⟩ ⟨rfl, rfl⟩ rfl hl.1 (Nat.le_of_ble_eq_true rfl) dX1_lineOf_9 (fun v6 H locs σ cells slots h hI => ?_)
  refine W.eq (g2 := F0 m 12 ls [.ref v6]) rfl ?_
  exact xr_areturn h hX hI (Or.inl ⟨_, rfl⟩) dX1_lineOf_12
/-! PayMatch$Supplier.isTooDear(IILPayMatch$Line;)Z  -/
theorem o_X7_isTooDear {a0 : Nat} {a1 : Int32} {a2 : Int32} {a3 : Nat} {r : Int32} {σ σ9 : xS} (h : (f_X7_isTooDear a0 a1 a2 a3).1 σ = some (r, σ9)) : ∃ fs, σ.1 a0 = some (.inl (7, fs)) := xck_of h
theorem w_X7_isTooDear {E : xE} {l : Launch} {a0 : Nat} {a1 : Int32} {a2 : Int32} {a3 : Nat} {r : Int32} {σ σ9 : xS} (h : (f_X7_isTooDear a0 a1 a2 a3).1 σ = some (r, σ9)) : xMet E l yX7_isTooDear (ws_ yX7_isTooDear cX7_isTooDear 5 (some .boolean)) 0 0 [.ref a0, .int a1, .int a2, .ref a3] σ σ9 (some (.int r)) := by
  refine xstart (by decide +kernel) ((f_X7_isTooDear a0 a1 a2 a3).2 _ _ _ h) (Nat.le_of_ble_eq_true rfl) ?_
  intro p e s m args below meth c H locs cells slots ls R hX hI hl
  have hx := hX.1.1
  have hb := hX.1.2.1
  have hl : lv_has ls 5 [(0, .ref a0), (1, .int a1), (2, .int a2), (3, .ref a3)] := hl
  generalize hσ0 : σ = σ0 at hX hI ⊢
  have h : (f_X7_isTooDear a0 a1 a2 a3).1 σ0 = some (r, σ9) := by rw [← hσ0]; exact h
  clear hσ0
  delta f_X7_isTooDear at h
  have h := (xck_bd h).2
  refine lv_iload_n hx hb dX7_isTooDear_0 rfl (lv_at hl 1 rfl) ?_
  refine lv_aload_n hx hb dX7_isTooDear_1 rfl (lv_at hl 3 rfl) ?_
  refine xr_gI h hX hI xl_X7_46_5.g dX7_isTooDear_2 (fun v5 h => ?_)
  refine lv_isub hx hb dX7_isTooDear_5 ?_
  refine lv_istore (lv' := [(4, .int (a1 - v5)), (0, .ref a0), (1, .int a1), (2, .int a2), (3, .ref a3)]) hx hb dX7_isTooDear_6 hl (Nat.le_of_ble_eq_true rfl) rfl (fun ls hl => ?_)
  refine lv_iload hx hb dX7_isTooDear_8 (lv_at hl 0 rfl) ?_
  refine lv_if_le (tgt := 49) hx hb dX7_isTooDear_10 (by decide) (fun hc => ?_) (fun hc => ?_)
  · have h := xif_t h hc
    refine lv_iconst (v := (0 : Int32)) hx hb dX7_isTooDear_49 (by decide) ?_
    exact xr_zreturn h hX hI dX7_isTooDear_50
  · have h := xif_f h hc
    refine lv_iload hx hb dX7_isTooDear_13 (lv_at hl 0 rfl) ?_
    refine lv_i2d hx hb dX7_isTooDear_15 ?_
    refine lv_ldc2d (v := (4636737291354636288 : UInt64)) hx hb hX.1.2.2.2.1 (hX.1.2.2.2.2 _ q1443) dX7_isTooDear_16 ?_
    refine xr_dmul h hx hb dX7_isTooDear_19 (fun h => ?_)
    refine lv_aload_n hx hb dX7_isTooDear_20 rfl (lv_at hl 4 rfl) ?_
    refine xr_gI h hX hI xl_X7_46_5.g dX7_isTooDear_21 (fun v6 h => ?_)
    refine lv_i2d hx hb dX7_isTooDear_24 ?_
    refine xr_ddiv h hx hb dX7_isTooDear_25 (fun h => ?_)
    refine lv_aload_n hx hb dX7_isTooDear_26 rfl (lv_at hl 1 rfl) ?_
    refine xr_gD h hX hI xl_X7_18_7.g dX7_isTooDear_27 (fun v7 h => ?_)
    refine lv_dcmp hx hb dX7_isTooDear_30 ?_
    refine lv_if_le (tgt := 49) hx hb dX7_isTooDear_31 (by decide) (fun hc => ?_) (fun hc => ?_)
    · have h := xif_t h hc
      refine lv_iconst (v := (0 : Int32)) hx hb dX7_isTooDear_49 (by decide) ?_
      exact xr_zreturn h hX hI dX7_isTooDear_50
    · have h := xif_f h hc
      refine lv_iload hx hb dX7_isTooDear_34 (lv_at hl 0 rfl) ?_
      refine lv_iload_n hx hb dX7_isTooDear_36 rfl (lv_at hl 3 rfl) ?_
      refine lv_imul hx hb dX7_isTooDear_37 ?_
      refine lv_aload_n hx hb dX7_isTooDear_38 rfl (lv_at hl 1 rfl) ?_
      refine xr_gI h hX hI xl_X7_25_7.g dX7_isTooDear_39 (fun v8 h => ?_)
      refine lv_icmp_le (tgt := 49) hx hb dX7_isTooDear_42 (by decide) (fun hc => ?_) (fun hc => ?_)
      · have h := xif_t h hc
        refine lv_iconst (v := (0 : Int32)) hx hb dX7_isTooDear_49 (by decide) ?_
        exact xr_zreturn h hX hI dX7_isTooDear_50
      · have h := xif_f h hc
        refine lv_iconst (v := (1 : Int32)) hx hb dX7_isTooDear_45 (by decide) ?_
        refine lv_goto (tgt := 50) hx hb dX7_isTooDear_46 (by decide) ?_
        exact xr_zreturn h hX hI dX7_isTooDear_50
/-! PayMatch$State.left(II)I  -/
theorem o_X1_left {a0 : Nat} {a1 : Int32} {a2 : Int32} {r : Int32} {σ σ9 : xS} (h : (f_X1_left a0 a1 a2).1 σ = some (r, σ9)) : ∃ fs, σ.1 a0 = some (.inl (1, fs)) := xck_of h
theorem w_X1_left {E : xE} {l : Launch} {a0 : Nat} {a1 : Int32} {a2 : Int32} {r : Int32} {σ σ9 : xS} (h : (f_X1_left a0 a1 a2).1 σ = some (r, σ9)) : xMet E l yX1_left (ws_ yX1_left cX1_left 3 (some .int)) 5 107 [.ref a0, .int a1, .int a2] σ σ9 (some (.int r)) := by
  refine xstart (by decide +kernel) ((f_X1_left a0 a1 a2).2 _ _ _ h) (Nat.le_of_ble_eq_true rfl) ?_
  intro p e s m args below meth c H locs cells slots ls R hX hI hl
  have hx := hX.1.1
  have hb := hX.1.2.1
  have hl : lv_has ls 3 [(0, .ref a0), (1, .int a1), (2, .int a2)] := hl
  generalize hσ0 : σ = σ0 at hX hI ⊢
  have h : (f_X1_left a0 a1 a2).1 σ0 = some (r, σ9) := by rw [← hσ0]; exact h
  clear hσ0
  delta f_X1_left at h
  have h := (xck_bd h).2
  refine lv_aload_n hx hb dX1_left_0 rfl (lv_at hl 0 rfl) ?_
  refine lv_iload_n hx hb dX1_left_1 rfl (lv_at hl 1 rfl) ?_
  refine xr_callV (iv := (fun b => some (.ref b))) (As := [.int a1]) (rest := []) h hX hI (fun _ _ h => w_X1_supplierOf h) (fun _ _ h => o_X1_supplierOf h) rfl 1 (lw_V q1496 q1435 q1436 q75 q1437) ⟨rfl, xd_X1_supplierOf⟩ ⟨rfl, rfl⟩ rfl hl.1 (Nat.le_of_ble_eq_true rfl) dX1_left_2 (fun v7 H locs σ cells slots h hI => ?_)
  refine W.eq (g2 := F0 m 5 ls [.ref v7]) rfl ?_
  refine lv_aload_n hx hb dX1_left_5 rfl (lv_at hl 0 rfl) ?_
  refine lv_iload_n hx hb dX1_left_6 rfl (lv_at hl 1 rfl) ?_
  refine lv_iload_n hx hb dX1_left_7 rfl (lv_at hl 2 rfl) ?_
  refine xr_callV (iv := (fun b => some (.ref b))) (As := [.int a1, .int a2]) (rest := [.ref v7]) h hX hI (fun _ _ h => w_X1_line h) (fun _ _ h => o_X1_line h) rfl 2 (lw_V q1448 q1324 q1325 q75 q1326) ⟨rfl, xd_X1_line⟩ ⟨rfl, rfl⟩ rfl hl.1 (Nat.le_of_ble_eq_true rfl) dX1_left_8 (fun v8 H locs σ cells slots h hI => ?_)
  refine W.eq (g2 := F0 m 11 ls [.ref v8, .ref v7]) rfl ?_
  refine xr_gI h hX hI xl_X1_121_5.g dX1_left_11 (fun v9 h => ?_)
  refine xr_callV (iv := (fun b => some (.int b))) (As := [.int v9]) (rest := []) h hX hI (fun _ _ h => w_X7_with h) (fun _ _ h => o_X7_with h) rfl 1 (lw_V q1501 q1440 q1441 q108 q1442) ⟨rfl, xd_X7_with⟩ ⟨rfl, rfl⟩ rfl hl.1 (Nat.le_of_ble_eq_true rfl) dX1_left_14 (fun v10 H locs σ cells slots h hI => ?_)
  refine W.eq (g2 := F0 m 17 ls [.int v10]) rfl ?_
  refine lv_aload_n hx hb dX1_left_17 rfl (lv_at hl 0 rfl) ?_
  refine lv_iload_n hx hb dX1_left_18 rfl (lv_at hl 1 rfl) ?_
  refine lv_iload_n hx hb dX1_left_19 rfl (lv_at hl 2 rfl) ?_
  refine xr_callV (iv := (fun b => some (.ref b))) (As := [.int a1, .int a2]) (rest := [.int v10]) h hX hI (fun _ _ h => w_X1_line h) (fun _ _ h => o_X1_line h) rfl 2 (lw_V q1448 q1324 q1325 q75 q1326) ⟨rfl, xd_X1_line⟩ ⟨rfl, rfl⟩ rfl hl.1 (Nat.le_of_ble_eq_true rfl) dX1_left_20 (fun v11 H locs σ cells slots h hI => ?_)
  refine W.eq (g2 := F0 m 23 ls [.ref v11, .int v10]) rfl ?_
  refine xr_gI h hX hI xl_X1_148_5.g dX1_left_23 (fun v12 h => ?_)
  refine lv_isub hx hb dX1_left_26 ?_
  exact xr_ireturn h hX hI dX1_left_27
/-! PayMatch$Invoice.isBilled()Z  -/
theorem o_X4_isBilled {a0 : Nat} {r : Int32} {σ σ9 : xS} (h : (f_X4_isBilled a0).1 σ = some (r, σ9)) : ∃ fs, σ.1 a0 = some (.inl (4, fs)) := xck_of h
theorem w_X4_isBilled {E : xE} {l : Launch} {a0 : Nat} {r : Int32} {σ σ9 : xS} (h : (f_X4_isBilled a0).1 σ = some (r, σ9)) : xMet E l yX4_isBilled (ws_ yX4_isBilled cX4_isBilled 1 (some .boolean)) 0 0 [.ref a0] σ σ9 (some (.int r)) := by
  refine xstart (by decide +kernel) ((f_X4_isBilled a0).2 _ _ _ h) (Nat.le_of_ble_eq_true rfl) ?_
  intro p e s m args below meth c H locs cells slots ls R hX hI hl
  have hx := hX.1.1
  have hb := hX.1.2.1
  have hl : lv_has ls 1 [(0, .ref a0)] := hl
  generalize hσ0 : σ = σ0 at hX hI ⊢
  have h : (f_X4_isBilled a0).1 σ0 = some (r, σ9) := by rw [← hσ0]; exact h
  clear hσ0
  delta f_X4_isBilled at h
  have h := (xck_bd h).2
  refine lv_aload_n hx hb dX4_isBilled_0 rfl (lv_at hl 0 rfl) ?_
  refine xr_gI h hX hI xl_X4_9_4.g dX4_isBilled_1 (fun v3 h => ?_)
  refine lv_iconst (v := (1 : Int32)) hx hb dX4_isBilled_4 (by decide) ?_
  refine lv_icmp_eq (tgt := 16) hx hb dX4_isBilled_5 (by decide) (fun hc => ?_) (fun hc => ?_)
  · have h := xif_t h hc
    refine lv_iconst (v := (1 : Int32)) hx hb dX4_isBilled_16 (by decide) ?_
    refine lv_goto (tgt := 21) hx hb dX4_isBilled_17 (by decide) ?_
    exact xr_zreturn h hX hI dX4_isBilled_21
  · have h := xif_f h hc
    refine lv_aload_n hx hb dX4_isBilled_8 rfl (lv_at hl 0 rfl) ?_
    refine xr_gI h hX hI xl_X4_9_4.g dX4_isBilled_9 (fun v4 h => ?_)
    refine lv_iconst (v := (3 : Int32)) hx hb dX4_isBilled_12 (by decide) ?_
    refine lv_icmp_ne (tgt := 20) hx hb dX4_isBilled_13 (by decide) (fun hc => ?_) (fun hc => ?_)
    · have h := xif_f h hc
      refine lv_iconst (v := (0 : Int32)) hx hb dX4_isBilled_20 (by decide) ?_
      exact xr_zreturn h hX hI dX4_isBilled_21
    · have h := xif_t h hc
      refine lv_iconst (v := (1 : Int32)) hx hb dX4_isBilled_16 (by decide) ?_
      refine lv_goto (tgt := 21) hx hb dX4_isBilled_17 (by decide) ?_
      exact xr_zreturn h hX hI dX4_isBilled_21
/-! PayMatch$State.leftFor(LPayMatch$Invoice;LPayMatch$Entry;)I  -/
theorem w_X1_leftFor_b27 {t0 : Int32} {t1 : Int32} {r : Int32} (hX : xX E R p m c cX1_leftFor 3 s args RX1 "leftFor" meth (some .int) 6 129 σ0 σ9)
    (h : (f_X1_leftFor_b27 t0 t1).1 σ = some (r, σ9)) (hI : xI E σ0 σ s H locs cells slots) (hl : lv_has ls 3 []) : W p l e R s m args below meth c H locs cells slots (xMQ E below args s σ0 σ9 (some (.int r))) (F0 m 27 ls [.int t1, .int t0]) := by
  have hx := hX.1.1
  have hb := hX.1.2.1
  delta f_X1_leftFor_b27 at h
  refine lv_iadd hx hb dX1_leftFor_27 ?_
  exact xr_ireturn h hX hI dX1_leftFor_28
theorem o_X1_leftFor {a0 : Nat} {a1 : Nat} {a2 : Nat} {r : Int32} {σ σ9 : xS} (h : (f_X1_leftFor a0 a1 a2).1 σ = some (r, σ9)) : ∃ fs, σ.1 a0 = some (.inl (1, fs)) := xck_of h
theorem w_X1_leftFor {E : xE} {l : Launch} {a0 : Nat} {a1 : Nat} {a2 : Nat} {r : Int32} {σ σ9 : xS} (h : (f_X1_leftFor a0 a1 a2).1 σ = some (r, σ9)) : xMet E l yX1_leftFor (ws_ yX1_leftFor cX1_leftFor 3 (some .int)) 6 129 [.ref a0, .ref a1, .ref a2] σ σ9 (some (.int r)) := by
  refine xstart (by decide +kernel) ((f_X1_leftFor a0 a1 a2).2 _ _ _ h) (Nat.le_of_ble_eq_true rfl) ?_
  intro p e s m args below meth c H locs cells slots ls R hX hI hl
  have hx := hX.1.1
  have hb := hX.1.2.1
  have hl : lv_has ls 3 [(0, .ref a0), (1, .ref a1), (2, .ref a2)] := hl
  generalize hσ0 : σ = σ0 at hX hI ⊢
  have h : (f_X1_leftFor a0 a1 a2).1 σ0 = some (r, σ9) := by rw [← hσ0]; exact h
  clear hσ0
  delta f_X1_leftFor at h
  have h := (xck_bd h).2
  refine lv_aload_n hx hb dX1_leftFor_0 rfl (lv_at hl 0 rfl) ?_
  refine lv_aload_n hx hb dX1_leftFor_1 rfl (lv_at hl 1 rfl) ?_
  refine xr_gI h hX hI xl_X1_108_4 dX1_leftFor_2 (fun v6 h => ?_)
  refine lv_aload_n hx hb dX1_leftFor_5 rfl (lv_at hl 2 rfl) ?_
  refine xr_gI h hX hI xl_X1_113_9 dX1_leftFor_6 (fun v7 h => ?_)
  refine xr_callV (iv := (fun b => some (.int b))) (As := [.int v6, .int v7]) (rest := []) h hX hI (fun _ _ h => w_X1_left h) (fun _ _ h => o_X1_left h) rfl 2 (lw_V q1723 q1724 q1725 q75 q1726) ⟨rfl, xd_X1_left⟩ ⟨rfl, rfl⟩ rfl hl.1 (Nat.le_of_ble_eq_true rfl) dX1_leftFor_9 (fun v8 H locs σ cells slots h hI => ?_)
  refine W.eq (g2 := F0 m 12 ls [.int v8]) rfl ?_
  refine lv_aload_n hx hb dX1_leftFor_12 rfl (lv_at hl 1 rfl) ?_
  refine xr_callV (iv := (fun b => some (.int b))) (As := []) (rest := [.int v8]) h hX hI (fun _ _ h => w_X4_isBilled h) (fun _ _ h => o_X4_isBilled h) rfl 0 (lw_V q1727 q1728 q1729 q105 q1730) ⟨rfl, xd_X4_isBilled⟩ ⟨rfl, rfl⟩ rfl hl.1 (Nat.le_of_ble_eq_true rfl) dX1_leftFor_13 (fun v9 H locs σ cells slots h hI => ?_)
  refine W.eq (g2 := F0 m 16 ls [.int v9, .int v8]) rfl ?_
  refine lv_if_eq (tgt := 26) hx hb dX1_leftFor_16 (by decide) (fun hc => ?_) (fun hc => ?_)
  · have h := xif_t h hc
    refine lv_iconst (v := (0 : Int32)) hx hb dX1_leftFor_26 (by decide) ?_
    exact w_X1_leftFor_b27 hX h hI (lv_sub hl [] rfl)
  · have h := xif_f h hc
    refine lv_aload_n hx hb dX1_leftFor_19 rfl (lv_at hl 2 rfl) ?_
    refine xr_gI h hX hI xl_X1_178_9 dX1_leftFor_20 (fun v10 h => ?_)
    refine lv_goto (tgt := 27) hx hb dX1_leftFor_23 (by decide) ?_
    exact w_X1_leftFor_b27 hX h hI (lv_sub hl [] rfl)
/-! PayMatch$State.against(LPayMatch$Invoice;)I  -/
theorem w_X1_against_b150 {rec81 : Nat → Nat → Nat → Int32 → Nat → Int32 → Int32 → xM Int32} {t0 : Int32} {t1 : Int32} {a0 : Nat} {a1 : Nat} {a2 : Nat} {a4 : Nat} {a5 : Int32} {a6 : Int32} {r : Int32} (hX : xX E R p m c cX1_against 8 s args RX1 "against" meth (some .int) 7 151 σ0 σ9) (hrec81 : ∀ (a0 : Nat) (a1 : Nat) (a2 : Nat) (a3 : Int32) (a4 : Nat) (a5 : Int32) (a6 : Int32) (σ : xS) (H : Heap) (locs : List Loc) (cells slots : Nat) (ls : Array Slot), (rec81 a0 a1 a2 a3 a4 a5 a6).1 σ = some (r, σ9) → xI E σ0 σ s H locs cells slots → lv_has ls 8 [(0, .ref a0), (1, .ref a1), (2, .ref a2), (3, .int a3), (4, .ref a4), (5, .int a5), (6, .int a6)] → W p l e R s m args below meth c H locs cells slots (xMQ E below args s σ0 σ9 (some (.int r))) (F0 m 81 ls []))
    (h : (f_X1_against_b150 rec81 t0 t1 a0 a1 a2 a4 a5 a6).1 σ = some (r, σ9)) (hI : xI E σ0 σ s H locs cells slots) (hl : lv_has ls 8 [(0, .ref a0), (1, .ref a1), (2, .ref a2), (4, .ref a4), (5, .int a5), (6, .int a6)]) : W p l e R s m args below meth c H locs cells slots (xMQ E below args s σ0 σ9 (some (.int r))) (F0 m 150 ls [.int t1, .int t0]) := by
  have hx := hX.1.1
  have hb := hX.1.2.1
  delta f_X1_against_b150 at h
  refine lv_ior hx hb dX1_against_150 ?_
  refine lv_istore_n (lv' := [(3, .int (t0 ||| t1)), (0, .ref a0), (1, .ref a1), (2, .ref a2), (4, .ref a4), (5, .int a5), (6, .int a6)]) hx hb dX1_against_151 rfl hl (Nat.le_of_ble_eq_true rfl) rfl (fun ls hl => ?_)
  refine lv_iinc (k := 6) (lv' := [(6, .int (a6 + (1 : Int32))), (3, .int (t0 ||| t1)), (0, .ref a0), (1, .ref a1), (2, .ref a2), (4, .ref a4), (5, .int a5)]) hx hb dX1_against_152 hl rfl (xiinc (by decide)) (Nat.le_of_ble_eq_true rfl) rfl (fun ls hl => ?_)
  refine lv_goto (tgt := 81) hx hb dX1_against_155 (by decide) ?_
  exact hrec81 a0 a1 a2 (t0 ||| t1) a4 a5 (a6 + (1 : Int32)) _ _ _ _ _ _ h hI (lv_sub hl [2, 3, 4, 1, 5, 6, 0] rfl)
theorem w_X1_against_b126 {rec81 : Nat → Nat → Nat → Int32 → Nat → Int32 → Int32 → xM Int32} {t0 : Int32} {t1 : Int32} {a0 : Nat} {a1 : Nat} {a2 : Nat} {a4 : Nat} {a5 : Int32} {a6 : Int32} {a7 : Nat} {r : Int32} (hX : xX E R p m c cX1_against 8 s args RX1 "against" meth (some .int) 7 151 σ0 σ9) (hrec81 : ∀ (a0 : Nat) (a1 : Nat) (a2 : Nat) (a3 : Int32) (a4 : Nat) (a5 : Int32) (a6 : Int32) (σ : xS) (H : Heap) (locs : List Loc) (cells slots : Nat) (ls : Array Slot), (rec81 a0 a1 a2 a3 a4 a5 a6).1 σ = some (r, σ9) → xI E σ0 σ s H locs cells slots → lv_has ls 8 [(0, .ref a0), (1, .ref a1), (2, .ref a2), (3, .int a3), (4, .ref a4), (5, .int a5), (6, .int a6)] → W p l e R s m args below meth c H locs cells slots (xMQ E below args s σ0 σ9 (some (.int r))) (F0 m 81 ls []))
    (h : (f_X1_against_b126 rec81 t0 t1 a0 a1 a2 a4 a5 a6 a7).1 σ = some (r, σ9)) (hI : xI E σ0 σ s H locs cells slots) (hl : lv_has ls 8 [(0, .ref a0), (1, .ref a1), (2, .ref a2), (4, .ref a4), (5, .int a5), (6, .int a6), (7, .ref a7)]) : W p l e R s m args below meth c H locs cells slots (xMQ E below args s σ0 σ9 (some (.int r))) (F0 m 126 ls [.int t1, .int t0]) := by
  have hx := hX.1.1
  have hb := hX.1.2.1
  delta f_X1_against_b126 at h
  refine lv_ior hx hb dX1_against_126 ?_
  refine lv_istore_n (lv' := [(3, .int (t0 ||| t1)), (0, .ref a0), (1, .ref a1), (2, .ref a2), (4, .ref a4), (5, .int a5), (6, .int a6), (7, .ref a7)]) hx hb dX1_against_127 rfl hl (Nat.le_of_ble_eq_true rfl) rfl (fun ls hl => ?_)
  refine lv_iload_n hx hb dX1_against_128 rfl (lv_at hl 0 rfl) ?_
  refine lv_aload hx hb dX1_against_129 (lv_at hl 7 rfl) ?_
  refine xr_gI h hX hI xl_X1_178_9 dX1_against_131 (fun v30 h => ?_)
  refine lv_aload_n hx hb dX1_against_134 rfl (lv_at hl 1 rfl) ?_
  refine lv_aload_n hx hb dX1_against_135 rfl (lv_at hl 2 rfl) ?_
  refine lv_aload hx hb dX1_against_136 (lv_at hl 7 rfl) ?_
  refine xr_callV (iv := (fun b => some (.int b))) (As := [.ref a1, .ref a7]) (rest := [.int v30, .int (t0 ||| t1)]) h hX hI (fun _ _ h => w_X1_leftFor h) (fun _ _ h => o_X1_leftFor h) rfl 2 (lw_V q1719 q1721 qs25 q75 q1722) ⟨rfl, xd_X1_leftFor⟩ ⟨rfl, rfl⟩ rfl hl.1 (Nat.le_of_ble_eq_true rfl) dX1_against_138 (fun v31 H locs σ cells slots h hI => ?_)
  refine W.eq (g2 := F0 m 141 ls [.int v31, .int v30, .int (t0 ||| t1)]) rfl ?_
  refine lv_icmp_le (tgt := 149) hx hb dX1_against_141 (by decide) (fun hc => ?_) (fun hc => ?_)
  · have h := xif_t h hc
    refine lv_iconst (v := (0 : Int32)) hx hb dX1_against_149 (by decide) ?_
    exact w_X1_against_b150 hX hrec81 h hI (lv_sub hl [1, 2, 3, 4, 5, 6] rfl)
  · have h := xif_f h hc
    refine lv_bipush (v := (16 : Int32)) hx hb dX1_against_144 (by decide) ?_
    refine lv_goto (tgt := 150) hx hb dX1_against_146 (by decide) ?_
    exact w_X1_against_b150 hX hrec81 h hI (lv_sub hl [1, 2, 3, 4, 5, 6] rfl)
theorem w_X1_against_b81 {rec81 : Nat → Nat → Nat → Int32 → Nat → Int32 → Int32 → xM Int32} {a0 : Nat} {a1 : Nat} {a2 : Nat} {a3 : Int32} {a4 : Nat} {a5 : Int32} {a6 : Int32} {r : Int32} (hX : xX E R p m c cX1_against 8 s args RX1 "against" meth (some .int) 7 151 σ0 σ9) (hrec81 : ∀ (a0 : Nat) (a1 : Nat) (a2 : Nat) (a3 : Int32) (a4 : Nat) (a5 : Int32) (a6 : Int32) (σ : xS) (H : Heap) (locs : List Loc) (cells slots : Nat) (ls : Array Slot), (rec81 a0 a1 a2 a3 a4 a5 a6).1 σ = some (r, σ9) → xI E σ0 σ s H locs cells slots → lv_has ls 8 [(0, .ref a0), (1, .ref a1), (2, .ref a2), (3, .int a3), (4, .ref a4), (5, .int a5), (6, .int a6)] → W p l e R s m args below meth c H locs cells slots (xMQ E below args s σ0 σ9 (some (.int r))) (F0 m 81 ls []))
    (h : (f_X1_against_b81 rec81 a0 a1 a2 a3 a4 a5 a6).1 σ = some (r, σ9)) (hI : xI E σ0 σ s H locs cells slots) (hl : lv_has ls 8 [(0, .ref a0), (1, .ref a1), (2, .ref a2), (3, .int a3), (4, .ref a4), (5, .int a5), (6, .int a6)]) : W p l e R s m args below meth c H locs cells slots (xMQ E below args s σ0 σ9 (some (.int r))) (F0 m 81 ls []) := by
  have hx := hX.1.1
  have hb := hX.1.2.1
  delta f_X1_against_b81 at h
  refine lv_iload hx hb dX1_against_81 (lv_at hl 6 rfl) ?_
  refine lv_iload hx hb dX1_against_83 (lv_at hl 5 rfl) ?_
  refine lv_icmp_ge (tgt := 158) hx hb dX1_against_85 (by decide) (fun hc => ?_) (fun hc => ?_)
  · have h := xif_t h hc
    refine lv_iload_n hx hb dX1_against_158 rfl (lv_at hl 3 rfl) ?_
    exact xr_ireturn h hX hI dX1_against_159
  · have h := xif_f h hc
    refine lv_aload hx hb dX1_against_88 (lv_at hl 4 rfl) ?_
    refine lv_iload hx hb dX1_against_90 (lv_at hl 6 rfl) ?_
    refine xr_ldN h hX hI (by decide) dX1_against_92 (fun v25 h => ?_)
    refine lv_astore (lv' := [(7, .ref v25), (0, .ref a0), (1, .ref a1), (2, .ref a2), (3, .int a3), (4, .ref a4), (5, .int a5), (6, .int a6)]) hx hb dX1_against_93 hl (Nat.le_of_ble_eq_true rfl) rfl (fun ls hl => ?_)
    refine lv_iload_n hx hb dX1_against_95 rfl (lv_at hl 4 rfl) ?_
    refine lv_aload_n hx hb dX1_against_96 rfl (lv_at hl 3 rfl) ?_
    refine lv_aload hx hb dX1_against_97 (lv_at hl 0 rfl) ?_
    refine xr_gI h hX hI xl_X1_194_9 dX1_against_99 (fun v26 h => ?_)
    refine lv_aload hx hb dX1_against_102 (lv_at hl 0 rfl) ?_
    refine xr_gI h hX hI xl_X1_178_9 dX1_against_104 (fun v27 h => ?_)
    refine lv_aload_n hx hb dX1_against_107 rfl (lv_at hl 1 rfl) ?_
    refine lv_aload_n hx hb dX1_against_108 rfl (lv_at hl 2 rfl) ?_
    refine lv_aload hx hb dX1_against_109 (lv_at hl 0 rfl) ?_
    refine xr_callV (iv := (fun b => some (.ref b))) (As := [.ref a1, .ref v25]) (rest := [.int v27, .int v26, .ref a2, .int a3]) h hX hI (fun _ _ h => w_X1_lineOf h) (fun _ _ h => o_X1_lineOf h) rfl 2 (lw_V q1711 q1712 q1713 q75 q1714) ⟨rfl, xd_X1_lineOf⟩ ⟨rfl, rfl⟩ rfl hl.1 (Nat.le_of_ble_eq_true rfl) dX1_against_111 (fun v28 H locs σ cells slots h hI => ?_)
    refine W.eq (g2 := F0 m 114 ls [.ref v28, .int v27, .int v26, .ref a2, .int a3]) rfl ?_
    refine xr_callV (iv := (fun b => some (.int b))) (As := [.int v26, .int v27, .ref v28]) (rest := [.int a3]) h hX hI (fun _ _ h => w_X7_isTooDear h) (fun _ _ h => o_X7_isTooDear h) rfl 3 (lw_V q1715 q1716 q1717 q108 q1718) ⟨rfl, xd_X7_isTooDear⟩ ⟨rfl, rfl⟩ rfl hl.1 (Nat.le_of_ble_eq_true rfl) dX1_against_114 (fun v29 H locs σ cells slots h hI => ?_)
    refine W.eq (g2 := F0 m 117 ls [.int v29, .int a3]) rfl ?_
    refine lv_if_eq (tgt := 125) hx hb dX1_against_117 (by decide) (fun hc => ?_) (fun hc => ?_)
    · have h := xif_t h hc
      refine lv_iconst (v := (0 : Int32)) hx hb dX1_against_125 (by decide) ?_
      exact w_X1_against_b126 hX hrec81 h hI (lv_sub hl [1, 2, 3, 5, 6, 7, 0] rfl)
    · have h := xif_f h hc
      refine lv_bipush (v := (8 : Int32)) hx hb dX1_against_120 (by decide) ?_
      refine lv_goto (tgt := 126) hx hb dX1_against_122 (by decide) ?_
      exact w_X1_against_b126 hX hrec81 h hI (lv_sub hl [1, 2, 3, 5, 6, 7, 0] rfl)
theorem w_X1_against_L81 {r : Int32} (hX : xX E R p m c cX1_against 8 s args RX1 "against" meth (some .int) 7 151 σ0 σ9) : ∀ (n : Nat) (a0 : Nat) (a1 : Nat) (a2 : Nat) (a3 : Int32) (a4 : Nat) (a5 : Int32) (a6 : Int32) (σ : xS) (H : Heap) (locs : List Loc) (cells slots : Nat) (ls : Array Slot), (f_X1_against_L81 n a0 a1 a2 a3 a4 a5 a6).1 σ = some (r, σ9) → xI E σ0 σ s H locs cells slots → lv_has ls 8 [(0, .ref a0), (1, .ref a1), (2, .ref a2), (3, .int a3), (4, .ref a4), (5, .int a5), (6, .int a6)] → W p l e R s m args below meth c H locs cells slots (xMQ E below args s σ0 σ9 (some (.int r))) (F0 m 81 ls []) := by
  intro n
  induction n with
  | zero =>
    intro a0 a1 a2 a3 a4 a5 a6 σ H locs cells slots ls h
    exact xr_no h
  | succ n ih =>
    intro a0 a1 a2 a3 a4 a5 a6 σ H locs cells slots ls h hI hl
    exact w_X1_against_b81 hX ih h hI hl
theorem w_X1_against_b65 {t0 : Int32} {t1 : Int32} {a0 : Nat} {a1 : Nat} {a2 : Nat} {r : Int32} (hX : xX E R p m c cX1_against 8 s args RX1 "against" meth (some .int) 7 151 σ0 σ9)
    (h : (f_X1_against_b65 t0 t1 a0 a1 a2).1 σ = some (r, σ9)) (hI : xI E σ0 σ s H locs cells slots) (hl : lv_has ls 8 [(0, .ref a0), (1, .ref a1), (2, .ref a2)]) : W p l e R s m args below meth c H locs cells slots (xMQ E below args s σ0 σ9 (some (.int r))) (F0 m 65 ls [.int t1, .int t0]) := by
  have hx := hX.1.1
  have hb := hX.1.2.1
  delta f_X1_against_b65 at h
  refine lv_ior hx hb dX1_against_65 ?_
  refine lv_istore_n (lv' := [(3, .int (t0 ||| t1)), (0, .ref a0), (1, .ref a1), (2, .ref a2)]) hx hb dX1_against_66 rfl hl (Nat.le_of_ble_eq_true rfl) rfl (fun ls hl => ?_)
  refine lv_aload_n hx hb dX1_against_67 rfl (lv_at hl 2 rfl) ?_
  refine xr_gN h hX hI xl_X1_190_4.g dX1_against_68 (fun v23 h => ?_)
  refine lv_astore (lv' := [(4, .ref v23), (3, .int (t0 ||| t1)), (0, .ref a0), (1, .ref a1), (2, .ref a2)]) hx hb dX1_against_71 hl (Nat.le_of_ble_eq_true rfl) rfl (fun ls hl => ?_)
  refine lv_aload hx hb dX1_against_73 (lv_at hl 0 rfl) ?_
  refine xr_ln h hX hI dX1_against_75 (fun v24 h => ?_)
  refine lv_istore (lv' := [(5, .int v24), (4, .ref v23), (3, .int (t0 ||| t1)), (0, .ref a0), (1, .ref a1), (2, .ref a2)]) hx hb dX1_against_76 hl (Nat.le_of_ble_eq_true rfl) rfl (fun ls hl => ?_)
  refine lv_iconst (v := (0 : Int32)) hx hb dX1_against_78 (by decide) ?_
  refine lv_istore (lv' := [(6, .int (0 : Int32)), (5, .int v24), (4, .ref v23), (3, .int (t0 ||| t1)), (0, .ref a0), (1, .ref a1), (2, .ref a2)]) hx hb dX1_against_79 hl (Nat.le_of_ble_eq_true rfl) rfl (fun ls hl => ?_)
  exact w_X1_against_L81 hX xFU a0 a1 a2 (t0 ||| t1) v23 v24 (0 : Int32) _ _ _ _ _ _ h hI (lv_sub hl [4, 5, 6, 3, 2, 1, 0] rfl)
theorem w_X1_against_b36 {t0 : Int32} {t1 : Int32} {a0 : Nat} {a1 : Nat} {a2 : Nat} {r : Int32} (hX : xX E R p m c cX1_against 8 s args RX1 "against" meth (some .int) 7 151 σ0 σ9)
    (h : (f_X1_against_b36 t0 t1 a0 a1 a2).1 σ = some (r, σ9)) (hI : xI E σ0 σ s H locs cells slots) (hl : lv_has ls 8 [(0, .ref a0), (1, .ref a1), (2, .ref a2)]) : W p l e R s m args below meth c H locs cells slots (xMQ E below args s σ0 σ9 (some (.int r))) (F0 m 36 ls [.int t1, .int t0]) := by
  have hx := hX.1.1
  have hb := hX.1.2.1
  delta f_X1_against_b36 at h
  refine lv_ior hx hb dX1_against_36 ?_
  refine lv_istore_n (lv' := [(3, .int (t0 ||| t1)), (0, .ref a0), (1, .ref a1), (2, .ref a2)]) hx hb dX1_against_37 rfl hl (Nat.le_of_ble_eq_true rfl) rfl (fun ls hl => ?_)
  refine lv_iload_n hx hb dX1_against_38 rfl (lv_at hl 0 rfl) ?_
  refine lv_aload_n hx hb dX1_against_39 rfl (lv_at hl 1 rfl) ?_
  refine xr_gN h hX hI xl_X1_18_1.g dX1_against_40 (fun v19 h => ?_)
  refine lv_aload_n hx hb dX1_against_43 rfl (lv_at hl 2 rfl) ?_
  refine xr_gI h hX hI xl_X1_108_4 dX1_against_44 (fun v20 h => ?_)
  refine xr_callV (iv := (fun b => some (.ref b))) (As := [.int v20]) (rest := [.int (t0 ||| t1)]) h hX hI (fun _ _ h => w_X2_get h) (fun _ _ h => o_X2_get h) rfl 1 (lw_V q1281 q1250 q1251 q76 q1252) ⟨rfl, xd_X2_get⟩ ⟨rfl, rfl⟩ rfl hl.1 (Nat.le_of_ble_eq_true rfl) dX1_against_47 (fun v21 H locs σ cells slots h hI => ?_)
  refine W.eq (g2 := F0 m 50 ls [.ref v21, .int (t0 ||| t1)]) rfl ?_
  refine xr_cks h hX hI xc_X1_92 dX1_against_50 (fun h => ?_)
  refine xr_gI h hX hI xl_X1_189_6.g dX1_against_53 (fun v22 h => ?_)
  refine lv_iconst (v := (2 : Int32)) hx hb dX1_against_56 (by decide) ?_
  refine lv_icmp_ne (tgt := 64) hx hb dX1_against_57 (by decide) (fun hc => ?_) (fun hc => ?_)
  · have h := xif_f h hc
    refine lv_iconst (v := (0 : Int32)) hx hb dX1_against_64 (by decide) ?_
    exact w_X1_against_b65 hX h hI (lv_sub hl [1, 2, 3] rfl)
  · have h := xif_t h hc
    refine lv_iconst (v := (4 : Int32)) hx hb dX1_against_60 (by decide) ?_
    refine lv_goto (tgt := 65) hx hb dX1_against_61 (by decide) ?_
    exact w_X1_against_b65 hX h hI (lv_sub hl [1, 2, 3] rfl)
theorem w_X1_against_b21 {t0 : Int32} {a0 : Nat} {a1 : Nat} {a2 : Nat} {r : Int32} (hX : xX E R p m c cX1_against 8 s args RX1 "against" meth (some .int) 7 151 σ0 σ9)
    (h : (f_X1_against_b21 t0 a0 a1 a2).1 σ = some (r, σ9)) (hI : xI E σ0 σ s H locs cells slots) (hl : lv_has ls 8 [(0, .ref a0), (1, .ref a1), (2, .ref a2)]) : W p l e R s m args below meth c H locs cells slots (xMQ E below args s σ0 σ9 (some (.int r))) (F0 m 21 ls [.int t0]) := by
  have hx := hX.1.1
  have hb := hX.1.2.1
  delta f_X1_against_b21 at h
  refine lv_istore_n (lv' := [(3, .int t0), (0, .ref a0), (1, .ref a1), (2, .ref a2)]) hx hb dX1_against_21 rfl hl (Nat.le_of_ble_eq_true rfl) rfl (fun ls hl => ?_)
  refine lv_iload_n hx hb dX1_against_22 rfl (lv_at hl 0 rfl) ?_
  refine lv_aload_n hx hb dX1_against_23 rfl (lv_at hl 1 rfl) ?_
  refine lv_aload_n hx hb dX1_against_24 rfl (lv_at hl 2 rfl) ?_
  refine xr_callV (iv := (fun b => some (.int b))) (As := [.ref a1]) (rest := [.int t0]) h hX hI (fun _ _ h => w_X1_isTwice h) (fun _ _ h => o_X1_isTwice h) rfl 1 (lw_V q1707 q1709 qs24 q75 q1710) ⟨rfl, xd_X1_isTwice⟩ ⟨rfl, rfl⟩ rfl hl.1 (Nat.le_of_ble_eq_true rfl) dX1_against_25 (fun v18 H locs σ cells slots h hI => ?_)
  refine W.eq (g2 := F0 m 28 ls [.int v18, .int t0]) rfl ?_
  refine lv_if_eq (tgt := 35) hx hb dX1_against_28 (by decide) (fun hc => ?_) (fun hc => ?_)
  · have h := xif_t h hc
    refine lv_iconst (v := (0 : Int32)) hx hb dX1_against_35 (by decide) ?_
    exact w_X1_against_b36 hX h hI (lv_sub hl [1, 2, 3] rfl)
  · have h := xif_f h hc
    refine lv_iconst (v := (2 : Int32)) hx hb dX1_against_31 (by decide) ?_
    refine lv_goto (tgt := 36) hx hb dX1_against_32 (by decide) ?_
    exact w_X1_against_b36 hX h hI (lv_sub hl [1, 2, 3] rfl)
theorem o_X1_against {a0 : Nat} {a1 : Nat} {r : Int32} {σ σ9 : xS} (h : (f_X1_against a0 a1).1 σ = some (r, σ9)) : ∃ fs, σ.1 a0 = some (.inl (1, fs)) := xck_of h
theorem w_X1_against {E : xE} {l : Launch} {a0 : Nat} {a1 : Nat} {r : Int32} {σ σ9 : xS} (h : (f_X1_against a0 a1).1 σ = some (r, σ9)) : xMet E l yX1_against (ws_ yX1_against cX1_against 8 (some .int)) 7 151 [.ref a0, .ref a1] σ σ9 (some (.int r)) := by
  refine xstart (by decide +kernel) ((f_X1_against a0 a1).2 _ _ _ h) (Nat.le_of_ble_eq_true rfl) ?_
  intro p e s m args below meth c H locs cells slots ls R hX hI hl
  have hx := hX.1.1
  have hb := hX.1.2.1
  have hl : lv_has ls 8 [(0, .ref a0), (1, .ref a1)] := hl
  generalize hσ0 : σ = σ0 at hX hI ⊢
  have h : (f_X1_against a0 a1).1 σ0 = some (r, σ9) := by rw [← hσ0]; exact h
  clear hσ0
  delta f_X1_against at h
  have h := (xck_bd h).2
  refine lv_aload_n hx hb dX1_against_0 rfl (lv_at hl 0 rfl) ?_
  refine lv_aload_n hx hb dX1_against_1 rfl (lv_at hl 1 rfl) ?_
  refine xr_gI h hX hI xl_X1_108_4 dX1_against_2 (fun v32 h => ?_)
  refine xr_callV (iv := (fun b => some (.ref b))) (As := [.int v32]) (rest := []) h hX hI (fun _ _ h => w_X1_supplierOf h) (fun _ _ h => o_X1_supplierOf h) rfl 1 (lw_V q1496 q1435 q1436 q75 q1437) ⟨rfl, xd_X1_supplierOf⟩ ⟨rfl, rfl⟩ rfl hl.1 (Nat.le_of_ble_eq_true rfl) dX1_against_5 (fun v33 H locs σ cells slots h hI => ?_)
  refine W.eq (g2 := F0 m 8 ls [.ref v33]) rfl ?_
  refine lv_astore_n (lv' := [(2, .ref v33), (0, .ref a0), (1, .ref a1)]) hx hb dX1_against_8 rfl hl (Nat.le_of_ble_eq_true rfl) rfl (fun ls hl => ?_)
  refine lv_aload_n hx hb dX1_against_9 rfl (lv_at hl 0 rfl) ?_
  refine xr_gI h hX hI xl_X1_181_7.g dX1_against_10 (fun v34 h => ?_)
  refine lv_if_eq (tgt := 20) hx hb dX1_against_13 (by decide) (fun hc => ?_) (fun hc => ?_)
  · have h := xif_t h hc
    refine lv_iconst (v := (0 : Int32)) hx hb dX1_against_20 (by decide) ?_
    exact w_X1_against_b21 hX h hI (lv_sub hl [1, 2, 0] rfl)
  · have h := xif_f h hc
    refine lv_iconst (v := (1 : Int32)) hx hb dX1_against_16 (by decide) ?_
    refine lv_goto (tgt := 21) hx hb dX1_against_17 (by decide) ?_
    exact w_X1_against_b21 hX h hI (lv_sub hl [1, 2, 0] rfl)
/-! PayMatch$State.approve(LPayMatch$Invoice;)V  -/
theorem w_X1_approve_b54 {a0 : Nat} {a1 : Nat} {r : Unit} (hX : xX E R p m c cX1_approve 6 s args RX1 "approve" meth none 6 150 σ0 σ9)
    (h : (f_X1_approve_b54 a0 a1).1 σ = some (r, σ9)) (hI : xI E σ0 σ s H locs cells slots) (hl : lv_has ls 6 [(0, .ref a0), (1, .ref a1)]) : W p l e R s m args below meth c H locs cells slots (xMQ E below args s σ0 σ9 none) (F0 m 54 ls []) := by
  have hx := hX.1.1
  have hb := hX.1.2.1
  delta f_X1_approve_b54 at h
  refine lv_aload_n hx hb dX1_approve_54 rfl (lv_at hl 0 rfl) ?_
  refine lv_iconst (v := (3 : Int32)) hx hb dX1_approve_55 (by decide) ?_
  refine lv_aload_n hx hb dX1_approve_56 rfl (lv_at hl 1 rfl) ?_
  refine xr_gI h hX hI xl_X1_159_4 dX1_approve_57 (fun v13 h => ?_)
  refine lv_aload_n hx hb dX1_approve_60 rfl (lv_at hl 1 rfl) ?_
  refine xr_callV (iv := (fun b => some (.int b))) (As := []) (rest := [.int v13, .int (3 : Int32), .ref a0]) h hX hI (fun _ _ h => w_X4_total h) (fun _ _ h => o_X4_total h) rfl 0 (lw_V q1543 q1544 q1545 q105 q1546) ⟨rfl, xd_X4_total⟩ ⟨rfl, rfl⟩ rfl hl.1 (Nat.le_of_ble_eq_true rfl) dX1_approve_61 (fun v14 H locs σ cells slots h hI => ?_)
  refine W.eq (g2 := F0 m 64 ls [.int v14, .int v13, .int (3 : Int32), .ref a0]) rfl ?_
  refine xr_callV (iv := (fun _ => none)) (As := [.int (3 : Int32), .int v13, .int v14]) (rest := []) h hX hI (fun _ _ h => w_X1_tell h) (fun _ _ h => o_X1_tell h) rfl 3 (lw_V q1449 q1450 q1451 q75 q1452) ⟨rfl, xd_X1_tell⟩ ⟨rfl, rfl⟩ rfl hl.1 (Nat.le_of_ble_eq_true rfl) dX1_approve_64 (fun _ H locs σ cells slots h hI => ?_)
  exact xr_return h hX hI dX1_approve_67
theorem w_X1_approve_b16 {rec16 : Nat → Nat → Nat → Int32 → Int32 → xM Unit} {a0 : Nat} {a1 : Nat} {a2 : Nat} {a3 : Int32} {a4 : Int32} {r : Unit} (hX : xX E R p m c cX1_approve 6 s args RX1 "approve" meth none 6 150 σ0 σ9) (hrec16 : ∀ (a0 : Nat) (a1 : Nat) (a2 : Nat) (a3 : Int32) (a4 : Int32) (σ : xS) (H : Heap) (locs : List Loc) (cells slots : Nat) (ls : Array Slot), (rec16 a0 a1 a2 a3 a4).1 σ = some (r, σ9) → xI E σ0 σ s H locs cells slots → lv_has ls 6 [(0, .ref a0), (1, .ref a1), (2, .ref a2), (3, .int a3), (4, .int a4)] → W p l e R s m args below meth c H locs cells slots (xMQ E below args s σ0 σ9 none) (F0 m 16 ls []))
    (h : (f_X1_approve_b16 rec16 a0 a1 a2 a3 a4).1 σ = some (r, σ9)) (hI : xI E σ0 σ s H locs cells slots) (hl : lv_has ls 6 [(0, .ref a0), (1, .ref a1), (2, .ref a2), (3, .int a3), (4, .int a4)]) : W p l e R s m args below meth c H locs cells slots (xMQ E below args s σ0 σ9 none) (F0 m 16 ls []) := by
  have hx := hX.1.1
  have hb := hX.1.2.1
  delta f_X1_approve_b16 at h
  refine lv_iload hx hb dX1_approve_16 (lv_at hl 4 rfl) ?_
  refine lv_iload_n hx hb dX1_approve_18 rfl (lv_at hl 3 rfl) ?_
  refine lv_icmp_ge (tgt := 54) hx hb dX1_approve_19 (by decide) (fun hc => ?_) (fun hc => ?_)
  · have h := xif_t h hc
    exact w_X1_approve_b54 hX h hI (lv_sub hl [0, 1] rfl)
  · have h := xif_f h hc
    refine lv_aload_n hx hb dX1_approve_22 rfl (lv_at hl 2 rfl) ?_
    refine lv_iload hx hb dX1_approve_23 (lv_at hl 4 rfl) ?_
    refine xr_ldN h hX hI (by decide) dX1_approve_25 (fun v9 h => ?_)
    refine lv_astore (lv' := [(5, .ref v9), (0, .ref a0), (1, .ref a1), (2, .ref a2), (3, .int a3), (4, .int a4)]) hx hb dX1_approve_26 hl (Nat.le_of_ble_eq_true rfl) rfl (fun ls hl => ?_)
    refine lv_aload_n hx hb dX1_approve_28 rfl (lv_at hl 1 rfl) ?_
    refine lv_aload_n hx hb dX1_approve_29 rfl (lv_at hl 2 rfl) ?_
    refine lv_aload hx hb dX1_approve_30 (lv_at hl 0 rfl) ?_
    refine xr_callV (iv := (fun b => some (.ref b))) (As := [.ref a1, .ref v9]) (rest := []) h hX hI (fun _ _ h => w_X1_lineOf h) (fun _ _ h => o_X1_lineOf h) rfl 2 (lw_V q1711 q1712 q1713 q75 q1714) ⟨rfl, xd_X1_lineOf⟩ ⟨rfl, rfl⟩ rfl hl.1 (Nat.le_of_ble_eq_true rfl) dX1_approve_32 (fun v10 H locs σ cells slots h hI => ?_)
    refine W.eq (g2 := F0 m 35 ls [.ref v10]) rfl ?_
    refine lv_dup hx hb dX1_approve_35 rfl ?_
    refine xr_gI h hX hI xl_X1_148_5.g dX1_approve_36 (fun v11 h => ?_)
    refine lv_aload hx hb dX1_approve_39 (lv_at hl 0 rfl) ?_
    refine xr_gI h hX hI xl_X1_178_9 dX1_approve_41 (fun v12 h => ?_)
    refine lv_iadd hx hb dX1_approve_44 ?_
    refine xr_pt h hX hI xl_X1_148_5 (Or.inl rfl) rfl rfl dX1_approve_45 (fun H locs σ h hI => ?_)
    refine lv_iinc (k := 5) (lv' := [(4, .int (a4 + (1 : Int32))), (5, .ref v9), (0, .ref a0), (1, .ref a1), (2, .ref a2), (3, .int a3)]) hx hb dX1_approve_48 hl rfl (xiinc (by decide)) (Nat.le_of_ble_eq_true rfl) rfl (fun ls hl => ?_)
    refine lv_goto (tgt := 16) hx hb dX1_approve_51 (by decide) ?_
    exact hrec16 a0 a1 a2 a3 (a4 + (1 : Int32)) _ _ _ _ _ _ h hI (lv_sub hl [2, 3, 4, 5, 0] rfl)
theorem w_X1_approve_L16 {r : Unit} (hX : xX E R p m c cX1_approve 6 s args RX1 "approve" meth none 6 150 σ0 σ9) : ∀ (n : Nat) (a0 : Nat) (a1 : Nat) (a2 : Nat) (a3 : Int32) (a4 : Int32) (σ : xS) (H : Heap) (locs : List Loc) (cells slots : Nat) (ls : Array Slot), (f_X1_approve_L16 n a0 a1 a2 a3 a4).1 σ = some (r, σ9) → xI E σ0 σ s H locs cells slots → lv_has ls 6 [(0, .ref a0), (1, .ref a1), (2, .ref a2), (3, .int a3), (4, .int a4)] → W p l e R s m args below meth c H locs cells slots (xMQ E below args s σ0 σ9 none) (F0 m 16 ls []) := by
  intro n
  induction n with
  | zero =>
    intro a0 a1 a2 a3 a4 σ H locs cells slots ls h
    exact xr_no h
  | succ n ih =>
    intro a0 a1 a2 a3 a4 σ H locs cells slots ls h hI hl
    exact w_X1_approve_b16 hX ih h hI hl
theorem o_X1_approve {a0 : Nat} {a1 : Nat} {r : Unit} {σ σ9 : xS} (h : (f_X1_approve a0 a1).1 σ = some (r, σ9)) : ∃ fs, σ.1 a0 = some (.inl (1, fs)) := xck_of h
theorem w_X1_approve {E : xE} {l : Launch} {a0 : Nat} {a1 : Nat} {r : Unit} {σ σ9 : xS} (h : (f_X1_approve a0 a1).1 σ = some (r, σ9)) : xMet E l yX1_approve (ws_ yX1_approve cX1_approve 6 none) 6 150 [.ref a0, .ref a1] σ σ9 none := by
  refine xstart (by decide +kernel) ((f_X1_approve a0 a1).2 _ _ _ h) (Nat.le_of_ble_eq_true rfl) ?_
  intro p e s m args below meth c H locs cells slots ls R hX hI hl
  have hx := hX.1.1
  have hb := hX.1.2.1
  have hl : lv_has ls 6 [(0, .ref a0), (1, .ref a1)] := hl
  generalize hσ0 : σ = σ0 at hX hI ⊢
  have h : (f_X1_approve a0 a1).1 σ0 = some (r, σ9) := by rw [← hσ0]; exact h
  clear hσ0
  delta f_X1_approve at h
  have h := (xck_bd h).2
  refine lv_aload_n hx hb dX1_approve_0 rfl (lv_at hl 1 rfl) ?_
  refine lv_iconst (v := (1 : Int32)) hx hb dX1_approve_1 (by decide) ?_
  refine xr_pt h hX hI xl_X1_168_4 (Or.inl rfl) rfl rfl dX1_approve_2 (fun H locs σ h hI => ?_)
  refine lv_aload_n hx hb dX1_approve_5 rfl (lv_at hl 1 rfl) ?_
  refine xr_gN h hX hI xl_X1_190_4.g dX1_approve_6 (fun v15 h => ?_)
  refine lv_astore_n (lv' := [(2, .ref v15), (0, .ref a0), (1, .ref a1)]) hx hb dX1_approve_9 rfl hl (Nat.le_of_ble_eq_true rfl) rfl (fun ls hl => ?_)
  refine lv_aload_n hx hb dX1_approve_10 rfl (lv_at hl 0 rfl) ?_
  refine xr_ln h hX hI dX1_approve_11 (fun v16 h => ?_)
  refine lv_istore_n (lv' := [(3, .int v16), (2, .ref v15), (0, .ref a0), (1, .ref a1)]) hx hb dX1_approve_12 rfl hl (Nat.le_of_ble_eq_true rfl) rfl (fun ls hl => ?_)
  refine lv_iconst (v := (0 : Int32)) hx hb dX1_approve_13 (by decide) ?_
  refine lv_istore (lv' := [(4, .int (0 : Int32)), (3, .int v16), (2, .ref v15), (0, .ref a0), (1, .ref a1)]) hx hb dX1_approve_14 hl (Nat.le_of_ble_eq_true rfl) rfl (fun ls hl => ?_)
  exact w_X1_approve_L16 hX xFU a0 a1 v15 v16 (0 : Int32) _ _ _ _ _ _ h hI (lv_sub hl [3, 4, 2, 1, 0] rfl)
/-! PayMatch$State.match(LPayMatch$Invoice;)I  -/
theorem w_X1_match_b30 {t0 : Nat} {t1 : Int32} {a0 : Nat} {a1 : Nat} {a2 : Int32} {r : Int32} (hX : xX E R p m c cX1_match 3 s args RX1 "match" meth (some .int) 8 178 σ0 σ9)
    (h : (f_X1_match_b30 t0 t1 a0 a1 a2).1 σ = some (r, σ9)) (hI : xI E σ0 σ s H locs cells slots) (hl : lv_has ls 3 [(0, .ref a0), (1, .ref a1), (2, .int a2)]) : W p l e R s m args below meth c H locs cells slots (xMQ E below args s σ0 σ9 (some (.int r))) (F0 m 30 ls [.int t1, .ref t0]) := by
  have hx := hX.1.1
  have hb := hX.1.2.1
  delta f_X1_match_b30 at h
  refine xr_ptZ h hX hI xl_X1_216_4 (Or.inl rfl) dX1_match_30 (fun H locs σ h hI => ?_)
  refine lv_aload_n hx hb dX1_match_33 rfl (lv_at hl 1 rfl) ?_
  refine lv_iconst (v := (1 : Int32)) hx hb dX1_match_34 (by decide) ?_
  refine xr_ptZ h hX hI xl_X1_213_4 (Or.inl rfl) dX1_match_35 (fun H locs σ h hI => ?_)
  refine lv_aload_n hx hb dX1_match_38 rfl (lv_at hl 1 rfl) ?_
  refine lv_iload_n hx hb dX1_match_39 rfl (lv_at hl 2 rfl) ?_
  refine xr_pt h hX hI xl_X1_219_4 (Or.inl rfl) rfl rfl dX1_match_40 (fun H locs σ h hI => ?_)
  refine lv_iload_n hx hb dX1_match_43 rfl (lv_at hl 2 rfl) ?_
  refine lv_if_ne (tgt := 55) hx hb dX1_match_44 (by decide) (fun hc => ?_) (fun hc => ?_)
  · have h := xif_f h hc
    refine lv_aload_n hx hb dX1_match_55 rfl (lv_at hl 1 rfl) ?_
    refine lv_iconst (v := (2 : Int32)) hx hb dX1_match_56 (by decide) ?_
    refine xr_pt h hX hI xl_X1_168_4 (Or.inl rfl) rfl rfl dX1_match_57 (fun H locs σ h hI => ?_)
    refine lv_aload_n hx hb dX1_match_60 rfl (lv_at hl 0 rfl) ?_
    refine lv_iconst (v := (4 : Int32)) hx hb dX1_match_61 (by decide) ?_
    refine lv_aload_n hx hb dX1_match_62 rfl (lv_at hl 1 rfl) ?_
    refine xr_gI h hX hI xl_X1_159_4 dX1_match_63 (fun v5 h => ?_)
    refine lv_iload_n hx hb dX1_match_66 rfl (lv_at hl 2 rfl) ?_
    refine xr_callV (iv := (fun _ => none)) (As := [.int (4 : Int32), .int v5, .int a2]) (rest := []) h hX hI (fun _ _ h => w_X1_tell h) (fun _ _ h => o_X1_tell h) rfl 3 (lw_V q1449 q1450 q1451 q75 q1452) ⟨rfl, xd_X1_tell⟩ ⟨rfl, rfl⟩ rfl hl.1 (Nat.le_of_ble_eq_true rfl) dX1_match_67 (fun _ H locs σ cells slots h hI => ?_)
    refine lv_iload_n hx hb dX1_match_70 rfl (lv_at hl 2 rfl) ?_
    exact xr_ireturn h hX hI dX1_match_71
  · have h := xif_t h hc
    refine lv_aload_n hx hb dX1_match_47 rfl (lv_at hl 0 rfl) ?_
    refine lv_aload_n hx hb dX1_match_48 rfl (lv_at hl 1 rfl) ?_
    refine xr_callV (iv := (fun _ => none)) (As := [.ref a1]) (rest := []) h hX hI (fun _ _ h => w_X1_approve h) (fun _ _ h => o_X1_approve h) rfl 1 (lw_V q1736 q1738 qs26 q75 q1739) ⟨rfl, xd_X1_approve⟩ ⟨rfl, rfl⟩ rfl hl.1 (Nat.le_of_ble_eq_true rfl) dX1_match_49 (fun _ H locs σ cells slots h hI => ?_)
    refine lv_goto (tgt := 70) hx hb dX1_match_52 (by decide) ?_
    refine lv_iload_n hx hb dX1_match_70 rfl (lv_at hl 2 rfl) ?_
    exact xr_ireturn h hX hI dX1_match_71
theorem o_X1_match {a0 : Nat} {a1 : Nat} {r : Int32} {σ σ9 : xS} (h : (f_X1_match a0 a1).1 σ = some (r, σ9)) : ∃ fs, σ.1 a0 = some (.inl (1, fs)) := xck_of h
theorem w_X1_match {E : xE} {l : Launch} {a0 : Nat} {a1 : Nat} {r : Int32} {σ σ9 : xS} (h : (f_X1_match a0 a1).1 σ = some (r, σ9)) : xMet E l yX1_match (ws_ yX1_match cX1_match 3 (some .int)) 8 178 [.ref a0, .ref a1] σ σ9 (some (.int r)) := by
  refine xstart (by decide +kernel) ((f_X1_match a0 a1).2 _ _ _ h) (Nat.le_of_ble_eq_true rfl) ?_
  intro p e s m args below meth c H locs cells slots ls R hX hI hl
  have hx := hX.1.1
  have hb := hX.1.2.1
  have hl : lv_has ls 3 [(0, .ref a0), (1, .ref a1)] := hl
  generalize hσ0 : σ = σ0 at hX hI ⊢
  have h : (f_X1_match a0 a1).1 σ0 = some (r, σ9) := by rw [← hσ0]; exact h
  clear hσ0
  delta f_X1_match at h
  have h := (xck_bd h).2
  refine lv_aload_n hx hb dX1_match_0 rfl (lv_at hl 0 rfl) ?_
  refine lv_aload_n hx hb dX1_match_1 rfl (lv_at hl 1 rfl) ?_
  refine xr_callV (iv := (fun b => some (.int b))) (As := [.ref a1]) (rest := []) h hX hI (fun _ _ h => w_X1_against h) (fun _ _ h => o_X1_against h) rfl 1 (lw_V q1735 q1704 q1705 q75 q1706) ⟨rfl, xd_X1_against⟩ ⟨rfl, rfl⟩ rfl hl.1 (Nat.le_of_ble_eq_true rfl) dX1_match_2 (fun v6 H locs σ cells slots h hI => ?_)
  refine W.eq (g2 := F0 m 5 ls [.int v6]) rfl ?_
  refine lv_istore_n (lv' := [(2, .int v6), (0, .ref a0), (1, .ref a1)]) hx hb dX1_match_5 rfl hl (Nat.le_of_ble_eq_true rfl) rfl (fun ls hl => ?_)
  refine lv_aload_n hx hb dX1_match_6 rfl (lv_at hl 2 rfl) ?_
  refine lv_aload_n hx hb dX1_match_7 rfl (lv_at hl 2 rfl) ?_
  refine xr_gI h hX hI xl_X1_213_4.g dX1_match_8 (fun v7 h => ?_)
  refine lv_if_eq (tgt := 21) hx hb dX1_match_11 (by decide) (fun hc => ?_) (fun hc => ?_)
  · have h := xif_t h hc
    refine lv_iload_n hx hb dX1_match_21 rfl (lv_at hl 0 rfl) ?_
    refine lv_if_ne (tgt := 29) hx hb dX1_match_22 (by decide) (fun hc => ?_) (fun hc => ?_)
    · have h := xif_f h hc
      refine lv_iconst (v := (0 : Int32)) hx hb dX1_match_29 (by decide) ?_
      exact w_X1_match_b30 hX h hI (lv_sub hl [1, 2, 0] rfl)
    · have h := xif_t h hc
      refine lv_iconst (v := (1 : Int32)) hx hb dX1_match_25 (by decide) ?_
      refine lv_goto (tgt := 30) hx hb dX1_match_26 (by decide) ?_
      exact w_X1_match_b30 hX h hI (lv_sub hl [1, 2, 0] rfl)
  · have h := xif_f h hc
    refine lv_aload_n hx hb dX1_match_14 rfl (lv_at hl 2 rfl) ?_
    refine xr_gI h hX hI xl_X1_216_4.g dX1_match_15 (fun v8 h => ?_)
    refine lv_goto (tgt := 30) hx hb dX1_match_18 (by decide) ?_
    exact w_X1_match_b30 hX h hI (lv_sub hl [1, 2, 0] rfl)
end
