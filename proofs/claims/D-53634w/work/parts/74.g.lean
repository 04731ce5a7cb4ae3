/-! walks, printed by gen.py -/
set_option maxRecDepth 100000
section
variable {E : xE} {p : Program} {l : Launch} {e : Env} {R : Room} {s : State} {m : MethodId} {args : Array Value} {below : List Frame} {meth : Method} {c : Code} {H : Heap} {locs : List Loc} {cells slots : Nat} {ls : Array Slot} {σ0 σ σ9 : xS}
/-! PayMatch$Line.weight()I  -/
theorem o_X5_weight {a0 : Nat} {r : Int32} {σ σ9 : xS} (h : (f_X5_weight a0).1 σ = some (r, σ9)) : ∃ fs, σ.1 a0 = some (.inl (5, fs)) := xck_of h
theorem w_X5_weight {E : xE} {l : Launch} {a0 : Nat} {r : Int32} {σ σ9 : xS} (h : (f_X5_weight a0).1 σ = some (r, σ9)) : xMet E l yX5_weight (ws_ yX5_weight cX5_weight 1 (some .int)) 1 21 [.ref a0] σ σ9 (some (.int r)) := by
  refine xstart (by decide +kernel) ((f_X5_weight a0).2 _ _ _ h) (Nat.le_of_ble_eq_true rfl) ?_
  intro p e s m args below meth c H locs cells slots ls R hX hI hl
  have hx := hX.1.1
  have hb := hX.1.2.1
  have hl : lv_has ls 1 [(0, .ref a0)] := hl
  generalize hσ0 : σ = σ0 at hX hI ⊢
  have h : (f_X5_weight a0).1 σ0 = some (r, σ9) := by rw [← hσ0]; exact h
  clear hσ0
  delta f_X5_weight at h
  have h := (xck_bd h).2
  refine lv_iconst (v := (0 : Int32)) hx hb dX5_weight_0 (by decide) ?_
  refine lv_aload_n hx hb dX5_weight_1 rfl (lv_at hl 0 rfl) ?_
  refine xr_gI h hX hI xl_X5_16_5.g dX5_weight_2 (fun v4 h => ?_)
  refine lv_aload_n hx hb dX5_weight_5 rfl (lv_at hl 0 rfl) ?_
  refine xr_gI h hX hI xl_X5_25_5.g dX5_weight_6 (fun v5 h => ?_)
  refine lv_isub hx hb dX5_weight_9 ?_
  refine xr_callS (iv := (fun b => some (.int b))) (As := [.int (0 : Int32), .int (v4 - v5)]) (rest := []) h hX hI (fun _ _ h => w_J21_max h) 2 (lw_S q1395 q646 q101 q647) xd_J21_max ⟨rfl, rfl⟩ rfl hl.1 (Nat.le_of_ble_eq_true rfl) dX5_weight_10 (fun v6 H locs σ cells slots h hI => ?_)
  refine W.eq (g2 := F0 m 13 ls [.int v6]) rfl ?_
  exact xr_ireturn h hX hI dX5_weight_13
/-! PayMatch$Paper.weightOf(Ljava/lang/Iterable;)I 5 -/
theorem w_X8_weightOf_5_b9 {rec9 : Int32 → Nat → xM Int32} {a1 : Int32} {a2 : Nat} {r : Int32} (hX : xX E R p m c cX8_weightOf 4 s args RX8 "weightOf" meth (some .int) 4 121 σ0 σ9) (hrec9 : ∀ (a1 : Int32) (a2 : Nat) (σ : xS) (H : Heap) (locs : List Loc) (cells slots : Nat) (ls : Array Slot), (rec9 a1 a2).1 σ = some (r, σ9) → xI E σ0 σ s H locs cells slots → lv_has ls 4 [(1, .int a1), (2, .ref a2)] → W p l e R s m args below meth c H locs cells slots (xMQ E below args s σ0 σ9 (some (.int r))) (F0 m 9 ls []))
    (h : (f_X8_weightOf_5_b9 rec9 a1 a2).1 σ = some (r, σ9)) (hI : xI E σ0 σ s H locs cells slots) (hl : lv_has ls 4 [(1, .int a1), (2, .ref a2)]) : W p l e R s m args below meth c H locs cells slots (xMQ E below args s σ0 σ9 (some (.int r))) (F0 m 9 ls []) := by
  have hx := hX.1.1
  have hb := hX.1.2.1
  delta f_X8_weightOf_5_b9 at h
  refine lv_aload_n hx hb dX8_weightOf_9 rfl (lv_at hl 1 rfl) ?_
  refine xr_callF (iv := (fun b => some (.int b))) (As := []) (rest := []) h hX hI (fun _ _ h => w_J10_hasNext h) (fun _ _ h => o_J10_hasNext h) rfl 0 xfw_4 q1378 q460 q462 q89 q464 xdi_4 ⟨rfl, rfl⟩ rfl hl.1 (Nat.le_of_ble_eq_true rfl) dX8_weightOf_10 (fun v5 H locs σ cells slots h hI => ?_)
  refine W.eq (g2 := F0 m 15 ls [.int v5]) rfl ?_
  refine lv_if_eq (tgt := 40) hx hb dX8_weightOf_15 (by decide) (fun hc => ?_) (fun hc => ?_)
  · have h := xif_t h hc
    refine lv_iload_n hx hb dX8_weightOf_40 rfl (lv_at hl 0 rfl) ?_
    exact xr_ireturn h hX hI dX8_weightOf_41
  · have h := xif_f h hc
    refine lv_aload_n hx hb dX8_weightOf_18 rfl (lv_at hl 1 rfl) ?_
    refine xr_callF (iv := (fun b => some (.ref b))) (As := []) (rest := []) h hX hI (fun _ _ h => w_J10_next h) (fun _ _ h => o_J10_next h) rfl 0 xfw_6 q1380 q828 q830 q89 q832 xdi_6 ⟨rfl, rfl⟩ rfl hl.1 (Nat.le_of_ble_eq_true rfl) dX8_weightOf_19 (fun v6 H locs σ cells slots h hI => ?_)
    refine W.eq (g2 := F0 m 24 ls [.ref v6]) rfl ?_
    refine xr_cks h hX hI xc_X8_17 dX8_weightOf_24 (fun h => ?_)
    refine lv_astore_n (lv' := [(3, .ref v6), (1, .int a1), (2, .ref a2)]) hx hb dX8_weightOf_27 rfl hl (Nat.le_of_ble_eq_true rfl) rfl (fun ls hl => ?_)
    refine lv_iload_n hx hb dX8_weightOf_28 rfl (lv_at hl 1 rfl) ?_
    refine lv_aload_n hx hb dX8_weightOf_29 rfl (lv_at hl 0 rfl) ?_
    refine xr_callF (iv := (fun b => some (.int b))) (As := []) (rest := [.int a1]) h hX hI (fun _ _ h => w_X5_weight h) (fun _ _ h => o_X5_weight h) rfl 0 xfw_20 q1383 q1390 q1392 q106 q1394 xdi_20 ⟨rfl, rfl⟩ rfl hl.1 (Nat.le_of_ble_eq_true rfl) dX8_weightOf_30 (fun v7 H locs σ cells slots h hI => ?_)
    refine W.eq (g2 := F0 m 35 ls [.int v7, .int a1]) rfl ?_
    refine lv_iadd hx hb dX8_weightOf_35 ?_
    refine lv_istore_n (lv' := [(1, .int (a1 + v7)), (3, .ref v6), (2, .ref a2)]) hx hb dX8_weightOf_36 rfl hl (Nat.le_of_ble_eq_true rfl) rfl (fun ls hl => ?_)
    refine lv_goto (tgt := 9) hx hb dX8_weightOf_37 (by decide) ?_
    exact hrec9 (a1 + v7) a2 _ _ _ _ _ _ h hI (lv_sub hl [0, 2] rfl)
theorem w_X8_weightOf_5_L9 {r : Int32} (hX : xX E R p m c cX8_weightOf 4 s args RX8 "weightOf" meth (some .int) 4 121 σ0 σ9) : ∀ (n : Nat) (a1 : Int32) (a2 : Nat) (σ : xS) (H : Heap) (locs : List Loc) (cells slots : Nat) (ls : Array Slot), (f_X8_weightOf_5_L9 n a1 a2).1 σ = some (r, σ9) → xI E σ0 σ s H locs cells slots → lv_has ls 4 [(1, .int a1), (2, .ref a2)] → W p l e R s m args below meth c H locs cells slots (xMQ E below args s σ0 σ9 (some (.int r))) (F0 m 9 ls []) := by
  intro n
  induction n with
  | zero =>
    intro a1 a2 σ H locs cells slots ls h
    exact xr_no h
  | succ n ih =>
    intro a1 a2 σ H locs cells slots ls h hI hl
    exact w_X8_weightOf_5_b9 hX ih h hI hl
theorem w_X8_weightOf_5 {E : xE} {l : Launch} {a0 : Nat} {r : Int32} {σ σ9 : xS} (h : (f_X8_weightOf_5 a0).1 σ = some (r, σ9)) : xMet E l yX8_weightOf (ws_ yX8_weightOf cX8_weightOf 4 (some .int)) 4 121 [.ref a0] σ σ9 (some (.int r)) := by
  refine xstart (by decide +kernel) ((f_X8_weightOf_5 a0).2 _ _ _ h) (Nat.le_of_ble_eq_true rfl) ?_
  intro p e s m args below meth c H locs cells slots ls R hX hI hl
  have hx := hX.1.1
  have hb := hX.1.2.1
  have hl : lv_has ls 4 [(0, .ref a0)] := hl
  generalize hσ0 : σ = σ0 at hX hI ⊢
  have h : (f_X8_weightOf_5 a0).1 σ0 = some (r, σ9) := by rw [← hσ0]; exact h
  clear hσ0
  delta f_X8_weightOf_5 at h
  refine lv_iconst (v := (0 : Int32)) hx hb dX8_weightOf_0 (by decide) ?_
  refine lv_istore_n (lv' := [(1, .int (0 : Int32)), (0, .ref a0)]) hx hb dX8_weightOf_1 rfl hl (Nat.le_of_ble_eq_true rfl) rfl (fun ls hl => ?_)
  refine lv_aload_n hx hb dX8_weightOf_2 rfl (lv_at hl 1 rfl) ?_
  refine xr_callF (iv := (fun b => some (.ref b))) (As := []) (rest := []) h hX hI (fun _ _ h => w_X2_iterator h) (fun _ _ h => o_X2_iterator h) rfl 0 xfw_16 q1340 q1344 q1277 q76 q1279 xdi_16 ⟨rfl, rfl⟩ rfl hl.1 (Nat.le_of_ble_eq_true rfl) dX8_weightOf_3 (fun v8 H locs σ cells slots h hI => ?_)
  refine W.eq (g2 := F0 m 8 ls [.ref v8]) rfl ?_
  refine lv_astore_n (lv' := [(2, .ref v8), (1, .int (0 : Int32)), (0, .ref a0)]) hx hb dX8_weightOf_8 rfl hl (Nat.le_of_ble_eq_true rfl) rfl (fun ls hl => ?_)
  exact w_X8_weightOf_5_L9 hX xFU (0 : Int32) v8 _ _ _ _ _ _ h hI (lv_sub hl [1, 0] rfl)
/-! PayMatch$Order.weight()I  -/
theorem o_X6_weight {a0 : Nat} {r : Int32} {σ σ9 : xS} (h : (f_X6_weight a0).1 σ = some (r, σ9)) : ∃ fs, σ.1 a0 = some (.inl (6, fs)) := xck_of h
theorem w_X6_weight {E : xE} {l : Launch} {a0 : Nat} {r : Int32} {σ σ9 : xS} (h : (f_X6_weight a0).1 σ = some (r, σ9)) : xMet E l yX6_weight (ws_ yX6_weight cX6_weight 1 (some .int)) 5 144 [.ref a0] σ σ9 (some (.int r)) := by
  refine xstart (by decide +kernel) ((f_X6_weight a0).2 _ _ _ h) (Nat.le_of_ble_eq_true rfl) ?_
  intro p e s m args below meth c H locs cells slots ls R hX hI hl
  have hx := hX.1.1
  have hb := hX.1.2.1
  have hl : lv_has ls 1 [(0, .ref a0)] := hl
  generalize hσ0 : σ = σ0 at hX hI ⊢
  have h : (f_X6_weight a0).1 σ0 = some (r, σ9) := by rw [← hσ0]; exact h
  clear hσ0
  delta f_X6_weight at h
  have h := (xck_bd h).2
  refine lv_aload_n hx hb dX6_weight_0 rfl (lv_at hl 0 rfl) ?_
  refine xr_gN h hX hI xl_X6_12_6.g dX6_weight_1 (fun v3 h => ?_)
  refine xr_callS (iv := (fun b => some (.int b))) (As := [.ref v3]) (rest := []) h hX hI (fun _ _ h => w_X8_weightOf_5 h) 1 (lw_S q1336 q1337 q110 q1338) xd_X8_weightOf ⟨rfl, rfl⟩ rfl hl.1 (Nat.le_of_ble_eq_true rfl) dX6_weight_4 (fun v4 H locs σ cells slots h hI => ?_)
  refine W.eq (g2 := F0 m 7 ls [.int v4]) rfl ?_
  exact xr_ireturn h hX hI dX6_weight_7
/-! PayMatch.setState(III)I  -/
theorem o_X0_setState {a0 : Nat} {a1 : Int32} {a2 : Int32} {a3 : Int32} {r : Int32} {σ σ9 : xS} (h : (f_X0_setState a0 a1 a2 a3).1 σ = some (r, σ9)) : ∃ fs, σ.1 a0 = some (.inl (0, fs)) := xck_of h
theorem w_X0_setState {E : xE} {l : Launch} {a0 : Nat} {a1 : Int32} {a2 : Int32} {a3 : Int32} {r : Int32} {σ σ9 : xS} (h : (f_X0_setState a0 a1 a2 a3).1 σ = some (r, σ9)) : xMet E l yX0_setState (ws_ yX0_setState cX0_setState 5 (some .int)) 14 438 [.ref a0, .int a1, .int a2, .int a3] σ σ9 (some (.int r)) := by
  refine xstart (by decide +kernel) ((f_X0_setState a0 a1 a2 a3).2 _ _ _ h) (Nat.le_of_ble_eq_true rfl) ?_
  intro p e s m args below meth c H locs cells slots ls R hX hI hl
  have hx := hX.1.1
  have hb := hX.1.2.1
  have hl : lv_has ls 5 [(0, .ref a0), (1, .int a1), (2, .int a2), (3, .int a3)] := hl
  generalize hσ0 : σ = σ0 at hX hI ⊢
  have h : (f_X0_setState a0 a1 a2 a3).1 σ0 = some (r, σ9) := by rw [← hσ0]; exact h
  clear hσ0
  delta f_X0_setState at h
  have h := (xck_bd h).2
  refine lv_aload_n hx hb dX0_setState_0 rfl (lv_at hl 0 rfl) ?_
  refine xr_gN h hX hI xl_X0_22_0.g dX0_setState_1 (fun v6 h => ?_)
  refine xr_callV (iv := (fun b => some (.ref b))) (As := []) (rest := []) h hX hI (fun _ _ h => w_X1_copy h) (fun _ _ h => o_X1_copy h) rfl 0 (lw_V q323 q324 q325 q75 q326) ⟨rfl, xd_X1_copy⟩ ⟨rfl, rfl⟩ rfl hl.1 (Nat.le_of_ble_eq_true rfl) dX0_setState_4 (fun v7 H locs σ cells slots h hI => ?_)
  refine W.eq (g2 := F0 m 7 ls [.ref v7]) rfl ?_
  refine lv_astore (lv' := [(4, .ref v7), (0, .ref a0), (1, .int a1), (2, .int a2), (3, .int a3)]) hx hb dX0_setState_7 hl (Nat.le_of_ble_eq_true rfl) rfl (fun ls hl => ?_)
  refine lv_aload hx hb dX0_setState_9 (lv_at hl 0 rfl) ?_
  refine xr_gN h hX hI xl_X0_130_1.g dX0_setState_11 (fun v8 h => ?_)
  refine lv_iload_n hx hb dX0_setState_14 rfl (lv_at hl 2 rfl) ?_
  refine xr_callV (iv := (fun b => some (.ref b))) (As := [.int a1]) (rest := []) h hX hI (fun _ _ h => w_X2_get h) (fun _ _ h => o_X2_get h) rfl 1 (lw_V q1249 q1250 q1251 q76 q1252) ⟨rfl, xd_X2_get⟩ ⟨rfl, rfl⟩ rfl hl.1 (Nat.le_of_ble_eq_true rfl) dX0_setState_15 (fun v9 H locs σ cells slots h hI => ?_)
  refine W.eq (g2 := F0 m 18 ls [.ref v9]) rfl ?_
  refine xr_cks h hX hI xc_X0_133 dX0_setState_18 (fun h => ?_)
  refine lv_iload_n hx hb dX0_setState_21 rfl (lv_at hl 3 rfl) ?_
  refine xr_pt h hX hI xl_X0_138_6 (Or.inl rfl) rfl rfl dX0_setState_22 (fun H locs σ h hI => ?_)
  refine lv_aload_n hx hb dX0_setState_25 rfl (lv_at hl 1 rfl) ?_
  refine lv_aload hx hb dX0_setState_26 (lv_at hl 0 rfl) ?_
  refine lv_iload_n hx hb dX0_setState_28 rfl (lv_at hl 4 rfl) ?_
  refine xr_callV (iv := (fun b => some (.int b))) (As := [.ref v7, .int a3]) (rest := []) h hX hI (fun _ _ h => w_X0_become h) (fun _ _ h => o_X0_become h) rfl 2 (lw_V q1182 q1184 qs9 q74 q1185) ⟨rfl, xd_X0_become⟩ ⟨rfl, rfl⟩ rfl hl.1 (Nat.le_of_ble_eq_true rfl) dX0_setState_29 (fun v10 H locs σ cells slots h hI => ?_)
  refine W.eq (g2 := F0 m 32 ls [.int v10]) rfl ?_
  exact xr_ireturn h hX hI dX0_setState_32
/-! PayMatch.close(I)I  -/
theorem o_X0_close {a0 : Nat} {a1 : Int32} {r : Int32} {σ σ9 : xS} (h : (f_X0_close a0 a1).1 σ = some (r, σ9)) : ∃ fs, σ.1 a0 = some (.inl (0, fs)) := xck_of h
theorem w_X0_close {E : xE} {l : Launch} {a0 : Nat} {a1 : Int32} {r : Int32} {σ σ9 : xS} (h : (f_X0_close a0 a1).1 σ = some (r, σ9)) : xMet E l yX0_close (ws_ yX0_close cX0_close 2 (some .int)) 15 462 [.ref a0, .int a1] σ σ9 (some (.int r)) := by
  refine xstart (by decide +kernel) ((f_X0_close a0 a1).2 _ _ _ h) (Nat.le_of_ble_eq_true rfl) ?_
  intro p e s m args below meth c H locs cells slots ls R hX hI hl
  have hx := hX.1.1
  have hb := hX.1.2.1
  have hl : lv_has ls 2 [(0, .ref a0), (1, .int a1)] := hl
  generalize hσ0 : σ = σ0 at hX hI ⊢
  have h : (f_X0_close a0 a1).1 σ0 = some (r, σ9) := by rw [← hσ0]; exact h
  clear hσ0
  delta f_X0_close at h
  have h := (xck_bd h).2
  refine lv_aload_n hx hb dX0_close_0 rfl (lv_at hl 0 rfl) ?_
  refine xr_gN h hX hI xl_X0_22_0.g dX0_close_1 (fun v10 h => ?_)
  refine xr_gN h hX hI xl_X0_130_1.g dX0_close_4 (fun v11 h => ?_)
  refine lv_iload_n hx hb dX0_close_7 rfl (lv_at hl 1 rfl) ?_
  refine xr_callV (iv := (fun b => some (.int b))) (As := [.int a1]) (rest := []) h hX hI (fun _ _ h => w_X2_has h) (fun _ _ h => o_X2_has h) rfl 1 (lw_V q1225 q1226 q1227 q76 q1228) ⟨rfl, xd_X2_has⟩ ⟨rfl, rfl⟩ rfl hl.1 (Nat.le_of_ble_eq_true rfl) dX0_close_8 (fun v12 H locs σ cells slots h hI => ?_)
  refine W.eq (g2 := F0 m 11 ls [.int v12]) rfl ?_
  refine lv_if_ne (tgt := 16) hx hb dX0_close_11 (by decide) (fun hc => ?_) (fun hc => ?_)
  · have h := xif_f h hc
    refine lv_aload_n hx hb dX0_close_16 rfl (lv_at hl 0 rfl) ?_
    refine lv_iload_n hx hb dX0_close_17 rfl (lv_at hl 1 rfl) ?_
    refine xr_callV (iv := (fun b => some (.int b))) (As := [.int a1]) (rest := []) h hX hI (fun _ _ h => w_X0_isOpen h) (fun _ _ h => o_X0_isOpen h) rfl 1 (lw_V q1308 q1310 qs12 q74 q1311) ⟨rfl, xd_X0_isOpen⟩ ⟨rfl, rfl⟩ rfl hl.1 (Nat.le_of_ble_eq_true rfl) dX0_close_18 (fun v13 H locs σ cells slots h hI => ?_)
    refine W.eq (g2 := F0 m 21 ls [.int v13]) rfl ?_
    refine lv_if_eq (tgt := 50) hx hb dX0_close_21 (by decide) (fun hc => ?_) (fun hc => ?_)
    · have h := xif_t h hc
      refine lv_bipush (v := (-4 : Int32)) hx hb dX0_close_50 (by decide) ?_
      exact xr_ireturn h hX hI dX0_close_52
    · have h := xif_f h hc
      refine lv_aload_n hx hb dX0_close_24 rfl (lv_at hl 0 rfl) ?_
      refine lv_iload_n hx hb dX0_close_25 rfl (lv_at hl 1 rfl) ?_
      refine lv_iconst (v := (1 : Int32)) hx hb dX0_close_26 (by decide) ?_
      refine lv_aload_n hx hb dX0_close_27 rfl (lv_at hl 0 rfl) ?_
      refine xr_gN h hX hI xl_X0_22_0.g dX0_close_28 (fun v14 h => ?_)
      refine xr_gN h hX hI xl_X0_130_1.g dX0_close_31 (fun v15 h => ?_)
      refine lv_iload_n hx hb dX0_close_34 rfl (lv_at hl 1 rfl) ?_
      refine xr_callV (iv := (fun b => some (.ref b))) (As := [.int a1]) (rest := [.int (1 : Int32), .int a1, .ref a0]) h hX hI (fun _ _ h => w_X2_get h) (fun _ _ h => o_X2_get h) rfl 1 (lw_V q1249 q1250 q1251 q76 q1252) ⟨rfl, xd_X2_get⟩ ⟨rfl, rfl⟩ rfl hl.1 (Nat.le_of_ble_eq_true rfl) dX0_close_35 (fun v16 H locs σ cells slots h hI => ?_)
      refine W.eq (g2 := F0 m 38 ls [.ref v16, .int (1 : Int32), .int a1, .ref a0]) rfl ?_
      refine xr_cks h hX hI xc_X0_133 dX0_close_38 (fun h => ?_)
      refine xr_callV (iv := (fun b => some (.int b))) (As := []) (rest := [.int (1 : Int32), .int a1, .ref a0]) h hX hI (fun _ _ h => w_X6_weight h) (fun _ _ h => o_X6_weight h) rfl 0 (lw_V q1332 q1333 q1334 q107 q1335) ⟨rfl, xd_X6_weight⟩ ⟨rfl, rfl⟩ rfl hl.1 (Nat.le_of_ble_eq_true rfl) dX0_close_41 (fun v17 H locs σ cells slots h hI => ?_)
      refine W.eq (g2 := F0 m 44 ls [.int v17, .int (1 : Int32), .int a1, .ref a0]) rfl ?_
      refine xr_callV (iv := (fun b => some (.int b))) (As := [.int a1, .int (1 : Int32), .int v17]) (rest := []) h hX hI (fun _ _ h => w_X0_setState h) (fun _ _ h => o_X0_setState h) rfl 3 (lw_V q1404 q1406 qs13 q74 q1407) ⟨rfl, xd_X0_setState⟩ ⟨rfl, rfl⟩ rfl hl.1 (Nat.le_of_ble_eq_true rfl) dX0_close_44 (fun v18 H locs σ cells slots h hI => ?_)
      refine W.eq (g2 := F0 m 47 ls [.int v18]) rfl ?_
      refine lv_goto (tgt := 52) hx hb dX0_close_47 (by decide) ?_
      exact xr_ireturn h hX hI dX0_close_52
  · have h := xif_t h hc
    refine lv_iconst (v := (-1 : Int32)) hx hb dX0_close_14 (by decide) ?_
    exact xr_ireturn h hX hI dX0_close_15
/-! PayMatchModel.close(I)I  -/
theorem w_X3_close_b88 {rec40 : Nat → Int32 → Int32 → Int32 → xM Int32} {t0 : Int32} {t1 : Int32} {a0 : Nat} {a1 : Int32} {a3 : Int32} {r : Int32} (hX : xX E R p m c cX3_close 5 s args RX3 "close" meth (some .int) 2 43 σ0 σ9) (hrec40 : ∀ (a0 : Nat) (a1 : Int32) (a2 : Int32) (a3 : Int32) (σ : xS) (H : Heap) (locs : List Loc) (cells slots : Nat) (ls : Array Slot), (rec40 a0 a1 a2 a3).1 σ = some (r, σ9) → xI E σ0 σ s H locs cells slots → lv_has ls 5 [(0, .ref a0), (1, .int a1), (2, .int a2), (3, .int a3)] → W p l e R s m args below meth c H locs cells slots (xMQ E below args s σ0 σ9 (some (.int r))) (F0 m 40 ls []))
    (h : (f_X3_close_b88 rec40 t0 t1 a0 a1 a3).1 σ = some (r, σ9)) (hI : xI E σ0 σ s H locs cells slots) (hl : lv_has ls 5 [(0, .ref a0), (1, .int a1), (3, .int a3)]) : W p l e R s m args below meth c H locs cells slots (xMQ E below args s σ0 σ9 (some (.int r))) (F0 m 88 ls [.int t1, .int t0]) := by
  have hx := hX.1.1
  have hb := hX.1.2.1
  delta f_X3_close_b88 at h
  refine lv_iadd hx hb dX3_close_88 ?_
  refine lv_istore_n (lv' := [(2, .int (t0 + t1)), (0, .ref a0), (1, .int a1), (3, .int a3)]) hx hb dX3_close_89 rfl hl (Nat.le_of_ble_eq_true rfl) rfl (fun ls hl => ?_)
  refine lv_iinc (k := 3) (lv' := [(3, .int (a3 + (1 : Int32))), (2, .int (t0 + t1)), (0, .ref a0), (1, .int a1)]) hx hb dX3_close_90 hl rfl (xiinc (by decide)) (Nat.le_of_ble_eq_true rfl) rfl (fun ls hl => ?_)
  refine lv_goto (tgt := 40) hx hb dX3_close_93 (by decide) ?_
  exact hrec40 a0 a1 (t0 + t1) (a3 + (1 : Int32)) _ _ _ _ _ _ h hI (lv_sub hl [2, 3, 1, 0] rfl)
theorem w_X3_close_b96 {a0 : Nat} {a2 : Int32} {r : Int32} (hX : xX E R p m c cX3_close 5 s args RX3 "close" meth (some .int) 2 43 σ0 σ9)
    (h : (f_X3_close_b96 a0 a2).1 σ = some (r, σ9)) (hI : xI E σ0 σ s H locs cells slots) (hl : lv_has ls 5 [(0, .ref a0), (2, .int a2)]) : W p l e R s m args below meth c H locs cells slots (xMQ E below args s σ0 σ9 (some (.int r))) (F0 m 96 ls []) := by
  have hx := hX.1.1
  have hb := hX.1.2.1
  delta f_X3_close_b96 at h
  refine lv_aload_n hx hb dX3_close_96 rfl (lv_at hl 0 rfl) ?_
  refine lv_iload_n hx hb dX3_close_97 rfl (lv_at hl 1 rfl) ?_
  refine xr_callV (iv := (fun b => some (.int b))) (As := [.int a2]) (rest := []) h hX hI (fun _ _ h => w_X3_acted h) (fun _ _ h => o_X3_acted h) rfl 1 (lw_V q2031 q2033 qs32 q87 q2034) ⟨rfl, xd_X3_acted⟩ ⟨rfl, rfl⟩ rfl hl.1 (Nat.le_of_ble_eq_true rfl) dX3_close_98 (fun v18 H locs σ cells slots h hI => ?_)
  refine W.eq (g2 := F0 m 101 ls [.int v18]) rfl ?_
  exact xr_ireturn h hX hI dX3_close_101
theorem w_X3_close_b40 {rec40 : Nat → Int32 → Int32 → Int32 → xM Int32} {a0 : Nat} {a1 : Int32} {a2 : Int32} {a3 : Int32} {r : Int32} (hX : xX E R p m c cX3_close 5 s args RX3 "close" meth (some .int) 2 43 σ0 σ9) (hrec40 : ∀ (a0 : Nat) (a1 : Int32) (a2 : Int32) (a3 : Int32) (σ : xS) (H : Heap) (locs : List Loc) (cells slots : Nat) (ls : Array Slot), (rec40 a0 a1 a2 a3).1 σ = some (r, σ9) → xI E σ0 σ s H locs cells slots → lv_has ls 5 [(0, .ref a0), (1, .int a1), (2, .int a2), (3, .int a3)] → W p l e R s m args below meth c H locs cells slots (xMQ E below args s σ0 σ9 (some (.int r))) (F0 m 40 ls []))
    (h : (f_X3_close_b40 rec40 a0 a1 a2 a3).1 σ = some (r, σ9)) (hI : xI E σ0 σ s H locs cells slots) (hl : lv_has ls 5 [(0, .ref a0), (1, .int a1), (2, .int a2), (3, .int a3)]) : W p l e R s m args below meth c H locs cells slots (xMQ E below args s σ0 σ9 (some (.int r))) (F0 m 40 ls []) := by
  have hx := hX.1.1
  have hb := hX.1.2.1
  delta f_X3_close_b40 at h
  refine lv_iload_n hx hb dX3_close_40 rfl (lv_at hl 3 rfl) ?_
  refine lv_aload_n hx hb dX3_close_41 rfl (lv_at hl 0 rfl) ?_
  refine lv_iload_n hx hb dX3_close_42 rfl (lv_at hl 1 rfl) ?_
  refine lv_iconst (v := (1 : Int32)) hx hb dX3_close_43 (by decide) ?_
  refine xr_callS (iv := (fun b => some (.int b))) (As := [.int a1, .int (1 : Int32)]) (rest := [.ref a0, .int a3]) h hX hI (fun _ _ h => w_X3_ofOrder h) 2 (lw_S q2075 q2076 q87 q2077) xd_X3_ofOrder ⟨rfl, rfl⟩ rfl hl.1 (Nat.le_of_ble_eq_true rfl) dX3_close_44 (fun v12 H locs σ cells slots h hI => ?_)
  refine W.eq (g2 := F0 m 47 ls [.int v12, .ref a0, .int a3]) rfl ?_
  refine xr_callV (iv := (fun b => some (.int b))) (As := [.int v12]) (rest := [.int a3]) h hX hI (fun _ _ h => w_X3_at h) (fun _ _ h => o_X3_at h) rfl 1 (lw_V q2022 q2024 qs31 q87 q2025) ⟨rfl, xd_X3_at⟩ ⟨rfl, rfl⟩ rfl hl.1 (Nat.le_of_ble_eq_true rfl) dX3_close_47 (fun v13 H locs σ cells slots h hI => ?_)
  refine W.eq (g2 := F0 m 50 ls [.int v13, .int a3]) rfl ?_
  refine lv_icmp_ge (tgt := 96) hx hb dX3_close_50 (by decide) (fun hc => ?_) (fun hc => ?_)
  · have h := xif_t h hc
    exact w_X3_close_b96 hX h hI (lv_sub hl [0, 2] rfl)
  · have h := xif_f h hc
    refine lv_aload_n hx hb dX3_close_53 rfl (lv_at hl 0 rfl) ?_
    refine lv_iload_n hx hb dX3_close_54 rfl (lv_at hl 1 rfl) ?_
    refine lv_iload_n hx hb dX3_close_55 rfl (lv_at hl 3 rfl) ?_
    refine lv_iconst (v := (1 : Int32)) hx hb dX3_close_56 (by decide) ?_
    refine xr_callS (iv := (fun b => some (.int b))) (As := [.int a1, .int a3, .int (1 : Int32)]) (rest := [.ref a0]) h hX hI (fun _ _ h => w_X3_ofLine h) 3 (lw_S q2103 q2104 q87 q2105) xd_X3_ofLine ⟨rfl, rfl⟩ rfl hl.1 (Nat.le_of_ble_eq_true rfl) dX3_close_57 (fun v14 H locs σ cells slots h hI => ?_)
    refine W.eq (g2 := F0 m 60 ls [.int v14, .ref a0]) rfl ?_
    refine xr_callV (iv := (fun b => some (.int b))) (As := [.int v14]) (rest := []) h hX hI (fun _ _ h => w_X3_at h) (fun _ _ h => o_X3_at h) rfl 1 (lw_V q2022 q2024 qs31 q87 q2025) ⟨rfl, xd_X3_at⟩ ⟨rfl, rfl⟩ rfl hl.1 (Nat.le_of_ble_eq_true rfl) dX3_close_60 (fun v15 H locs σ cells slots h hI => ?_)
    refine W.eq (g2 := F0 m 63 ls [.int v15]) rfl ?_
    refine lv_aload_n hx hb dX3_close_63 rfl (lv_at hl 0 rfl) ?_
    refine lv_iload_n hx hb dX3_close_64 rfl (lv_at hl 1 rfl) ?_
    refine lv_iload_n hx hb dX3_close_65 rfl (lv_at hl 3 rfl) ?_
    refine lv_iconst (v := (3 : Int32)) hx hb dX3_close_66 (by decide) ?_
    refine xr_callS (iv := (fun b => some (.int b))) (As := [.int a1, .int a3, .int (3 : Int32)]) (rest := [.ref a0, .int v15]) h hX hI (fun _ _ h => w_X3_ofLine h) 3 (lw_S q2103 q2104 q87 q2105) xd_X3_ofLine ⟨rfl, rfl⟩ rfl hl.1 (Nat.le_of_ble_eq_true rfl) dX3_close_67 (fun v16 H locs σ cells slots h hI => ?_)
    refine W.eq (g2 := F0 m 70 ls [.int v16, .ref a0, .int v15]) rfl ?_
    refine xr_callV (iv := (fun b => some (.int b))) (As := [.int v16]) (rest := [.int v15]) h hX hI (fun _ _ h => w_X3_at h) (fun _ _ h => o_X3_at h) rfl 1 (lw_V q2022 q2024 qs31 q87 q2025) ⟨rfl, xd_X3_at⟩ ⟨rfl, rfl⟩ rfl hl.1 (Nat.le_of_ble_eq_true rfl) dX3_close_70 (fun v17 H locs σ cells slots h hI => ?_)
    refine W.eq (g2 := F0 m 73 ls [.int v17, .int v15]) rfl ?_
    refine lv_isub hx hb dX3_close_73 ?_
    refine lv_istore (lv' := [(4, .int (v15 - v17)), (0, .ref a0), (1, .int a1), (2, .int a2), (3, .int a3)]) hx hb dX3_close_74 hl (Nat.le_of_ble_eq_true rfl) rfl (fun ls hl => ?_)
    refine lv_iload_n hx hb dX3_close_76 rfl (lv_at hl 3 rfl) ?_
    refine lv_iload hx hb dX3_close_77 (lv_at hl 0 rfl) ?_
    refine lv_if_le (tgt := 87) hx hb dX3_close_79 (by decide) (fun hc => ?_) (fun hc => ?_)
    · have h := xif_t h hc
      refine lv_iconst (v := (0 : Int32)) hx hb dX3_close_87 (by decide) ?_
      exact w_X3_close_b88 hX hrec40 h hI (lv_sub hl [1, 2, 4] rfl)
    · have h := xif_f h hc
      refine lv_iload hx hb dX3_close_82 (lv_at hl 0 rfl) ?_
      refine lv_goto (tgt := 88) hx hb dX3_close_84 (by decide) ?_
      exact w_X3_close_b88 hX hrec40 h hI (lv_sub hl [1, 2, 4] rfl)
theorem w_X3_close_L40 {r : Int32} (hX : xX E R p m c cX3_close 5 s args RX3 "close" meth (some .int) 2 43 σ0 σ9) : ∀ (n : Nat) (a0 : Nat) (a1 : Int32) (a2 : Int32) (a3 : Int32) (σ : xS) (H : Heap) (locs : List Loc) (cells slots : Nat) (ls : Array Slot), (f_X3_close_L40 n a0 a1 a2 a3).1 σ = some (r, σ9) → xI E σ0 σ s H locs cells slots → lv_has ls 5 [(0, .ref a0), (1, .int a1), (2, .int a2), (3, .int a3)] → W p l e R s m args below meth c H locs cells slots (xMQ E below args s σ0 σ9 (some (.int r))) (F0 m 40 ls []) := by
  intro n
  induction n with
  | zero =>
    intro a0 a1 a2 a3 σ H locs cells slots ls h
    exact xr_no h
  | succ n ih =>
    intro a0 a1 a2 a3 σ H locs cells slots ls h hI hl
    exact w_X3_close_b40 hX ih h hI hl
theorem o_X3_close {a0 : Nat} {a1 : Int32} {r : Int32} {σ σ9 : xS} (h : (f_X3_close a0 a1).1 σ = some (r, σ9)) : ∃ fs, σ.1 a0 = some (.inl (3, fs)) := xck_of h
theorem w_X3_close {E : xE} {l : Launch} {a0 : Nat} {a1 : Int32} {r : Int32} {σ σ9 : xS} (h : (f_X3_close a0 a1).1 σ = some (r, σ9)) : xMet E l yX3_close (ws_ yX3_close cX3_close 5 (some .int)) 2 43 [.ref a0, .int a1] σ σ9 (some (.int r)) := by
  refine xstart (by decide +kernel) ((f_X3_close a0 a1).2 _ _ _ h) (Nat.le_of_ble_eq_true rfl) ?_
  intro p e s m args below meth c H locs cells slots ls R hX hI hl
  have hx := hX.1.1
  have hb := hX.1.2.1
  have hl : lv_has ls 5 [(0, .ref a0), (1, .int a1)] := hl
  generalize hσ0 : σ = σ0 at hX hI ⊢
  have h : (f_X3_close a0 a1).1 σ0 = some (r, σ9) := by rw [← hσ0]; exact h
  clear hσ0
  delta f_X3_close at h
  have h := (xck_bd h).2
  refine lv_aload_n hx hb dX3_close_0 rfl (lv_at hl 0 rfl) ?_
  refine xr_callV (iv := (fun _ => none)) (As := []) (rest := []) h hX hI (fun _ _ h => w_X3_aside h) (fun _ _ h => o_X3_aside h) rfl 0 (lw_V q2018 q2020 qs30 q87 q2021) ⟨rfl, xd_X3_aside⟩ ⟨rfl, rfl⟩ rfl hl.1 (Nat.le_of_ble_eq_true rfl) dX3_close_1 (fun _ H locs σ cells slots h hI => ?_)
  refine lv_aload_n hx hb dX3_close_4 rfl (lv_at hl 0 rfl) ?_
  refine lv_iload_n hx hb dX3_close_5 rfl (lv_at hl 1 rfl) ?_
  refine xr_callV (iv := (fun b => some (.int b))) (As := [.int a1]) (rest := []) h hX hI (fun _ _ h => w_X3_isOrder h) (fun _ _ h => o_X3_isOrder h) rfl 1 (lw_V q2095 q2097 qs37 q87 q2098) ⟨rfl, xd_X3_isOrder⟩ ⟨rfl, rfl⟩ rfl hl.1 (Nat.le_of_ble_eq_true rfl) dX3_close_6 (fun v19 H locs σ cells slots h hI => ?_)
  refine W.eq (g2 := F0 m 9 ls [.int v19]) rfl ?_
  refine lv_if_ne (tgt := 14) hx hb dX3_close_9 (by decide) (fun hc => ?_) (fun hc => ?_)
  · have h := xif_f h hc
    refine lv_aload_n hx hb dX3_close_14 rfl (lv_at hl 0 rfl) ?_
    refine lv_iload_n hx hb dX3_close_15 rfl (lv_at hl 1 rfl) ?_
    refine xr_callV (iv := (fun b => some (.int b))) (As := [.int a1]) (rest := []) h hX hI (fun _ _ h => w_X3_isOpen h) (fun _ _ h => o_X3_isOpen h) rfl 1 (lw_V q2099 q2101 qs38 q87 q2102) ⟨rfl, xd_X3_isOpen⟩ ⟨rfl, rfl⟩ rfl hl.1 (Nat.le_of_ble_eq_true rfl) dX3_close_16 (fun v20 H locs σ cells slots h hI => ?_)
    refine W.eq (g2 := F0 m 19 ls [.int v20]) rfl ?_
    refine lv_if_ne (tgt := 25) hx hb dX3_close_19 (by decide) (fun hc => ?_) (fun hc => ?_)
    · have h := xif_f h hc
      refine lv_aload_n hx hb dX3_close_25 rfl (lv_at hl 0 rfl) ?_
      refine xr_gN h hX hI xl_X3_13_3.g dX3_close_26 (fun v21 h => ?_)
      refine lv_iload_n hx hb dX3_close_29 rfl (lv_at hl 1 rfl) ?_
      refine lv_iconst (v := (2 : Int32)) hx hb dX3_close_30 (by decide) ?_
      refine xr_callS (iv := (fun b => some (.int b))) (As := [.int a1, .int (2 : Int32)]) (rest := [.ref v21]) h hX hI (fun _ _ h => w_X3_ofOrder h) 2 (lw_S q2075 q2076 q87 q2077) xd_X3_ofOrder ⟨rfl, rfl⟩ rfl hl.1 (Nat.le_of_ble_eq_true rfl) dX3_close_31 (fun v22 H locs σ cells slots h hI => ?_)
      refine W.eq (g2 := F0 m 34 ls [.int v22, .ref v21]) rfl ?_
      refine lv_lconst (v := (1 : Int64)) hx hb dX3_close_34 (by decide) ?_
      refine xr_stL h hX hI dX3_close_35 (fun H locs σ h hI => ?_)
      refine lv_iconst (v := (0 : Int32)) hx hb dX3_close_36 (by decide) ?_
      refine lv_istore_n (lv' := [(2, .int (0 : Int32)), (0, .ref a0), (1, .int a1)]) hx hb dX3_close_37 rfl hl (Nat.le_of_ble_eq_true rfl) rfl (fun ls hl => ?_)
      refine lv_iconst (v := (0 : Int32)) hx hb dX3_close_38 (by decide) ?_
      refine lv_istore_n (lv' := [(3, .int (0 : Int32)), (2, .int (0 : Int32)), (0, .ref a0), (1, .int a1)]) hx hb dX3_close_39 rfl hl (Nat.le_of_ble_eq_true rfl) rfl (fun ls hl => ?_)
      exact w_X3_close_L40 hX xFU a0 a1 (0 : Int32) (0 : Int32) _ _ _ _ _ _ h hI (lv_sub hl [2, 3, 1, 0] rfl)
    · have h := xif_t h hc
      refine lv_bipush (v := (-4 : Int32)) hx hb dX3_close_22 (by decide) ?_
      exact xr_ireturn h hX hI dX3_close_24
  · have h := xif_t h hc
    refine lv_iconst (v := (-1 : Int32)) hx hb dX3_close_12 (by decide) ?_
    exact xr_ireturn h hX hI dX3_close_13
/-! PayMatch$Line.isUsed()Z  -/
theorem o_X5_isUsed {a0 : Nat} {r : Int32} {σ σ9 : xS} (h : (f_X5_isUsed a0).1 σ = some (r, σ9)) : ∃ fs, σ.1 a0 = some (.inl (5, fs)) := xck_of h
theorem w_X5_isUsed {E : xE} {l : Launch} {a0 : Nat} {r : Int32} {σ σ9 : xS} (h : (f_X5_isUsed a0).1 σ = some (r, σ9)) : xMet E l yX5_isUsed (ws_ yX5_isUsed cX5_isUsed 1 (some .boolean)) 0 0 [.ref a0] σ σ9 (some (.int r)) := by
  refine xstart (by decide +kernel) ((f_X5_isUsed a0).2 _ _ _ h) (Nat.le_of_ble_eq_true rfl) ?_
  intro p e s m args below meth c H locs cells slots ls R hX hI hl
  have hx := hX.1.1
  have hb := hX.1.2.1
  have hl : lv_has ls 1 [(0, .ref a0)] := hl
  generalize hσ0 : σ = σ0 at hX hI ⊢
  have h : (f_X5_isUsed a0).1 σ0 = some (r, σ9) := by rw [← hσ0]; exact h
  clear hσ0
  delta f_X5_isUsed at h
  have h := (xck_bd h).2
  refine lv_aload_n hx hb dX5_isUsed_0 rfl (lv_at hl 0 rfl) ?_
  refine xr_gI h hX hI xl_X5_25_5.g dX5_isUsed_1 (fun v4 h => ?_)
  refine lv_if_gt (tgt := 21) hx hb dX5_isUsed_4 (by decide) (fun hc => ?_) (fun hc => ?_)
  · have h := xif_t h hc
    refine lv_iconst (v := (1 : Int32)) hx hb dX5_isUsed_21 (by decide) ?_
    refine lv_goto (tgt := 26) hx hb dX5_isUsed_22 (by decide) ?_
    exact xr_zreturn h hX hI dX5_isUsed_26
  · have h := xif_f h hc
    refine lv_aload_n hx hb dX5_isUsed_7 rfl (lv_at hl 0 rfl) ?_
    refine xr_gI h hX hI xl_X5_31_5.g dX5_isUsed_8 (fun v5 h => ?_)
    refine lv_if_gt (tgt := 21) hx hb dX5_isUsed_11 (by decide) (fun hc => ?_) (fun hc => ?_)
    · have h := xif_t h hc
      refine lv_iconst (v := (1 : Int32)) hx hb dX5_isUsed_21 (by decide) ?_
      refine lv_goto (tgt := 26) hx hb dX5_isUsed_22 (by decide) ?_
      exact xr_zreturn h hX hI dX5_isUsed_26
    · have h := xif_f h hc
      refine lv_aload_n hx hb dX5_isUsed_14 rfl (lv_at hl 0 rfl) ?_
      refine xr_gI h hX hI xl_X5_34_5.g dX5_isUsed_15 (fun v6 h => ?_)
      refine lv_if_le (tgt := 25) hx hb dX5_isUsed_18 (by decide) (fun hc => ?_) (fun hc => ?_)
      · have h := xif_t h hc
        refine lv_iconst (v := (0 : Int32)) hx hb dX5_isUsed_25 (by decide) ?_
        exact xr_zreturn h hX hI dX5_isUsed_26
      · have h := xif_f h hc
        refine lv_iconst (v := (1 : Int32)) hx hb dX5_isUsed_21 (by decide) ?_
        refine lv_goto (tgt := 26) hx hb dX5_isUsed_22 (by decide) ?_
        exact xr_zreturn h hX hI dX5_isUsed_26
/-! PayMatch$Order.isUsed()Z  -/
theorem w_X6_isUsed_b45 {rec10 : Int32 → Nat → xM Int32} {t0 : Int32} {a2 : Nat} {r : Int32} (hX : xX E R p m c cX6_isUsed 4 s args RX6 "isUsed" meth (some .boolean) 4 121 σ0 σ9) (hrec10 : ∀ (a1 : Int32) (a2 : Nat) (σ : xS) (H : Heap) (locs : List Loc) (cells slots : Nat) (ls : Array Slot), (rec10 a1 a2).1 σ = some (r, σ9) → xI E σ0 σ s H locs cells slots → lv_has ls 4 [(1, .int a1), (2, .ref a2)] → W p l e R s m args below meth c H locs cells slots (xMQ E below args s σ0 σ9 (some (.int r))) (F0 m 10 ls []))
    (h : (f_X6_isUsed_b45 rec10 t0 a2).1 σ = some (r, σ9)) (hI : xI E σ0 σ s H locs cells slots) (hl : lv_has ls 4 [(2, .ref a2)]) : W p l e R s m args below meth c H locs cells slots (xMQ E below args s σ0 σ9 (some (.int r))) (F0 m 45 ls [.int t0]) := by
  have hx := hX.1.1
  have hb := hX.1.2.1
  delta f_X6_isUsed_b45 at h
  refine lv_istore_n (lv' := [(1, .int t0), (2, .ref a2)]) hx hb dX6_isUsed_45 rfl hl (Nat.le_of_ble_eq_true rfl) rfl (fun ls hl => ?_)
  refine lv_goto (tgt := 10) hx hb dX6_isUsed_46 (by decide) ?_
  exact hrec10 t0 a2 _ _ _ _ _ _ h hI (lv_sub hl [0, 1] rfl)
theorem w_X6_isUsed_b40 {rec10 : Int32 → Nat → xM Int32} {a2 : Nat} {r : Int32} (hX : xX E R p m c cX6_isUsed 4 s args RX6 "isUsed" meth (some .boolean) 4 121 σ0 σ9) (hrec10 : ∀ (a1 : Int32) (a2 : Nat) (σ : xS) (H : Heap) (locs : List Loc) (cells slots : Nat) (ls : Array Slot), (rec10 a1 a2).1 σ = some (r, σ9) → xI E σ0 σ s H locs cells slots → lv_has ls 4 [(1, .int a1), (2, .ref a2)] → W p l e R s m args below meth c H locs cells slots (xMQ E below args s σ0 σ9 (some (.int r))) (F0 m 10 ls []))
    (h : (f_X6_isUsed_b40 rec10 a2).1 σ = some (r, σ9)) (hI : xI E σ0 σ s H locs cells slots) (hl : lv_has ls 4 [(2, .ref a2)]) : W p l e R s m args below meth c H locs cells slots (xMQ E below args s σ0 σ9 (some (.int r))) (F0 m 40 ls []) := by
  have hx := hX.1.1
  have hb := hX.1.2.1
  delta f_X6_isUsed_b40 at h
  refine lv_iconst (v := (1 : Int32)) hx hb dX6_isUsed_40 (by decide) ?_
  refine lv_goto (tgt := 45) hx hb dX6_isUsed_41 (by decide) ?_
  exact w_X6_isUsed_b45 hX hrec10 h hI (lv_sub hl [0] rfl)
theorem w_X6_isUsed_b10 {rec10 : Int32 → Nat → xM Int32} {a1 : Int32} {a2 : Nat} {r : Int32} (hX : xX E R p m c cX6_isUsed 4 s args RX6 "isUsed" meth (some .boolean) 4 121 σ0 σ9) (hrec10 : ∀ (a1 : Int32) (a2 : Nat) (σ : xS) (H : Heap) (locs : List Loc) (cells slots : Nat) (ls : Array Slot), (rec10 a1 a2).1 σ = some (r, σ9) → xI E σ0 σ s H locs cells slots → lv_has ls 4 [(1, .int a1), (2, .ref a2)] → W p l e R s m args below meth c H locs cells slots (xMQ E below args s σ0 σ9 (some (.int r))) (F0 m 10 ls []))
    (h : (f_X6_isUsed_b10 rec10 a1 a2).1 σ = some (r, σ9)) (hI : xI E σ0 σ s H locs cells slots) (hl : lv_has ls 4 [(1, .int a1), (2, .ref a2)]) : W p l e R s m args below meth c H locs cells slots (xMQ E below args s σ0 σ9 (some (.int r))) (F0 m 10 ls []) := by
  have hx := hX.1.1
  have hb := hX.1.2.1
  delta f_X6_isUsed_b10 at h
  refine lv_aload_n hx hb dX6_isUsed_10 rfl (lv_at hl 1 rfl) ?_
  refine xr_callF (iv := (fun b => some (.int b))) (As := []) (rest := []) h hX hI (fun _ _ h => w_J10_hasNext h) (fun _ _ h => o_J10_hasNext h) rfl 0 xfw_4 q1418 q460 q462 q89 q464 xdi_4 ⟨rfl, rfl⟩ rfl hl.1 (Nat.le_of_ble_eq_true rfl) dX6_isUsed_11 (fun v6 H locs σ cells slots h hI => ?_)
  refine W.eq (g2 := F0 m 16 ls [.int v6]) rfl ?_
  refine lv_if_eq (tgt := 49) hx hb dX6_isUsed_16 (by decide) (fun hc => ?_) (fun hc => ?_)
  · have h := xif_t h hc
    refine lv_iload_n hx hb dX6_isUsed_49 rfl (lv_at hl 0 rfl) ?_
    exact xr_zreturn h hX hI dX6_isUsed_50
  · have h := xif_f h hc
    refine lv_aload_n hx hb dX6_isUsed_19 rfl (lv_at hl 1 rfl) ?_
    refine xr_callF (iv := (fun b => some (.ref b))) (As := []) (rest := []) h hX hI (fun _ _ h => w_J10_next h) (fun _ _ h => o_J10_next h) rfl 0 xfw_6 q1420 q828 q830 q89 q832 xdi_6 ⟨rfl, rfl⟩ rfl hl.1 (Nat.le_of_ble_eq_true rfl) dX6_isUsed_20 (fun v7 H locs σ cells slots h hI => ?_)
    refine W.eq (g2 := F0 m 25 ls [.ref v7]) rfl ?_
    refine xr_cks h hX hI xc_X6_58 dX6_isUsed_25 (fun h => ?_)
    refine lv_astore_n (lv' := [(3, .ref v7), (1, .int a1), (2, .ref a2)]) hx hb dX6_isUsed_28 rfl hl (Nat.le_of_ble_eq_true rfl) rfl (fun ls hl => ?_)
    refine lv_iload_n hx hb dX6_isUsed_29 rfl (lv_at hl 1 rfl) ?_
    refine lv_if_ne (tgt := 40) hx hb dX6_isUsed_30 (by decide) (fun hc => ?_) (fun hc => ?_)
    · have h := xif_f h hc
      exact w_X6_isUsed_b40 hX hrec10 h hI (lv_sub hl [2] rfl)
    · have h := xif_t h hc
      refine lv_aload_n hx hb dX6_isUsed_33 rfl (lv_at hl 0 rfl) ?_
      refine xr_callV (iv := (fun b => some (.int b))) (As := []) (rest := []) h hX hI (fun _ _ h => w_X5_isUsed h) (fun _ _ h => o_X5_isUsed h) rfl 0 (lw_V q1422 q1423 q1424 q106 q1425) ⟨rfl, xd_X5_isUsed⟩ ⟨rfl, rfl⟩ rfl hl.1 (Nat.le_of_ble_eq_true rfl) dX6_isUsed_34 (fun v8 H locs σ cells slots h hI => ?_)
      refine W.eq (g2 := F0 m 37 ls [.int v8]) rfl ?_
      refine lv_if_eq (tgt := 44) hx hb dX6_isUsed_37 (by decide) (fun hc => ?_) (fun hc => ?_)
      · have h := xif_t h hc
        refine lv_iconst (v := (0 : Int32)) hx hb dX6_isUsed_44 (by decide) ?_
        exact w_X6_isUsed_b45 hX hrec10 h hI (lv_sub hl [2] rfl)
      · have h := xif_f h hc
        exact w_X6_isUsed_b40 hX hrec10 h hI (lv_sub hl [2] rfl)
theorem w_X6_isUsed_L10 {r : Int32} (hX : xX E R p m c cX6_isUsed 4 s args RX6 "isUsed" meth (some .boolean) 4 121 σ0 σ9) : ∀ (n : Nat) (a1 : Int32) (a2 : Nat) (σ : xS) (H : Heap) (locs : List Loc) (cells slots : Nat) (ls : Array Slot), (f_X6_isUsed_L10 n a1 a2).1 σ = some (r, σ9) → xI E σ0 σ s H locs cells slots → lv_has ls 4 [(1, .int a1), (2, .ref a2)] → W p l e R s m args below meth c H locs cells slots (xMQ E below args s σ0 σ9 (some (.int r))) (F0 m 10 ls []) := by
  intro n
  induction n with
  | zero =>
    intro a1 a2 σ H locs cells slots ls h
    exact xr_no h
  | succ n ih =>
    intro a1 a2 σ H locs cells slots ls h hI hl
    exact w_X6_isUsed_b10 hX ih h hI hl
theorem o_X6_isUsed {a0 : Nat} {r : Int32} {σ σ9 : xS} (h : (f_X6_isUsed a0).1 σ = some (r, σ9)) : ∃ fs, σ.1 a0 = some (.inl (6, fs)) := xck_of h
theorem w_X6_isUsed {E : xE} {l : Launch} {a0 : Nat} {r : Int32} {σ σ9 : xS} (h : (f_X6_isUsed a0).1 σ = some (r, σ9)) : xMet E l yX6_isUsed (ws_ yX6_isUsed cX6_isUsed 4 (some .boolean)) 4 121 [.ref a0] σ σ9 (some (.int r)) := by
  refine xstart (by decide +kernel) ((f_X6_isUsed a0).2 _ _ _ h) (Nat.le_of_ble_eq_true rfl) ?_
  intro p e s m args below meth c H locs cells slots ls R hX hI hl
  have hx := hX.1.1
  have hb := hX.1.2.1
  have hl : lv_has ls 4 [(0, .ref a0)] := hl
  generalize hσ0 : σ = σ0 at hX hI ⊢
  have h : (f_X6_isUsed a0).1 σ0 = some (r, σ9) := by rw [← hσ0]; exact h
  clear hσ0
  delta f_X6_isUsed at h
  have h := (xck_bd h).2
  refine lv_iconst (v := (0 : Int32)) hx hb dX6_isUsed_0 (by decide) ?_
  refine lv_istore_n (lv' := [(1, .int (0 : Int32)), (0, .ref a0)]) hx hb dX6_isUsed_1 rfl hl (Nat.le_of_ble_eq_true rfl) rfl (fun ls hl => ?_)
  refine lv_aload_n hx hb dX6_isUsed_2 rfl (lv_at hl 1 rfl) ?_
  refine xr_gN h hX hI xl_X6_12_6.g dX6_isUsed_3 (fun v9 h => ?_)
  refine xr_callV (iv := (fun b => some (.ref b))) (As := []) (rest := []) h hX hI (fun _ _ h => w_X2_iterator h) (fun _ _ h => o_X2_iterator h) rfl 0 (lw_V q1416 q1277 q1278 q76 q1279) ⟨rfl, xd_X2_iterator⟩ ⟨rfl, rfl⟩ rfl hl.1 (Nat.le_of_ble_eq_true rfl) dX6_isUsed_6 (fun v10 H locs σ cells slots h hI => ?_)
  refine W.eq (g2 := F0 m 9 ls [.ref v10]) rfl ?_
  refine lv_astore_n (lv' := [(2, .ref v10), (1, .int (0 : Int32)), (0, .ref a0)]) hx hb dX6_isUsed_9 rfl hl (Nat.le_of_ble_eq_true rfl) rfl (fun ls hl => ?_)
  exact w_X6_isUsed_L10 hX xFU (0 : Int32) v10 _ _ _ _ _ _ h hI (lv_sub hl [1, 0] rfl)
/-! PayMatch.cancel(I)I  -/
theorem o_X0_cancel {a0 : Nat} {a1 : Int32} {r : Int32} {σ σ9 : xS} (h : (f_X0_cancel a0 a1).1 σ = some (r, σ9)) : ∃ fs, σ.1 a0 = some (.inl (0, fs)) := xck_of h
theorem w_X0_cancel {E : xE} {l : Launch} {a0 : Nat} {a1 : Int32} {r : Int32} {σ σ9 : xS} (h : (f_X0_cancel a0 a1).1 σ = some (r, σ9)) : xMet E l yX0_cancel (ws_ yX0_cancel cX0_cancel 3 (some .int)) 15 462 [.ref a0, .int a1] σ σ9 (some (.int r)) := by
  refine xstart (by decide +kernel) ((f_X0_cancel a0 a1).2 _ _ _ h) (Nat.le_of_ble_eq_true rfl) ?_
  intro p e s m args below meth c H locs cells slots ls R hX hI hl
  have hx := hX.1.1
  have hb := hX.1.2.1
  have hl : lv_has ls 3 [(0, .ref a0), (1, .int a1)] := hl
  generalize hσ0 : σ = σ0 at hX hI ⊢
  have h : (f_X0_cancel a0 a1).1 σ0 = some (r, σ9) := by rw [← hσ0]; exact h
  clear hσ0
  delta f_X0_cancel at h
  have h := (xck_bd h).2
  refine lv_aload_n hx hb dX0_cancel_0 rfl (lv_at hl 0 rfl) ?_
  refine xr_gN h hX hI xl_X0_22_0.g dX0_cancel_1 (fun v12 h => ?_)
  refine xr_gN h hX hI xl_X0_130_1.g dX0_cancel_4 (fun v13 h => ?_)
  refine lv_iload_n hx hb dX0_cancel_7 rfl (lv_at hl 1 rfl) ?_
  refine xr_callV (iv := (fun b => some (.int b))) (As := [.int a1]) (rest := []) h hX hI (fun _ _ h => w_X2_has h) (fun _ _ h => o_X2_has h) rfl 1 (lw_V q1225 q1226 q1227 q76 q1228) ⟨rfl, xd_X2_has⟩ ⟨rfl, rfl⟩ rfl hl.1 (Nat.le_of_ble_eq_true rfl) dX0_cancel_8 (fun v14 H locs σ cells slots h hI => ?_)
  refine W.eq (g2 := F0 m 11 ls [.int v14]) rfl ?_
  refine lv_if_ne (tgt := 16) hx hb dX0_cancel_11 (by decide) (fun hc => ?_) (fun hc => ?_)
  · have h := xif_f h hc
    refine lv_aload_n hx hb dX0_cancel_16 rfl (lv_at hl 0 rfl) ?_
    refine xr_gN h hX hI xl_X0_22_0.g dX0_cancel_17 (fun v15 h => ?_)
    refine xr_gN h hX hI xl_X0_130_1.g dX0_cancel_20 (fun v16 h => ?_)
    refine lv_iload_n hx hb dX0_cancel_23 rfl (lv_at hl 1 rfl) ?_
    refine xr_callV (iv := (fun b => some (.ref b))) (As := [.int a1]) (rest := []) h hX hI (fun _ _ h => w_X2_get h) (fun _ _ h => o_X2_get h) rfl 1 (lw_V q1249 q1250 q1251 q76 q1252) ⟨rfl, xd_X2_get⟩ ⟨rfl, rfl⟩ rfl hl.1 (Nat.le_of_ble_eq_true rfl) dX0_cancel_24 (fun v17 H locs σ cells slots h hI => ?_)
    refine W.eq (g2 := F0 m 27 ls [.ref v17]) rfl ?_
    refine xr_cks h hX hI xc_X0_133 dX0_cancel_27 (fun h => ?_)
    refine lv_astore_n (lv' := [(2, .ref v17), (0, .ref a0), (1, .int a1)]) hx hb dX0_cancel_30 rfl hl (Nat.le_of_ble_eq_true rfl) rfl (fun ls hl => ?_)
    refine lv_aload_n hx hb dX0_cancel_31 rfl (lv_at hl 1 rfl) ?_
    refine lv_iload_n hx hb dX0_cancel_32 rfl (lv_at hl 2 rfl) ?_
    refine xr_callV (iv := (fun b => some (.int b))) (As := [.int a1]) (rest := []) h hX hI (fun _ _ h => w_X0_isOpen h) (fun _ _ h => o_X0_isOpen h) rfl 1 (lw_V q1308 q1310 qs12 q74 q1311) ⟨rfl, xd_X0_isOpen⟩ ⟨rfl, rfl⟩ rfl hl.1 (Nat.le_of_ble_eq_true rfl) dX0_cancel_33 (fun v18 H locs σ cells slots h hI => ?_)
    refine W.eq (g2 := F0 m 36 ls [.int v18]) rfl ?_
    refine lv_if_eq (tgt := 62) hx hb dX0_cancel_36 (by decide) (fun hc => ?_) (fun hc => ?_)
    · have h := xif_t h hc
      refine lv_bipush (v := (-4 : Int32)) hx hb dX0_cancel_62 (by decide) ?_
      exact xr_ireturn h hX hI dX0_cancel_64
    · have h := xif_f h hc
      refine lv_aload_n hx hb dX0_cancel_39 rfl (lv_at hl 0 rfl) ?_
      refine xr_callV (iv := (fun b => some (.int b))) (As := []) (rest := []) h hX hI (fun _ _ h => w_X6_isUsed h) (fun _ _ h => o_X6_isUsed h) rfl 0 (lw_V q1412 q1413 q1414 q107 q1415) ⟨rfl, xd_X6_isUsed⟩ ⟨rfl, rfl⟩ rfl hl.1 (Nat.le_of_ble_eq_true rfl) dX0_cancel_40 (fun v19 H locs σ cells slots h hI => ?_)
      refine W.eq (g2 := F0 m 43 ls [.int v19]) rfl ?_
      refine lv_if_ne (tgt := 62) hx hb dX0_cancel_43 (by decide) (fun hc => ?_) (fun hc => ?_)
      · have h := xif_f h hc
        refine lv_bipush (v := (-4 : Int32)) hx hb dX0_cancel_62 (by decide) ?_
        exact xr_ireturn h hX hI dX0_cancel_64
      · have h := xif_t h hc
        refine lv_aload_n hx hb dX0_cancel_46 rfl (lv_at hl 1 rfl) ?_
        refine lv_iload_n hx hb dX0_cancel_47 rfl (lv_at hl 2 rfl) ?_
        refine lv_iconst (v := (2 : Int32)) hx hb dX0_cancel_48 (by decide) ?_
        refine lv_aload_n hx hb dX0_cancel_49 rfl (lv_at hl 0 rfl) ?_
        refine xr_gN h hX hI xl_X0_150_6.g dX0_cancel_50 (fun v20 h => ?_)
        refine xr_callV (iv := (fun b => some (.int b))) (As := []) (rest := [.int (2 : Int32), .int a1, .ref a0]) h hX hI (fun _ _ h => w_X2_size h) (fun _ _ h => o_X2_size h) rfl 0 (lw_V q303 q304 q305 q76 q306) ⟨rfl, xd_X2_size⟩ ⟨rfl, rfl⟩ rfl hl.1 (Nat.le_of_ble_eq_true rfl) dX0_cancel_53 (fun v21 H locs σ cells slots h hI => ?_)
        refine W.eq (g2 := F0 m 56 ls [.int v21, .int (2 : Int32), .int a1, .ref a0]) rfl ?_
        refine xr_callV (iv := (fun b => some (.int b))) (As := [.int a1, .int (2 : Int32), .int v21]) (rest := []) h hX hI (fun _ _ h => w_X0_setState h) (fun _ _ h => o_X0_setState h) rfl 3 (lw_V q1404 q1406 qs13 q74 q1407) ⟨rfl, xd_X0_setState⟩ ⟨rfl, rfl⟩ rfl hl.1 (Nat.le_of_ble_eq_true rfl) dX0_cancel_56 (fun v22 H locs σ cells slots h hI => ?_)
        refine W.eq (g2 := F0 m 59 ls [.int v22]) rfl ?_
        refine lv_goto (tgt := 64) hx hb dX0_cancel_59 (by decide) ?_
        exact xr_ireturn h hX hI dX0_cancel_64
  · have h := xif_t h hc
    refine lv_iconst (v := (-1 : Int32)) hx hb dX0_cancel_14 (by decide) ?_
    exact xr_ireturn h hX hI dX0_cancel_15
/-! PayMatchModel.cancel(I)I  -/
theorem w_X3_cancel_b73 {a0 : Nat} {a1 : Int32} {a2 : Int32} {r : Int32} (hX : xX E R p m c cX3_cancel 4 s args RX3 "cancel" meth (some .int) 2 43 σ0 σ9)
    (h : (f_X3_cancel_b73 a0 a1 a2).1 σ = some (r, σ9)) (hI : xI E σ0 σ s H locs cells slots) (hl : lv_has ls 4 [(0, .ref a0), (1, .int a1), (2, .int a2)]) : W p l e R s m args below meth c H locs cells slots (xMQ E below args s σ0 σ9 (some (.int r))) (F0 m 73 ls []) := by
  have hx := hX.1.1
  have hb := hX.1.2.1
  delta f_X3_cancel_b73 at h
  refine lv_aload_n hx hb dX3_cancel_73 rfl (lv_at hl 0 rfl) ?_
  refine lv_iload_n hx hb dX3_cancel_74 rfl (lv_at hl 1 rfl) ?_
  refine xr_callV (iv := (fun b => some (.int b))) (As := [.int a1]) (rest := []) h hX hI (fun _ _ h => w_X3_isOpen h) (fun _ _ h => o_X3_isOpen h) rfl 1 (lw_V q2099 q2101 qs38 q87 q2102) ⟨rfl, xd_X3_isOpen⟩ ⟨rfl, rfl⟩ rfl hl.1 (Nat.le_of_ble_eq_true rfl) dX3_cancel_75 (fun v24 H locs σ cells slots h hI => ?_)
  refine W.eq (g2 := F0 m 78 ls [.int v24]) rfl ?_
  refine lv_if_eq (tgt := 85) hx hb dX3_cancel_78 (by decide) (fun hc => ?_) (fun hc => ?_)
  · have h := xif_t h hc
    refine lv_bipush (v := (-4 : Int32)) hx hb dX3_cancel_85 (by decide) ?_
    exact xr_ireturn h hX hI dX3_cancel_87
  · have h := xif_f h hc
    refine lv_iload_n hx hb dX3_cancel_81 rfl (lv_at hl 2 rfl) ?_
    refine lv_if_le (tgt := 88) hx hb dX3_cancel_82 (by decide) (fun hc => ?_) (fun hc => ?_)
    · have h := xif_t h hc
      refine lv_aload_n hx hb dX3_cancel_88 rfl (lv_at hl 0 rfl) ?_
      refine xr_gN h hX hI xl_X3_13_3.g dX3_cancel_89 (fun v25 h => ?_)
      refine lv_iload_n hx hb dX3_cancel_92 rfl (lv_at hl 1 rfl) ?_
      refine lv_iconst (v := (2 : Int32)) hx hb dX3_cancel_93 (by decide) ?_
      refine xr_callS (iv := (fun b => some (.int b))) (As := [.int a1, .int (2 : Int32)]) (rest := [.ref v25]) h hX hI (fun _ _ h => w_X3_ofOrder h) 2 (lw_S q2075 q2076 q87 q2077) xd_X3_ofOrder ⟨rfl, rfl⟩ rfl hl.1 (Nat.le_of_ble_eq_true rfl) dX3_cancel_94 (fun v26 H locs σ cells slots h hI => ?_)
      refine W.eq (g2 := F0 m 97 ls [.int v26, .ref v25]) rfl ?_
      refine lv_ldc2 (v := (2 : Int64)) hx hb hX.1.2.2.2.1 (hX.1.2.2.2.2 _ q2122) dX3_cancel_97 ?_
      refine xr_stL h hX hI dX3_cancel_100 (fun H locs σ h hI => ?_)
      refine lv_aload_n hx hb dX3_cancel_101 rfl (lv_at hl 0 rfl) ?_
      refine lv_aload_n hx hb dX3_cancel_102 rfl (lv_at hl 0 rfl) ?_
      refine lv_iload_n hx hb dX3_cancel_103 rfl (lv_at hl 1 rfl) ?_
      refine lv_iconst (v := (1 : Int32)) hx hb dX3_cancel_104 (by decide) ?_
      refine xr_callS (iv := (fun b => some (.int b))) (As := [.int a1, .int (1 : Int32)]) (rest := [.ref a0, .ref a0]) h hX hI (fun _ _ h => w_X3_ofOrder h) 2 (lw_S q2075 q2076 q87 q2077) xd_X3_ofOrder ⟨rfl, rfl⟩ rfl hl.1 (Nat.le_of_ble_eq_true rfl) dX3_cancel_105 (fun v27 H locs σ cells slots h hI => ?_)
      refine W.eq (g2 := F0 m 108 ls [.int v27, .ref a0, .ref a0]) rfl ?_
      refine xr_callV (iv := (fun b => some (.int b))) (As := [.int v27]) (rest := [.ref a0]) h hX hI (fun _ _ h => w_X3_at h) (fun _ _ h => o_X3_at h) rfl 1 (lw_V q2022 q2024 qs31 q87 q2025) ⟨rfl, xd_X3_at⟩ ⟨rfl, rfl⟩ rfl hl.1 (Nat.le_of_ble_eq_true rfl) dX3_cancel_108 (fun v28 H locs σ cells slots h hI => ?_)
      refine W.eq (g2 := F0 m 111 ls [.int v28, .ref a0]) rfl ?_
      refine xr_callV (iv := (fun b => some (.int b))) (As := [.int v28]) (rest := []) h hX hI (fun _ _ h => w_X3_acted h) (fun _ _ h => o_X3_acted h) rfl 1 (lw_V q2031 q2033 qs32 q87 q2034) ⟨rfl, xd_X3_acted⟩ ⟨rfl, rfl⟩ rfl hl.1 (Nat.le_of_ble_eq_true rfl) dX3_cancel_111 (fun v29 H locs σ cells slots h hI => ?_)
      refine W.eq (g2 := F0 m 114 ls [.int v29]) rfl ?_
      exact xr_ireturn h hX hI dX3_cancel_114
    · have h := xif_f h hc
      refine lv_bipush (v := (-4 : Int32)) hx hb dX3_cancel_85 (by decide) ?_
      exact xr_ireturn h hX hI dX3_cancel_87
theorem w_X3_cancel_b18 {rec18 : Nat → Int32 → Int32 → Int32 → xM Int32} {a0 : Nat} {a1 : Int32} {a2 : Int32} {a3 : Int32} {r : Int32} (hX : xX E R p m c cX3_cancel 4 s args RX3 "cancel" meth (some .int) 2 43 σ0 σ9) (hrec18 : ∀ (a0 : Nat) (a1 : Int32) (a2 : Int32) (a3 : Int32) (σ : xS) (H : Heap) (locs : List Loc) (cells slots : Nat) (ls : Array Slot), (rec18 a0 a1 a2 a3).1 σ = some (r, σ9) → xI E σ0 σ s H locs cells slots → lv_has ls 4 [(0, .ref a0), (1, .int a1), (2, .int a2), (3, .int a3)] → W p l e R s m args below meth c H locs cells slots (xMQ E below args s σ0 σ9 (some (.int r))) (F0 m 18 ls []))
    (h : (f_X3_cancel_b18 rec18 a0 a1 a2 a3).1 σ = some (r, σ9)) (hI : xI E σ0 σ s H locs cells slots) (hl : lv_has ls 4 [(0, .ref a0), (1, .int a1), (2, .int a2), (3, .int a3)]) : W p l e R s m args below meth c H locs cells slots (xMQ E below args s σ0 σ9 (some (.int r))) (F0 m 18 ls []) := by
  have hx := hX.1.1
  have hb := hX.1.2.1
  delta f_X3_cancel_b18 at h
  refine lv_iload_n hx hb dX3_cancel_18 rfl (lv_at hl 3 rfl) ?_
  refine lv_aload_n hx hb dX3_cancel_19 rfl (lv_at hl 0 rfl) ?_
  refine lv_iload_n hx hb dX3_cancel_20 rfl (lv_at hl 1 rfl) ?_
  refine lv_iconst (v := (1 : Int32)) hx hb dX3_cancel_21 (by decide) ?_
  refine xr_callS (iv := (fun b => some (.int b))) (As := [.int a1, .int (1 : Int32)]) (rest := [.ref a0, .int a3]) h hX hI (fun _ _ h => w_X3_ofOrder h) 2 (lw_S q2075 q2076 q87 q2077) xd_X3_ofOrder ⟨rfl, rfl⟩ rfl hl.1 (Nat.le_of_ble_eq_true rfl) dX3_cancel_22 (fun v16 H locs σ cells slots h hI => ?_)
  refine W.eq (g2 := F0 m 25 ls [.int v16, .ref a0, .int a3]) rfl ?_
  refine xr_callV (iv := (fun b => some (.int b))) (As := [.int v16]) (rest := [.int a3]) h hX hI (fun _ _ h => w_X3_at h) (fun _ _ h => o_X3_at h) rfl 1 (lw_V q2022 q2024 qs31 q87 q2025) ⟨rfl, xd_X3_at⟩ ⟨rfl, rfl⟩ rfl hl.1 (Nat.le_of_ble_eq_true rfl) dX3_cancel_25 (fun v17 H locs σ cells slots h hI => ?_)
  refine W.eq (g2 := F0 m 28 ls [.int v17, .int a3]) rfl ?_
  refine lv_icmp_ge (tgt := 73) hx hb dX3_cancel_28 (by decide) (fun hc => ?_) (fun hc => ?_)
  · have h := xif_t h hc
    exact w_X3_cancel_b73 hX h hI (lv_sub hl [0, 1, 2] rfl)
  · have h := xif_f h hc
    refine lv_iload_n hx hb dX3_cancel_31 rfl (lv_at hl 2 rfl) ?_
    refine lv_aload_n hx hb dX3_cancel_32 rfl (lv_at hl 0 rfl) ?_
    refine lv_iload_n hx hb dX3_cancel_33 rfl (lv_at hl 1 rfl) ?_
    refine lv_iload_n hx hb dX3_cancel_34 rfl (lv_at hl 3 rfl) ?_
    refine lv_iconst (v := (3 : Int32)) hx hb dX3_cancel_35 (by decide) ?_
    refine xr_callS (iv := (fun b => some (.int b))) (As := [.int a1, .int a3, .int (3 : Int32)]) (rest := [.ref a0, .int a2]) h hX hI (fun _ _ h => w_X3_ofLine h) 3 (lw_S q2103 q2104 q87 q2105) xd_X3_ofLine ⟨rfl, rfl⟩ rfl hl.1 (Nat.le_of_ble_eq_true rfl) dX3_cancel_36 (fun v18 H locs σ cells slots h hI => ?_)
    refine W.eq (g2 := F0 m 39 ls [.int v18, .ref a0, .int a2]) rfl ?_
    refine xr_callV (iv := (fun b => some (.int b))) (As := [.int v18]) (rest := [.int a2]) h hX hI (fun _ _ h => w_X3_at h) (fun _ _ h => o_X3_at h) rfl 1 (lw_V q2022 q2024 qs31 q87 q2025) ⟨rfl, xd_X3_at⟩ ⟨rfl, rfl⟩ rfl hl.1 (Nat.le_of_ble_eq_true rfl) dX3_cancel_39 (fun v19 H locs σ cells slots h hI => ?_)
    refine W.eq (g2 := F0 m 42 ls [.int v19, .int a2]) rfl ?_
    refine lv_aload_n hx hb dX3_cancel_42 rfl (lv_at hl 0 rfl) ?_
    refine lv_iload_n hx hb dX3_cancel_43 rfl (lv_at hl 1 rfl) ?_
    refine lv_iload_n hx hb dX3_cancel_44 rfl (lv_at hl 3 rfl) ?_
    refine lv_iconst (v := (5 : Int32)) hx hb dX3_cancel_45 (by decide) ?_
    refine xr_callS (iv := (fun b => some (.int b))) (As := [.int a1, .int a3, .int (5 : Int32)]) (rest := [.ref a0, .int v19, .int a2]) h hX hI (fun _ _ h => w_X3_ofLine h) 3 (lw_S q2103 q2104 q87 q2105) xd_X3_ofLine ⟨rfl, rfl⟩ rfl hl.1 (Nat.le_of_ble_eq_true rfl) dX3_cancel_46 (fun v20 H locs σ cells slots h hI => ?_)
    refine W.eq (g2 := F0 m 49 ls [.int v20, .ref a0, .int v19, .int a2]) rfl ?_
    refine xr_callV (iv := (fun b => some (.int b))) (As := [.int v20]) (rest := [.int v19, .int a2]) h hX hI (fun _ _ h => w_X3_at h) (fun _ _ h => o_X3_at h) rfl 1 (lw_V q2022 q2024 qs31 q87 q2025) ⟨rfl, xd_X3_at⟩ ⟨rfl, rfl⟩ rfl hl.1 (Nat.le_of_ble_eq_true rfl) dX3_cancel_49 (fun v21 H locs σ cells slots h hI => ?_)
    refine W.eq (g2 := F0 m 52 ls [.int v21, .int v19, .int a2]) rfl ?_
    refine lv_iadd hx hb dX3_cancel_52 ?_
    refine lv_aload_n hx hb dX3_cancel_53 rfl (lv_at hl 0 rfl) ?_
    refine lv_iload_n hx hb dX3_cancel_54 rfl (lv_at hl 1 rfl) ?_
    refine lv_iload_n hx hb dX3_cancel_55 rfl (lv_at hl 3 rfl) ?_
    refine lv_bipush (v := (6 : Int32)) hx hb dX3_cancel_56 (by decide) ?_
    refine xr_callS (iv := (fun b => some (.int b))) (As := [.int a1, .int a3, .int (6 : Int32)]) (rest := [.ref a0, .int (v19 + v21), .int a2]) h hX hI (fun _ _ h => w_X3_ofLine h) 3 (lw_S q2103 q2104 q87 q2105) xd_X3_ofLine ⟨rfl, rfl⟩ rfl hl.1 (Nat.le_of_ble_eq_true rfl) dX3_cancel_58 (fun v22 H locs σ cells slots h hI => ?_)
    refine W.eq (g2 := F0 m 61 ls [.int v22, .ref a0, .int (v19 + v21), .int a2]) rfl ?_
    refine xr_callV (iv := (fun b => some (.int b))) (As := [.int v22]) (rest := [.int (v19 + v21), .int a2]) h hX hI (fun _ _ h => w_X3_at h) (fun _ _ h => o_X3_at h) rfl 1 (lw_V q2022 q2024 qs31 q87 q2025) ⟨rfl, xd_X3_at⟩ ⟨rfl, rfl⟩ rfl hl.1 (Nat.le_of_ble_eq_true rfl) dX3_cancel_61 (fun v23 H locs σ cells slots h hI => ?_)
    refine W.eq (g2 := F0 m 64 ls [.int v23, .int (v19 + v21), .int a2]) rfl ?_
    refine lv_iadd hx hb dX3_cancel_64 ?_
    refine lv_iadd hx hb dX3_cancel_65 ?_
    refine lv_istore_n (lv' := [(2, .int (a2 + ((v19 + v21) + v23))), (0, .ref a0), (1, .int a1), (3, .int a3)]) hx hb dX3_cancel_66 rfl hl (Nat.le_of_ble_eq_true rfl) rfl (fun ls hl => ?_)
    refine lv_iinc (k := 3) (lv' := [(3, .int (a3 + (1 : Int32))), (2, .int (a2 + ((v19 + v21) + v23))), (0, .ref a0), (1, .int a1)]) hx hb dX3_cancel_67 hl rfl (xiinc (by decide)) (Nat.le_of_ble_eq_true rfl) rfl (fun ls hl => ?_)
    refine lv_goto (tgt := 18) hx hb dX3_cancel_70 (by decide) ?_
    exact hrec18 a0 a1 (a2 + ((v19 + v21) + v23)) (a3 + (1 : Int32)) _ _ _ _ _ _ h hI (lv_sub hl [2, 3, 1, 0] rfl)
theorem w_X3_cancel_L18 {r : Int32} (hX : xX E R p m c cX3_cancel 4 s args RX3 "cancel" meth (some .int) 2 43 σ0 σ9) : ∀ (n : Nat) (a0 : Nat) (a1 : Int32) (a2 : Int32) (a3 : Int32) (σ : xS) (H : Heap) (locs : List Loc) (cells slots : Nat) (ls : Array Slot), (f_X3_cancel_L18 n a0 a1 a2 a3).1 σ = some (r, σ9) → xI E σ0 σ s H locs cells slots → lv_has ls 4 [(0, .ref a0), (1, .int a1), (2, .int a2), (3, .int a3)] → W p l e R s m args below meth c H locs cells slots (xMQ E below args s σ0 σ9 (some (.int r))) (F0 m 18 ls []) := by
  intro n
  induction n with
  | zero =>
    intro a0 a1 a2 a3 σ H locs cells slots ls h
    exact xr_no h
  | succ n ih =>
    intro a0 a1 a2 a3 σ H locs cells slots ls h hI hl
    exact w_X3_cancel_b18 hX ih h hI hl
theorem o_X3_cancel {a0 : Nat} {a1 : Int32} {r : Int32} {σ σ9 : xS} (h : (f_X3_cancel a0 a1).1 σ = some (r, σ9)) : ∃ fs, σ.1 a0 = some (.inl (3, fs)) := xck_of h
theorem w_X3_cancel {E : xE} {l : Launch} {a0 : Nat} {a1 : Int32} {r : Int32} {σ σ9 : xS} (h : (f_X3_cancel a0 a1).1 σ = some (r, σ9)) : xMet E l yX3_cancel (ws_ yX3_cancel cX3_cancel 4 (some .int)) 2 43 [.ref a0, .int a1] σ σ9 (some (.int r)) := by
  refine xstart (by decide +kernel) ((f_X3_cancel a0 a1).2 _ _ _ h) (Nat.le_of_ble_eq_true rfl) ?_
  intro p e s m args below meth c H locs cells slots ls R hX hI hl
  have hx := hX.1.1
  have hb := hX.1.2.1
  have hl : lv_has ls 4 [(0, .ref a0), (1, .int a1)] := hl
  generalize hσ0 : σ = σ0 at hX hI ⊢
  have h : (f_X3_cancel a0 a1).1 σ0 = some (r, σ9) := by rw [← hσ0]; exact h
  clear hσ0
  delta f_X3_cancel at h
  have h := (xck_bd h).2
  refine lv_aload_n hx hb dX3_cancel_0 rfl (lv_at hl 0 rfl) ?_
  refine xr_callV (iv := (fun _ => none)) (As := []) (rest := []) h hX hI (fun _ _ h => w_X3_aside h) (fun _ _ h => o_X3_aside h) rfl 0 (lw_V q2018 q2020 qs30 q87 q2021) ⟨rfl, xd_X3_aside⟩ ⟨rfl, rfl⟩ rfl hl.1 (Nat.le_of_ble_eq_true rfl) dX3_cancel_1 (fun _ H locs σ cells slots h hI => ?_)
  refine lv_aload_n hx hb dX3_cancel_4 rfl (lv_at hl 0 rfl) ?_
  refine lv_iload_n hx hb dX3_cancel_5 rfl (lv_at hl 1 rfl) ?_
  refine xr_callV (iv := (fun b => some (.int b))) (As := [.int a1]) (rest := []) h hX hI (fun _ _ h => w_X3_isOrder h) (fun _ _ h => o_X3_isOrder h) rfl 1 (lw_V q2095 q2097 qs37 q87 q2098) ⟨rfl, xd_X3_isOrder⟩ ⟨rfl, rfl⟩ rfl hl.1 (Nat.le_of_ble_eq_true rfl) dX3_cancel_6 (fun v30 H locs σ cells slots h hI => ?_)
  refine W.eq (g2 := F0 m 9 ls [.int v30]) rfl ?_
  refine lv_if_ne (tgt := 14) hx hb dX3_cancel_9 (by decide) (fun hc => ?_) (fun hc => ?_)
  · have h := xif_f h hc
    refine lv_iconst (v := (0 : Int32)) hx hb dX3_cancel_14 (by decide) ?_
    refine lv_istore_n (lv' := [(2, .int (0 : Int32)), (0, .ref a0), (1, .int a1)]) hx hb dX3_cancel_15 rfl hl (Nat.le_of_ble_eq_true rfl) rfl (fun ls hl => ?_)
    refine lv_iconst (v := (0 : Int32)) hx hb dX3_cancel_16 (by decide) ?_
    refine lv_istore_n (lv' := [(3, .int (0 : Int32)), (2, .int (0 : Int32)), (0, .ref a0), (1, .int a1)]) hx hb dX3_cancel_17 rfl hl (Nat.le_of_ble_eq_true rfl) rfl (fun ls hl => ?_)
    exact w_X3_cancel_L18 hX xFU a0 a1 (0 : Int32) (0 : Int32) _ _ _ _ _ _ h hI (lv_sub hl [2, 3, 1, 0] rfl)
  · have h := xif_t h hc
    refine lv_iconst (v := (-1 : Int32)) hx hb dX3_cancel_12 (by decide) ?_
    exact xr_ireturn h hX hI dX3_cancel_13
/-! PayMatch$State.supplierOf(I)LPayMatch$Supplier;  -/
theorem o_X1_supplierOf {a0 : Nat} {a1 : Int32} {r : Nat} {σ σ9 : xS} (h : (f_X1_supplierOf a0 a1).1 σ = some (r, σ9)) : ∃ fs, σ.1 a0 = some (.inl (1, fs)) := xck_of h
theorem w_X1_supplierOf {E : xE} {l : Launch} {a0 : Nat} {a1 : Int32} {r : Nat} {σ σ9 : xS} (h : (f_X1_supplierOf a0 a1).1 σ = some (r, σ9)) : xMet E l yX1_supplierOf (ws_ yX1_supplierOf cX1_supplierOf 2 (some (.object "PayMatch$Supplier"))) 4 85 [.ref a0, .int a1] σ σ9 (some (.ref r)) := by
  refine xstart (by decide +kernel) ((f_X1_supplierOf a0 a1).2 _ _ _ h) (Nat.le_of_ble_eq_true rfl) ?_
  intro p e s m args below meth c H locs cells slots ls R hX hI hl
  have hx := hX.1.1
  have hb := hX.1.2.1
  have hl : lv_has ls 2 [(0, .ref a0), (1, .int a1)] := hl
  generalize hσ0 : σ = σ0 at hX hI ⊢
  have h : (f_X1_supplierOf a0 a1).1 σ0 = some (r, σ9) := by rw [← hσ0]; exact h
  clear hσ0
  delta f_X1_supplierOf at h
  have h := (xck_bd h).2
  refine lv_aload_n hx hb dX1_supplierOf_0 rfl (lv_at hl 0 rfl) ?_
  refine xr_gN h hX hI xl_X1_12_1.g dX1_supplierOf_1 (fun v6 h => ?_)
  refine lv_aload_n hx hb dX1_supplierOf_4 rfl (lv_at hl 0 rfl) ?_
  refine xr_gN h hX hI xl_X1_18_1.g dX1_supplierOf_5 (fun v7 h => ?_)
  refine lv_iload_n hx hb dX1_supplierOf_8 rfl (lv_at hl 1 rfl) ?_
  refine xr_callV (iv := (fun b => some (.ref b))) (As := [.int a1]) (rest := [.ref v6]) h hX hI (fun _ _ h => w_X2_get h) (fun _ _ h => o_X2_get h) rfl 1 (lw_V q1281 q1250 q1251 q76 q1252) ⟨rfl, xd_X2_get⟩ ⟨rfl, rfl⟩ rfl hl.1 (Nat.le_of_ble_eq_true rfl) dX1_supplierOf_9 (fun v8 H locs σ cells slots h hI => ?_)
  refine W.eq (g2 := F0 m 12 ls [.ref v8, .ref v6]) rfl ?_
  refine xr_cks h hX hI xc_X1_92 dX1_supplierOf_12 (fun h => ?_)
  refine xr_gI h hX hI xl_X1_94_6 dX1_supplierOf_15 (fun v9 h => ?_)
  refine xr_callV (iv := (fun b => some (.ref b))) (As := [.int v9]) (rest := []) h hX hI (fun _ _ h => w_X2_get h) (fun _ _ h => o_X2_get h) rfl 1 (lw_V q1281 q1250 q1251 q76 q1252) ⟨rfl, xd_X2_get⟩ ⟨rfl, rfl⟩ rfl hl.1 (Nat.le_of_ble_eq_true rfl) dX1_supplierOf_18 (fun v10 H locs σ cells slots h hI => ?_)
  refine W.eq (g2 := F0 m 21 ls [.ref v10]) rfl ?_
  refine xr_cks h hX hI xc_X1_97 dX1_supplierOf_21 (fun h => ?_)
  exact xr_areturn h hX hI (Or.inl ⟨_, rfl⟩) dX1_supplierOf_24
/-! PayMatch$Supplier.with(I)I  -/
theorem o_X7_with {a0 : Nat} {a1 : Int32} {r : Int32} {σ σ9 : xS} (h : (f_X7_with a0 a1).1 σ = some (r, σ9)) : ∃ fs, σ.1 a0 = some (.inl (7, fs)) := xck_of h
theorem w_X7_with {E : xE} {l : Launch} {a0 : Nat} {a1 : Int32} {r : Int32} {σ σ9 : xS} (h : (f_X7_with a0 a1).1 σ = some (r, σ9)) : xMet E l yX7_with (ws_ yX7_with cX7_with 2 (some .int)) 0 0 [.ref a0, .int a1] σ σ9 (some (.int r)) := by
  refine xstart (by decide +kernel) ((f_X7_with a0 a1).2 _ _ _ h) (Nat.le_of_ble_eq_true rfl) ?_
  intro p e s m args below meth c H locs cells slots ls R hX hI hl
  have hx := hX.1.1
  have hb := hX.1.2.1
  have hl : lv_has ls 2 [(0, .ref a0), (1, .int a1)] := hl
  generalize hσ0 : σ = σ0 at hX hI ⊢
  have h : (f_X7_with a0 a1).1 σ0 = some (r, σ9) := by rw [← hσ0]; exact h
  clear hσ0
  delta f_X7_with at h
  have h := (xck_bd h).2
  refine lv_iload_n hx hb dX7_with_0 rfl (lv_at hl 1 rfl) ?_
  refine lv_i2d hx hb dX7_with_1 ?_
  refine lv_dconst1 hx hb dX7_with_2 ?_
  refine lv_aload_n hx hb dX7_with_3 rfl (lv_at hl 0 rfl) ?_
  refine xr_gD h hX hI xl_X7_22_7.g dX7_with_4 (fun v2 h => ?_)
  refine lv_ldc2d (v := (4636737291354636288 : UInt64)) hx hb hX.1.2.2.2.1 (hX.1.2.2.2.2 _ q1443) dX7_with_7 ?_
  refine xr_ddiv h hx hb dX7_with_10 (fun h => ?_)
  refine xr_dadd h hx hb dX7_with_11 (fun h => ?_)
  refine xr_dmul h hx hb dX7_with_12 (fun h => ?_)
  refine lv_d2i hx hb dX7_with_13 ?_
  exact xr_ireturn h hX hI dX7_with_14
/-! PayMatch.roomOf(II)I  -/
theorem o_X0_roomOf {a0 : Nat} {a1 : Int32} {a2 : Int32} {r : Int32} {σ σ9 : xS} (h : (f_X0_roomOf a0 a1 a2).1 σ = some (r, σ9)) : ∃ fs, σ.1 a0 = some (.inl (0, fs)) := xck_of h
theorem w_X0_roomOf {E : xE} {l : Launch} {a0 : Nat} {a1 : Int32} {a2 : Int32} {r : Int32} {σ σ9 : xS} (h : (f_X0_roomOf a0 a1 a2).1 σ = some (r, σ9)) : xMet E l yX0_roomOf (ws_ yX0_roomOf cX0_roomOf 3 (some .int)) 5 107 [.ref a0, .int a1, .int a2] σ σ9 (some (.int r)) := by
  refine xstart (by decide +kernel) ((f_X0_roomOf a0 a1 a2).2 _ _ _ h) (Nat.le_of_ble_eq_true rfl) ?_
  intro p e s m args below meth c H locs cells slots ls R hX hI hl
  have hx := hX.1.1
  have hb := hX.1.2.1
  have hl : lv_has ls 3 [(0, .ref a0), (1, .int a1), (2, .int a2)] := hl
  generalize hσ0 : σ = σ0 at hX hI ⊢
  have h : (f_X0_roomOf a0 a1 a2).1 σ0 = some (r, σ9) := by rw [← hσ0]; exact h
  clear hσ0
  delta f_X0_roomOf at h
  have h := (xck_bd h).2
  refine lv_aload_n hx hb dX0_roomOf_0 rfl (lv_at hl 0 rfl) ?_
  refine xr_gN h hX hI xl_X0_22_0.g dX0_roomOf_1 (fun v10 h => ?_)
  refine lv_iload_n hx hb dX0_roomOf_4 rfl (lv_at hl 1 rfl) ?_
  refine xr_callV (iv := (fun b => some (.ref b))) (As := [.int a1]) (rest := []) h hX hI (fun _ _ h => w_X1_supplierOf h) (fun _ _ h => o_X1_supplierOf h) rfl 1 (lw_V q1434 q1435 q1436 q75 q1437) ⟨rfl, xd_X1_supplierOf⟩ ⟨rfl, rfl⟩ rfl hl.1 (Nat.le_of_ble_eq_true rfl) dX0_roomOf_5 (fun v11 H locs σ cells slots h hI => ?_)
  refine W.eq (g2 := F0 m 8 ls [.ref v11]) rfl ?_
  refine lv_aload_n hx hb dX0_roomOf_8 rfl (lv_at hl 0 rfl) ?_
  refine xr_gN h hX hI xl_X0_22_0.g dX0_roomOf_9 (fun v12 h => ?_)
  refine lv_iload_n hx hb dX0_roomOf_12 rfl (lv_at hl 1 rfl) ?_
  refine lv_iload_n hx hb dX0_roomOf_13 rfl (lv_at hl 2 rfl) ?_
  refine xr_callV (iv := (fun b => some (.ref b))) (As := [.int a1, .int a2]) (rest := [.ref v11]) h hX hI (fun _ _ h => w_X1_line h) (fun _ _ h => o_X1_line h) rfl 2 (lw_V q1323 q1324 q1325 q75 q1326) ⟨rfl, xd_X1_line⟩ ⟨rfl, rfl⟩ rfl hl.1 (Nat.le_of_ble_eq_true rfl) dX0_roomOf_14 (fun v13 H locs σ cells slots h hI => ?_)
  refine W.eq (g2 := F0 m 17 ls [.ref v13, .ref v11]) rfl ?_
  refine xr_gI h hX hI xl_X0_172_5.g dX0_roomOf_17 (fun v14 h => ?_)
  refine xr_callV (iv := (fun b => some (.int b))) (As := [.int v14]) (rest := []) h hX hI (fun _ _ h => w_X7_with h) (fun _ _ h => o_X7_with h) rfl 1 (lw_V q1439 q1440 q1441 q108 q1442) ⟨rfl, xd_X7_with⟩ ⟨rfl, rfl⟩ rfl hl.1 (Nat.le_of_ble_eq_true rfl) dX0_roomOf_20 (fun v15 H locs σ cells slots h hI => ?_)
  refine W.eq (g2 := F0 m 23 ls [.int v15]) rfl ?_
  refine lv_aload_n hx hb dX0_roomOf_23 rfl (lv_at hl 0 rfl) ?_
  refine xr_gN h hX hI xl_X0_22_0.g dX0_roomOf_24 (fun v16 h => ?_)
  refine lv_iload_n hx hb dX0_roomOf_27 rfl (lv_at hl 1 rfl) ?_
  refine lv_iload_n hx hb dX0_roomOf_28 rfl (lv_at hl 2 rfl) ?_
  refine xr_callV (iv := (fun b => some (.ref b))) (As := [.int a1, .int a2]) (rest := [.int v15]) h hX hI (fun _ _ h => w_X1_line h) (fun _ _ h => o_X1_line h) rfl 2 (lw_V q1323 q1324 q1325 q75 q1326) ⟨rfl, xd_X1_line⟩ ⟨rfl, rfl⟩ rfl hl.1 (Nat.le_of_ble_eq_true rfl) dX0_roomOf_29 (fun v17 H locs σ cells slots h hI => ?_)
  refine W.eq (g2 := F0 m 32 ls [.ref v17, .int v15]) rfl ?_
  refine xr_gI h hX hI xl_X0_166_5.g dX0_roomOf_32 (fun v18 h => ?_)
  refine lv_isub hx hb dX0_roomOf_35 ?_
  exact xr_ireturn h hX hI dX0_roomOf_36
/-! PayMatch$Event.<init>(IIII)V  -/
theorem w_X9_init {E : xE} {l : Launch} {a0 : Nat} {a1 : Int32} {a2 : Int32} {a3 : Int32} {a4 : Int32} {r : Unit} {σ σ9 : xS} (h : (f_X9_init a0 a1 a2 a3 a4).1 σ = some (r, σ9)) : xMet E l yX9_init (ws_ yX9_init cX9_init 5 none) 1 60 [.ref a0, .int a1, .int a2, .int a3, .int a4] σ σ9 none := by
  refine xstart (by decide +kernel) ((f_X9_init a0 a1 a2 a3 a4).2 _ _ _ h) (Nat.le_of_ble_eq_true rfl) ?_
  intro p e s m args below meth c H locs cells slots ls R hX hI hl
  have hx := hX.1.1
  have hb := hX.1.2.1
  have hl : lv_has ls 5 [(0, .ref a0), (1, .int a1), (2, .int a2), (3, .int a3), (4, .int a4)] := hl
  generalize hσ0 : σ = σ0 at hX hI ⊢
  have h : (f_X9_init a0 a1 a2 a3 a4).1 σ0 = some (r, σ9) := by rw [← hσ0]; exact h
  clear hσ0
  delta f_X9_init at h
  refine lv_aload_n hx hb dX9_init_0 rfl (lv_at hl 0 rfl) ?_
  refine xr_objI hX q1457 q123 q124 hl.1 ⟨rfl, rfl⟩ dX9_init_1 ?_
  refine lv_aload_n hx hb dX9_init_4 rfl (lv_at hl 0 rfl) ?_
  refine lv_iload_n hx hb dX9_init_5 rfl (lv_at hl 1 rfl) ?_
  refine xr_pt h hX hI xl_X9_7_8 (Or.inr rfl) rfl rfl dX9_init_6 (fun H locs σ h hI => ?_)
  refine lv_aload_n hx hb dX9_init_9 rfl (lv_at hl 0 rfl) ?_
  refine lv_iload_n hx hb dX9_init_10 rfl (lv_at hl 2 rfl) ?_
  refine xr_pt h hX hI xl_X9_13_8 (Or.inr rfl) rfl rfl dX9_init_11 (fun H locs σ h hI => ?_)
  refine lv_aload_n hx hb dX9_init_14 rfl (lv_at hl 0 rfl) ?_
  refine lv_iload_n hx hb dX9_init_15 rfl (lv_at hl 3 rfl) ?_
  refine xr_pt h hX hI xl_X9_16_8 (Or.inr rfl) rfl rfl dX9_init_16 (fun H locs σ h hI => ?_)
  refine lv_aload_n hx hb dX9_init_19 rfl (lv_at hl 0 rfl) ?_
  refine lv_iload hx hb dX9_init_20 (lv_at hl 4 rfl) ?_
  refine xr_pt h hX hI xl_X9_19_8 (Or.inr rfl) rfl rfl dX9_init_22 (fun H locs σ h hI => ?_)
  exact xr_return h hX hI dX9_init_25
/-! java/util/LinkedList.linkFirst(Ljava/lang/Object;)V  -/
theorem w_J4_linkFirst_b38 {a0 : Nat} {r : Unit} (hX : xX E R p m c cJ4_linkFirst 4 s args RJ4 "linkFirst" meth none 2 83 σ0 σ9)
    (h : (f_J4_linkFirst_b38 a0).1 σ = some (r, σ9)) (hI : xI E σ0 σ s H locs cells slots) (hl : lv_has ls 4 [(0, .ref a0)]) : W p l e R s m args below meth c H locs cells slots (xMQ E below args s σ0 σ9 none) (F0 m 38 ls []) := by
  have hx := hX.1.1
  have hb := hX.1.2.1
  delta f_J4_linkFirst_b38 at h
  refine lv_aload_n hx hb dJ4_linkFirst_38 rfl (lv_at hl 0 rfl) ?_
  refine lv_dup hx hb dJ4_linkFirst_39 rfl ?_
  refine xr_gI h hX hI xl_J4_7_13.g dJ4_linkFirst_40 (fun v14 h => ?_)
  refine lv_iconst (v := (1 : Int32)) hx hb dJ4_linkFirst_43 (by decide) ?_
  refine lv_iadd hx hb dJ4_linkFirst_44 ?_
  refine xr_pt h hX hI xl_J4_7_13 (Or.inl rfl) rfl rfl dJ4_linkFirst_45 (fun H locs σ h hI => ?_)
  refine lv_aload_n hx hb dJ4_linkFirst_48 rfl (lv_at hl 0 rfl) ?_
  refine lv_dup hx hb dJ4_linkFirst_49 rfl ?_
  refine xr_gI h hX hI xl_J4_33_13.g dJ4_linkFirst_50 (fun v15 h => ?_)
  refine lv_iconst (v := (1 : Int32)) hx hb dJ4_linkFirst_53 (by decide) ?_
  refine lv_iadd hx hb dJ4_linkFirst_54 ?_
  refine xr_pt h hX hI xl_J4_33_13 (Or.inl rfl) rfl rfl dJ4_linkFirst_55 (fun H locs σ h hI => ?_)
  exact xr_return h hX hI dJ4_linkFirst_58
theorem o_J4_linkFirst {a0 : Nat} {a1 : Nat} {r : Unit} {σ σ9 : xS} (h : (f_J4_linkFirst a0 a1).1 σ = some (r, σ9)) : ∃ fs, σ.1 a0 = some (.inl (13, fs)) := xck_of h
theorem w_J4_linkFirst {E : xE} {l : Launch} {a0 : Nat} {a1 : Nat} {r : Unit} {σ σ9 : xS} (h : (f_J4_linkFirst a0 a1).1 σ = some (r, σ9)) : xMet E l yJ4_linkFirst (ws_ yJ4_linkFirst cJ4_linkFirst 4 none) 2 83 [.ref a0, .ref a1] σ σ9 none := by
  refine xstart (by decide +kernel) ((f_J4_linkFirst a0 a1).2 _ _ _ h) (Nat.le_of_ble_eq_true rfl) ?_
  intro p e s m args below meth c H locs cells slots ls R hX hI hl
  have hx := hX.1.1
  have hb := hX.1.2.1
  have hl : lv_has ls 4 [(0, .ref a0), (1, .ref a1)] := hl
  generalize hσ0 : σ = σ0 at hX hI ⊢
  have h : (f_J4_linkFirst a0 a1).1 σ0 = some (r, σ9) := by rw [← hσ0]; exact h
  clear hσ0
  delta f_J4_linkFirst at h
  have h := (xck_bd h).2
  refine lv_aload_n hx hb dJ4_linkFirst_0 rfl (lv_at hl 0 rfl) ?_
  refine xr_gQ h hX hI xl_J4_18_13.g dJ4_linkFirst_1 (fun h => ?_) (fun v16 h => ?_)
  · refine lv_astore_nN (lv' := [(2, .null), (0, .ref a0), (1, .ref a1)]) hx hb dJ4_linkFirst_4 rfl hl (Nat.le_of_ble_eq_true rfl) rfl (fun ls hl => ?_)
    refine xr_nw h hX hI xn_J4_22 dJ4_linkFirst_5 (fun v17 H σ cells slots h hI => ?_)
    refine lv_dup hx hb dJ4_linkFirst_8 rfl ?_
    refine lv_null hx hb dJ4_linkFirst_9 ?_
    refine lv_aload_n hx hb dJ4_linkFirst_10 rfl (lv_at hl 2 rfl) ?_
    refine lv_aload_nN hx hb dJ4_linkFirst_11 rfl (lv_at hl 0 rfl) ?_
    refine xr_callI (As := [.null, .ref a1, .null]) (rest := [.ref v17]) h hX hI (fun _ _ h => w_J24_init h) 3 q1144 q1146 q109 q1145 rfl xd_J24_init ⟨rfl, rfl⟩ rfl hl.1 (Nat.le_of_ble_eq_true rfl) dJ4_linkFirst_12 (fun _ H locs σ cells slots h hI => ?_)
    refine lv_astore_n (lv' := [(3, .ref v17), (2, .null), (0, .ref a0), (1, .ref a1)]) hx hb dJ4_linkFirst_15 rfl hl (Nat.le_of_ble_eq_true rfl) rfl (fun ls hl => ?_)
    refine lv_aload_n hx hb dJ4_linkFirst_16 rfl (lv_at hl 2 rfl) ?_
    refine lv_aload_n hx hb dJ4_linkFirst_17 rfl (lv_at hl 0 rfl) ?_
    refine xr_pt h hX hI xl_J4_18_13 (Or.inl rfl) rfl rfl dJ4_linkFirst_18 (fun H locs σ h hI => ?_)
    refine lv_aload_nN hx hb dJ4_linkFirst_21 rfl (lv_at hl 1 rfl) ?_
    refine lv_ifnonnullN hx hb dJ4_linkFirst_22 ?_
    refine lv_aload_n hx hb dJ4_linkFirst_25 rfl (lv_at hl 2 rfl) ?_
    refine lv_aload_n hx hb dJ4_linkFirst_26 rfl (lv_at hl 0 rfl) ?_
    refine xr_pt h hX hI xl_J4_27_13 (Or.inl rfl) rfl rfl dJ4_linkFirst_27 (fun H locs σ h hI => ?_)
    refine lv_goto (tgt := 38) hx hb dJ4_linkFirst_30 (by decide) ?_
    exact w_J4_linkFirst_b38 hX h hI (lv_sub hl [2] rfl)
  · refine lv_astore_n (lv' := [(2, .ref v16), (0, .ref a0), (1, .ref a1)]) hx hb dJ4_linkFirst_4 rfl hl (Nat.le_of_ble_eq_true rfl) rfl (fun ls hl => ?_)
    refine xr_nw h hX hI xn_J4_22 dJ4_linkFirst_5 (fun v18 H σ cells slots h hI => ?_)
    refine lv_dup hx hb dJ4_linkFirst_8 rfl ?_
    refine lv_null hx hb dJ4_linkFirst_9 ?_
    refine lv_aload_n hx hb dJ4_linkFirst_10 rfl (lv_at hl 2 rfl) ?_
    refine lv_aload_n hx hb dJ4_linkFirst_11 rfl (lv_at hl 0 rfl) ?_
    refine xr_callI (As := [.null, .ref a1, .ref v16]) (rest := [.ref v18]) h hX hI (fun _ _ h => w_J24_init h) 3 q1144 q1146 q109 q1145 rfl xd_J24_init ⟨rfl, rfl⟩ rfl hl.1 (Nat.le_of_ble_eq_true rfl) dJ4_linkFirst_12 (fun _ H locs σ cells slots h hI => ?_)
    refine lv_astore_n (lv' := [(3, .ref v18), (2, .ref v16), (0, .ref a0), (1, .ref a1)]) hx hb dJ4_linkFirst_15 rfl hl (Nat.le_of_ble_eq_true rfl) rfl (fun ls hl => ?_)
    refine lv_aload_n hx hb dJ4_linkFirst_16 rfl (lv_at hl 2 rfl) ?_
    refine lv_aload_n hx hb dJ4_linkFirst_17 rfl (lv_at hl 0 rfl) ?_
    refine xr_pt h hX hI xl_J4_18_13 (Or.inl rfl) rfl rfl dJ4_linkFirst_18 (fun H locs σ h hI => ?_)
    refine lv_aload_n hx hb dJ4_linkFirst_21 rfl (lv_at hl 1 rfl) ?_
    refine lv_ifnonnull (tgt := 33) hx hb dJ4_linkFirst_22 (by decide) ?_
    refine lv_aload_n hx hb dJ4_linkFirst_33 rfl (lv_at hl 1 rfl) ?_
    refine lv_aload_n hx hb dJ4_linkFirst_34 rfl (lv_at hl 0 rfl) ?_
    refine xr_pt h hX hI xl_J4_30_18 (Or.inl rfl) rfl rfl dJ4_linkFirst_35 (fun H locs σ h hI => ?_)
    exact w_J4_linkFirst_b38 hX h hI (lv_sub hl [2] rfl)
/-! java/util/LinkedList.addFirst(Ljava/lang/Object;)V  -/
theorem o_J4_addFirst {a0 : Nat} {a1 : Nat} {r : Unit} {σ σ9 : xS} (h : (f_J4_addFirst a0 a1).1 σ = some (r, σ9)) : ∃ fs, σ.1 a0 = some (.inl (13, fs)) := xck_of h
theorem w_J4_addFirst {E : xE} {l : Launch} {a0 : Nat} {a1 : Nat} {r : Unit} {σ σ9 : xS} (h : (f_J4_addFirst a0 a1).1 σ = some (r, σ9)) : xMet E l yJ4_addFirst (ws_ yJ4_addFirst cJ4_addFirst 2 none) 3 106 [.ref a0, .ref a1] σ σ9 none := by
  refine xstart (by decide +kernel) ((f_J4_addFirst a0 a1).2 _ _ _ h) (Nat.le_of_ble_eq_true rfl) ?_
  intro p e s m args below meth c H locs cells slots ls R hX hI hl
  have hx := hX.1.1
  have hb := hX.1.2.1
  have hl : lv_has ls 2 [(0, .ref a0), (1, .ref a1)] := hl
  generalize hσ0 : σ = σ0 at hX hI ⊢
  have h : (f_J4_addFirst a0 a1).1 σ0 = some (r, σ9) := by rw [← hσ0]; exact h
  clear hσ0
  delta f_J4_addFirst at h
  have h := (xck_bd h).2
  refine lv_aload_n hx hb dJ4_addFirst_0 rfl (lv_at hl 0 rfl) ?_
  refine lv_aload_n hx hb dJ4_addFirst_1 rfl (lv_at hl 1 rfl) ?_
  refine xr_callV (iv := (fun _ => none)) (As := [.ref a1]) (rest := []) h hX hI (fun _ _ h => w_J4_linkFirst h) (fun _ _ h => o_J4_linkFirst h) rfl 1 (lw_V q1475 q1477 qs15 q81 q1478) ⟨rfl, xd_J4_linkFirst⟩ ⟨rfl, rfl⟩ rfl hl.1 (Nat.le_of_ble_eq_true rfl) dJ4_addFirst_2 (fun _ H locs σ cells slots h hI => ?_)
  exact xr_return h hX hI dJ4_addFirst_5
/-! java/util/LinkedList.size()I  -/
theorem o_J4_size {a0 : Nat} {r : Int32} {σ σ9 : xS} (h : (f_J4_size a0).1 σ = some (r, σ9)) : ∃ fs, σ.1 a0 = some (.inl (13, fs)) := xck_of h
theorem w_J4_size {E : xE} {l : Launch} {a0 : Nat} {r : Int32} {σ σ9 : xS} (h : (f_J4_size a0).1 σ = some (r, σ9)) : xMet E l yJ4_size (ws_ yJ4_size cJ4_size 1 (some .int)) 0 0 [.ref a0] σ σ9 (some (.int r)) := by
  refine xstart (by decide +kernel) ((f_J4_size a0).2 _ _ _ h) (Nat.le_of_ble_eq_true rfl) ?_
  intro p e s m args below meth c H locs cells slots ls R hX hI hl
  have hx := hX.1.1
  have hb := hX.1.2.1
  have hl : lv_has ls 1 [(0, .ref a0)] := hl
  generalize hσ0 : σ = σ0 at hX hI ⊢
  have h : (f_J4_size a0).1 σ0 = some (r, σ9) := by rw [← hσ0]; exact h
  clear hσ0
  delta f_J4_size at h
  have h := (xck_bd h).2
  refine lv_aload_n hx hb dJ4_size_0 rfl (lv_at hl 0 rfl) ?_
  refine xr_gI h hX hI xl_J4_7_13.g dJ4_size_1 (fun v2 h => ?_)
  exact xr_ireturn h hX hI dJ4_size_4
/-! java/util/LinkedList.unlinkLast(Ljava/util/LinkedList$Node;)Ljava/lang/Object;  -/
theorem w_J4_unlinkLast_b42 {a0 : Nat} {a2 : Nat} {r : Nat} (hX : xX E R p m c cJ4_unlinkLast 4 s args RJ4 "unlinkLast" meth (some (.object "java/lang/Object")) 0 0 σ0 σ9)
    (h : (f_J4_unlinkLast_b42 a0 a2).1 σ = some (r, σ9)) (hI : xI E σ0 σ s H locs cells slots) (hl : lv_has ls 4 [(0, .ref a0), (2, .ref a2)]) : W p l e R s m args below meth c H locs cells slots (xMQ E below args s σ0 σ9 (some (.ref r))) (F0 m 42 ls []) := by
  have hx := hX.1.1
  have hb := hX.1.2.1
  delta f_J4_unlinkLast_b42 at h
  refine lv_aload_n hx hb dJ4_unlinkLast_42 rfl (lv_at hl 0 rfl) ?_
  refine lv_dup hx hb dJ4_unlinkLast_43 rfl ?_
  refine xr_gI h hX hI xl_J4_7_13.g dJ4_unlinkLast_44 (fun v11 h => ?_)
  refine lv_iconst (v := (1 : Int32)) hx hb dJ4_unlinkLast_47 (by decide) ?_
  refine lv_isub hx hb dJ4_unlinkLast_48 ?_
  refine xr_pt h hX hI xl_J4_7_13 (Or.inl rfl) rfl rfl dJ4_unlinkLast_49 (fun H locs σ h hI => ?_)
  refine lv_aload_n hx hb dJ4_unlinkLast_52 rfl (lv_at hl 0 rfl) ?_
  refine lv_dup hx hb dJ4_unlinkLast_53 rfl ?_
  refine xr_gI h hX hI xl_J4_33_13.g dJ4_unlinkLast_54 (fun v12 h => ?_)
  refine lv_iconst (v := (1 : Int32)) hx hb dJ4_unlinkLast_57 (by decide) ?_
  refine lv_iadd hx hb dJ4_unlinkLast_58 ?_
  refine xr_pt h hX hI xl_J4_33_13 (Or.inl rfl) rfl rfl dJ4_unlinkLast_59 (fun H locs σ h hI => ?_)
  refine lv_aload_n hx hb dJ4_unlinkLast_62 rfl (lv_at hl 1 rfl) ?_
  exact xr_areturn h hX hI (Or.inl ⟨_, rfl⟩) dJ4_unlinkLast_63
theorem o_J4_unlinkLast {a0 : Nat} {a1 : Nat} {r : Nat} {σ σ9 : xS} (h : (f_J4_unlinkLast a0 a1).1 σ = some (r, σ9)) : ∃ fs, σ.1 a0 = some (.inl (13, fs)) := xck_of h
theorem w_J4_unlinkLast {E : xE} {l : Launch} {a0 : Nat} {a1 : Nat} {r : Nat} {σ σ9 : xS} (h : (f_J4_unlinkLast a0 a1).1 σ = some (r, σ9)) : xMet E l yJ4_unlinkLast (ws_ yJ4_unlinkLast cJ4_unlinkLast 4 (some (.object "java/lang/Object"))) 0 0 [.ref a0, .ref a1] σ σ9 (some (.ref r)) := by
  refine xstart (by decide +kernel) ((f_J4_unlinkLast a0 a1).2 _ _ _ h) (Nat.le_of_ble_eq_true rfl) ?_
  intro p e s m args below meth c H locs cells slots ls R hX hI hl
  have hx := hX.1.1
  have hb := hX.1.2.1
  have hl : lv_has ls 4 [(0, .ref a0), (1, .ref a1)] := hl
  generalize hσ0 : σ = σ0 at hX hI ⊢
  have h : (f_J4_unlinkLast a0 a1).1 σ0 = some (r, σ9) := by rw [← hσ0]; exact h
  clear hσ0
  delta f_J4_unlinkLast at h
  have h := (xck_bd h).2
  refine lv_aload_n hx hb dJ4_unlinkLast_0 rfl (lv_at hl 1 rfl) ?_
  refine xr_gN h hX hI xl_J4_39_18.g dJ4_unlinkLast_1 (fun v13 h => ?_)
  refine lv_astore_n (lv' := [(2, .ref v13), (0, .ref a0), (1, .ref a1)]) hx hb dJ4_unlinkLast_4 rfl hl (Nat.le_of_ble_eq_true rfl) rfl (fun ls hl => ?_)
  refine lv_aload_n hx hb dJ4_unlinkLast_5 rfl (lv_at hl 2 rfl) ?_
  refine xr_gQ h hX hI xl_J4_30_18.g dJ4_unlinkLast_6 (fun h => ?_) (fun v14 h => ?_)
  · refine lv_astore_nN (lv' := [(3, .null), (2, .ref v13), (0, .ref a0), (1, .ref a1)]) hx hb dJ4_unlinkLast_9 rfl hl (Nat.le_of_ble_eq_true rfl) rfl (fun ls hl => ?_)
    refine lv_aload_n hx hb dJ4_unlinkLast_10 rfl (lv_at hl 3 rfl) ?_
    refine lv_null hx hb dJ4_unlinkLast_11 ?_
    refine xr_pt h hX hI xl_J4_39_18 (Or.inl rfl) rfl rfl dJ4_unlinkLast_12 (fun H locs σ h hI => ?_)
    refine lv_aload_n hx hb dJ4_unlinkLast_15 rfl (lv_at hl 3 rfl) ?_
    refine lv_null hx hb dJ4_unlinkLast_16 ?_
    refine xr_pt h hX hI xl_J4_30_18 (Or.inl rfl) rfl rfl dJ4_unlinkLast_17 (fun H locs σ h hI => ?_)
    refine lv_aload_n hx hb dJ4_unlinkLast_20 rfl (lv_at hl 2 rfl) ?_
    refine lv_aload_nN hx hb dJ4_unlinkLast_21 rfl (lv_at hl 0 rfl) ?_
    refine xr_pt h hX hI xl_J4_27_13 (Or.inl rfl) rfl rfl dJ4_unlinkLast_22 (fun H locs σ h hI => ?_)
    refine lv_aload_nN hx hb dJ4_unlinkLast_25 rfl (lv_at hl 0 rfl) ?_
    refine lv_ifnonnullN hx hb dJ4_unlinkLast_26 ?_
    refine lv_aload_n hx hb dJ4_unlinkLast_29 rfl (lv_at hl 2 rfl) ?_
    refine lv_null hx hb dJ4_unlinkLast_30 ?_
    refine xr_pt h hX hI xl_J4_18_13 (Or.inl rfl) rfl rfl dJ4_unlinkLast_31 (fun H locs σ h hI => ?_)
    refine lv_goto (tgt := 42) hx hb dJ4_unlinkLast_34 (by decide) ?_
    exact w_J4_unlinkLast_b42 hX h hI (lv_sub hl [2, 1] rfl)
  · refine lv_astore_n (lv' := [(3, .ref v14), (2, .ref v13), (0, .ref a0), (1, .ref a1)]) hx hb dJ4_unlinkLast_9 rfl hl (Nat.le_of_ble_eq_true rfl) rfl (fun ls hl => ?_)
    refine lv_aload_n hx hb dJ4_unlinkLast_10 rfl (lv_at hl 3 rfl) ?_
    refine lv_null hx hb dJ4_unlinkLast_11 ?_
    refine xr_pt h hX hI xl_J4_39_18 (Or.inl rfl) rfl rfl dJ4_unlinkLast_12 (fun H locs σ h hI => ?_)
    refine lv_aload_n hx hb dJ4_unlinkLast_15 rfl (lv_at hl 3 rfl) ?_
    refine lv_null hx hb dJ4_unlinkLast_16 ?_
    refine xr_pt h hX hI xl_J4_30_18 (Or.inl rfl) rfl rfl dJ4_unlinkLast_17 (fun H locs σ h hI => ?_)
    refine lv_aload_n hx hb dJ4_unlinkLast_20 rfl (lv_at hl 2 rfl) ?_
    refine lv_aload_n hx hb dJ4_unlinkLast_21 rfl (lv_at hl 0 rfl) ?_
    refine xr_pt h hX hI xl_J4_27_13 (Or.inl rfl) rfl rfl dJ4_unlinkLast_22 (fun H locs σ h hI => ?_)
    refine lv_aload_n hx hb dJ4_unlinkLast_25 rfl (lv_at hl 0 rfl) ?_
    refine lv_ifnonnull (tgt := 37) hx hb dJ4_unlinkLast_26 (by decide) ?_
    refine lv_aload_n hx hb dJ4_unlinkLast_37 rfl (lv_at hl 0 rfl) ?_
    refine lv_null hx hb dJ4_unlinkLast_38 ?_
    refine xr_pt h hX hI xl_J4_36_18 (Or.inl rfl) rfl rfl dJ4_unlinkLast_39 (fun H locs σ h hI => ?_)
    exact w_J4_unlinkLast_b42 hX h hI (lv_sub hl [2, 1] rfl)
/-! java/util/LinkedList.removeLast()Ljava/lang/Object;  -/
theorem o_J4_removeLast {a0 : Nat} {r : Nat} {σ σ9 : xS} (h : (f_J4_removeLast a0).1 σ = some (r, σ9)) : ∃ fs, σ.1 a0 = some (.inl (13, fs)) := xck_of h
theorem w_J4_removeLast {E : xE} {l : Launch} {a0 : Nat} {r : Nat} {σ σ9 : xS} (h : (f_J4_removeLast a0).1 σ = some (r, σ9)) : xMet E l yJ4_removeLast (ws_ yJ4_removeLast cJ4_removeLast 2 (some (.object "java/lang/Object"))) 1 23 [.ref a0] σ σ9 (some (.ref r)) := by
  refine xstart (by decide +kernel) ((f_J4_removeLast a0).2 _ _ _ h) (Nat.le_of_ble_eq_true rfl) ?_
  intro p e s m args below meth c H locs cells slots ls R hX hI hl
  have hx := hX.1.1
  have hb := hX.1.2.1
  have hl : lv_has ls 2 [(0, .ref a0)] := hl
  generalize hσ0 : σ = σ0 at hX hI ⊢
  have h : (f_J4_removeLast a0).1 σ0 = some (r, σ9) := by rw [← hσ0]; exact h
  clear hσ0
  delta f_J4_removeLast at h
  have h := (xck_bd h).2
  refine lv_aload_n hx hb dJ4_removeLast_0 rfl (lv_at hl 0 rfl) ?_
  refine xr_gQ h hX hI xl_J4_27_13.g dJ4_removeLast_1 (fun h => ?_) (fun v6 h => ?_)
  · refine lv_astore_nN (lv' := [(1, .null), (0, .ref a0)]) hx hb dJ4_removeLast_4 rfl hl (Nat.le_of_ble_eq_true rfl) rfl (fun ls hl => ?_)
    refine lv_aload_nN hx hb dJ4_removeLast_5 rfl (lv_at hl 0 rfl) ?_
    refine lv_ifnonnullN hx hb dJ4_removeLast_6 ?_
    exact xr_no h
  · refine lv_astore_n (lv' := [(1, .ref v6), (0, .ref a0)]) hx hb dJ4_removeLast_4 rfl hl (Nat.le_of_ble_eq_true rfl) rfl (fun ls hl => ?_)
    refine lv_aload_n hx hb dJ4_removeLast_5 rfl (lv_at hl 0 rfl) ?_
    refine lv_ifnonnull (tgt := 17) hx hb dJ4_removeLast_6 (by decide) ?_
    refine lv_aload_n hx hb dJ4_removeLast_17 rfl (lv_at hl 1 rfl) ?_
    refine lv_aload_n hx hb dJ4_removeLast_18 rfl (lv_at hl 0 rfl) ?_
    refine xr_callV (iv := (fun b => some (.ref b))) (As := [.ref v6]) (rest := []) h hX hI (fun _ _ h => w_J4_unlinkLast h) (fun _ _ h => o_J4_unlinkLast h) rfl 1 (lw_V q1484 q1486 qs16 q81 q1487) ⟨rfl, xd_J4_unlinkLast⟩ ⟨rfl, rfl⟩ rfl hl.1 (Nat.le_of_ble_eq_true rfl) dJ4_removeLast_19 (fun v7 H locs σ cells slots h hI => ?_)
    refine W.eq (g2 := F0 m 22 ls [.ref v7]) rfl ?_
    exact xr_areturn h hX hI (Or.inl ⟨_, rfl⟩) dJ4_removeLast_22
/-! PayMatch$State.tell(III)V  -/
theorem o_X1_tell {a0 : Nat} {a1 : Int32} {a2 : Int32} {a3 : Int32} {r : Unit} {σ σ9 : xS} (h : (f_X1_tell a0 a1 a2 a3).1 σ = some (r, σ9)) : ∃ fs, σ.1 a0 = some (.inl (1, fs)) := xck_of h
theorem w_X1_tell {E : xE} {l : Launch} {a0 : Nat} {a1 : Int32} {a2 : Int32} {a3 : Int32} {r : Unit} {σ σ9 : xS} (h : (f_X1_tell a0 a1 a2 a3).1 σ = some (r, σ9)) : xMet E l yX1_tell (ws_ yX1_tell cX1_tell 4 none) 4 127 [.ref a0, .int a1, .int a2, .int a3] σ σ9 none := by
  refine xstart (by decide +kernel) ((f_X1_tell a0 a1 a2 a3).2 _ _ _ h) (Nat.le_of_ble_eq_true rfl) ?_
  intro p e s m args below meth c H locs cells slots ls R hX hI hl
  have hx := hX.1.1
  have hb := hX.1.2.1
  have hl : lv_has ls 4 [(0, .ref a0), (1, .int a1), (2, .int a2), (3, .int a3)] := hl
  generalize hσ0 : σ = σ0 at hX hI ⊢
  have h : (f_X1_tell a0 a1 a2 a3).1 σ0 = some (r, σ9) := by rw [← hσ0]; exact h
  clear hσ0
  delta f_X1_tell at h
  have h := (xck_bd h).2
  refine lv_aload_n hx hb dX1_tell_0 rfl (lv_at hl 0 rfl) ?_
  refine xr_gN h hX hI xl_X1_27_1.g dX1_tell_1 (fun v8 h => ?_)
  refine xr_nw h hX hI xn_X1_63 dX1_tell_4 (fun v9 H σ cells slots h hI => ?_)
  refine lv_dup hx hb dX1_tell_7 rfl ?_
  refine lv_iload_n hx hb dX1_tell_8 rfl (lv_at hl 1 rfl) ?_
  refine lv_iload_n hx hb dX1_tell_9 rfl (lv_at hl 2 rfl) ?_
  refine lv_iload_n hx hb dX1_tell_10 rfl (lv_at hl 3 rfl) ?_
  refine lv_aload_n hx hb dX1_tell_11 rfl (lv_at hl 0 rfl) ?_
  refine xr_gI h hX hI xl_X1_69_1.g dX1_tell_12 (fun v10 h => ?_)
  refine xr_callI (As := [.int a1, .int a2, .int a3, .int v10]) (rest := [.ref v9, .ref v8]) h hX hI (fun _ _ h => w_X9_init h) 4 q1454 q1456 q112 q1455 rfl xd_X9_init ⟨rfl, rfl⟩ rfl hl.1 (Nat.le_of_ble_eq_true rfl) dX1_tell_15 (fun _ H locs σ cells slots h hI => ?_)
  refine xr_callV (iv := (fun _ => none)) (As := [.ref v9]) (rest := []) h hX hI (fun _ _ h => w_J4_addFirst h) (fun _ _ h => o_J4_addFirst h) rfl 1 (lw_V q1471 q1472 q1473 q81 q1474) ⟨rfl, xd_J4_addFirst⟩ ⟨rfl, rfl⟩ rfl hl.1 (Nat.le_of_ble_eq_true rfl) dX1_tell_18 (fun _ H locs σ cells slots h hI => ?_)
  refine lv_aload_n hx hb dX1_tell_21 rfl (lv_at hl 0 rfl) ?_
  refine xr_gN h hX hI xl_X1_27_1.g dX1_tell_22 (fun v11 h => ?_)
  refine xr_callV (iv := (fun b => some (.int b))) (As := []) (rest := []) h hX hI (fun _ _ h => w_J4_size h) (fun _ _ h => o_J4_size h) rfl 0 (lw_V q1479 q320 q2377 q81 q322) ⟨rfl, xd_J4_size⟩ ⟨rfl, rfl⟩ rfl hl.1 (Nat.le_of_ble_eq_true rfl) dX1_tell_25 (fun v12 H locs σ cells slots h hI => ?_)
  refine W.eq (g2 := F0 m 28 ls [.int v12]) rfl ?_
  refine lv_bipush (v := (10 : Int32)) hx hb dX1_tell_28 (by decide) ?_
  refine lv_icmp_le (tgt := 41) hx hb dX1_tell_30 (by decide) (fun hc => ?_) (fun hc => ?_)
  · have h := xif_t h hc
    exact xr_return h hX hI dX1_tell_41
  · have h := xif_f h hc
    refine lv_aload_n hx hb dX1_tell_33 rfl (lv_at hl 0 rfl) ?_
    refine xr_gN h hX hI xl_X1_27_1.g dX1_tell_34 (fun v13 h => ?_)
    refine xr_callV (iv := (fun b => some (.ref b))) (As := []) (rest := []) h hX hI (fun _ _ h => w_J4_removeLast h) (fun _ _ h => o_J4_removeLast h) rfl 0 (lw_V q1480 q1481 q1482 q81 q1483) ⟨rfl, xd_J4_removeLast⟩ ⟨rfl, rfl⟩ rfl hl.1 (Nat.le_of_ble_eq_true rfl) dX1_tell_37 (fun v14 H locs σ cells slots h hI => ?_)
    refine W.eq (g2 := F0 m 40 ls [.ref v14]) rfl ?_
    refine lv_pop hx hb dX1_tell_40 rfl ?_
    exact xr_return h hX hI dX1_tell_41
/-! PayMatch$State.receive(IIII)I  -/
theorem o_X1_receive {a0 : Nat} {a1 : Int32} {a2 : Int32} {a3 : Int32} {a4 : Int32} {r : Int32} {σ σ9 : xS} (h : (f_X1_receive a0 a1 a2 a3 a4).1 σ = some (r, σ9)) : ∃ fs, σ.1 a0 = some (.inl (1, fs)) := xck_of h
theorem w_X1_receive {E : xE} {l : Launch} {a0 : Nat} {a1 : Int32} {a2 : Int32} {a3 : Int32} {a4 : Int32} {r : Int32} {σ σ9 : xS} (h : (f_X1_receive a0 a1 a2 a3 a4).1 σ = some (r, σ9)) : xMet E l yX1_receive (ws_ yX1_receive cX1_receive 6 (some .int)) 5 150 [.ref a0, .int a1, .int a2, .int a3, .int a4] σ σ9 (some (.int r)) := by
  refine xstart (by decide +kernel) ((f_X1_receive a0 a1 a2 a3 a4).2 _ _ _ h) (Nat.le_of_ble_eq_true rfl) ?_
  intro p e s m args below meth c H locs cells slots ls R hX hI hl
  have hx := hX.1.1
  have hb := hX.1.2.1
  have hl : lv_has ls 6 [(0, .ref a0), (1, .int a1), (2, .int a2), (3, .int a3), (4, .int a4)] := hl
  generalize hσ0 : σ = σ0 at hX hI ⊢
  have h : (f_X1_receive a0 a1 a2 a3 a4).1 σ0 = some (r, σ9) := by rw [← hσ0]; exact h
  clear hσ0
  delta f_X1_receive at h
  have h := (xck_bd h).2
  refine lv_aload_n hx hb dX1_receive_0 rfl (lv_at hl 0 rfl) ?_
  refine lv_iload_n hx hb dX1_receive_1 rfl (lv_at hl 1 rfl) ?_
  refine lv_iload_n hx hb dX1_receive_2 rfl (lv_at hl 2 rfl) ?_
  refine xr_callV (iv := (fun b => some (.ref b))) (As := [.int a1, .int a2]) (rest := []) h hX hI (fun _ _ h => w_X1_line h) (fun _ _ h => o_X1_line h) rfl 2 (lw_V q1448 q1324 q1325 q75 q1326) ⟨rfl, xd_X1_line⟩ ⟨rfl, rfl⟩ rfl hl.1 (Nat.le_of_ble_eq_true rfl) dX1_receive_3 (fun v5 H locs σ cells slots h hI => ?_)
  refine W.eq (g2 := F0 m 6 ls [.ref v5]) rfl ?_
  refine lv_astore (lv' := [(5, .ref v5), (0, .ref a0), (1, .int a1), (2, .int a2), (3, .int a3), (4, .int a4)]) hx hb dX1_receive_6 hl (Nat.le_of_ble_eq_true rfl) rfl (fun ls hl => ?_)
  refine lv_aload hx hb dX1_receive_8 (lv_at hl 0 rfl) ?_
  refine lv_dup hx hb dX1_receive_10 rfl ?_
  refine xr_gI h hX hI xl_X1_121_5.g dX1_receive_11 (fun v6 h => ?_)
  refine lv_iload_n hx hb dX1_receive_14 rfl (lv_at hl 4 rfl) ?_
  refine lv_iadd hx hb dX1_receive_15 ?_
  refine xr_pt h hX hI xl_X1_121_5 (Or.inl rfl) rfl rfl dX1_receive_16 (fun H locs σ h hI => ?_)
  refine lv_aload hx hb dX1_receive_19 (lv_at hl 0 rfl) ?_
  refine lv_dup hx hb dX1_receive_21 rfl ?_
  refine xr_gI h hX hI xl_X1_124_5.g dX1_receive_22 (fun v7 h => ?_)
  refine lv_iload hx hb dX1_receive_25 (lv_at hl 5 rfl) ?_
  refine lv_iadd hx hb dX1_receive_27 ?_
  refine xr_pt h hX hI xl_X1_124_5 (Or.inl rfl) rfl rfl dX1_receive_28 (fun H locs σ h hI => ?_)
  refine lv_aload_n hx hb dX1_receive_31 rfl (lv_at hl 1 rfl) ?_
  refine lv_iconst (v := (0 : Int32)) hx hb dX1_receive_32 (by decide) ?_
  refine lv_iload_n hx hb dX1_receive_33 rfl (lv_at hl 2 rfl) ?_
  refine lv_iload_n hx hb dX1_receive_34 rfl (lv_at hl 4 rfl) ?_
  refine xr_callV (iv := (fun _ => none)) (As := [.int (0 : Int32), .int a1, .int a3]) (rest := []) h hX hI (fun _ _ h => w_X1_tell h) (fun _ _ h => o_X1_tell h) rfl 3 (lw_V q1449 q1450 q1451 q75 q1452) ⟨rfl, xd_X1_tell⟩ ⟨rfl, rfl⟩ rfl hl.1 (Nat.le_of_ble_eq_true rfl) dX1_receive_35 (fun _ H locs σ cells slots h hI => ?_)
  refine lv_aload hx hb dX1_receive_38 (lv_at hl 0 rfl) ?_
  refine xr_gI h hX hI xl_X1_121_5.g dX1_receive_40 (fun v8 h => ?_)
  exact xr_ireturn h hX hI dX1_receive_43
/-! PayMatch.receive(IIII)I  -/
theorem w_X0_receive_b72 {a0 : Nat} {a1 : Int32} {a2 : Int32} {a3 : Int32} {a4 : Int32} {r : Int32} (hX : xX E R p m c cX0_receive 7 s args RX0 "receive" meth (some .int) 14 438 σ0 σ9)
    (h : (f_X0_receive_b72 a0 a1 a2 a3 a4).1 σ = some (r, σ9)) (hI : xI E σ0 σ s H locs cells slots) (hl : lv_has ls 7 [(0, .ref a0), (1, .int a1), (2, .int a2), (3, .int a3), (4, .int a4)]) : W p l e R s m args below meth c H locs cells slots (xMQ E below args s σ0 σ9 (some (.int r))) (F0 m 72 ls []) := by
  have hx := hX.1.1
  have hb := hX.1.2.1
  delta f_X0_receive_b72 at h
  refine lv_aload_n hx hb dX0_receive_72 rfl (lv_at hl 0 rfl) ?_
  refine xr_gN h hX hI xl_X0_22_0.g dX0_receive_73 (fun v11 h => ?_)
  refine xr_callV (iv := (fun b => some (.ref b))) (As := []) (rest := []) h hX hI (fun _ _ h => w_X1_copy h) (fun _ _ h => o_X1_copy h) rfl 0 (lw_V q323 q324 q325 q75 q326) ⟨rfl, xd_X1_copy⟩ ⟨rfl, rfl⟩ rfl hl.1 (Nat.le_of_ble_eq_true rfl) dX0_receive_76 (fun v12 H locs σ cells slots h hI => ?_)
  refine W.eq (g2 := F0 m 79 ls [.ref v12]) rfl ?_
  refine lv_astore (lv' := [(5, .ref v12), (0, .ref a0), (1, .int a1), (2, .int a2), (3, .int a3), (4, .int a4)]) hx hb dX0_receive_79 hl (Nat.le_of_ble_eq_true rfl) rfl (fun ls hl => ?_)
  refine lv_aload hx hb dX0_receive_81 (lv_at hl 0 rfl) ?_
  refine lv_iload_n hx hb dX0_receive_83 rfl (lv_at hl 2 rfl) ?_
  refine lv_iload_n hx hb dX0_receive_84 rfl (lv_at hl 3 rfl) ?_
  refine lv_iload_n hx hb dX0_receive_85 rfl (lv_at hl 4 rfl) ?_
  refine lv_iload hx hb dX0_receive_86 (lv_at hl 5 rfl) ?_
  refine xr_callV (iv := (fun b => some (.int b))) (As := [.int a1, .int a2, .int a3, .int a4]) (rest := []) h hX hI (fun _ _ h => w_X1_receive h) (fun _ _ h => o_X1_receive h) rfl 4 (lw_V q1444 q1445 q1446 q75 q1447) ⟨rfl, xd_X1_receive⟩ ⟨rfl, rfl⟩ rfl hl.1 (Nat.le_of_ble_eq_true rfl) dX0_receive_88 (fun v13 H locs σ cells slots h hI => ?_)
  refine W.eq (g2 := F0 m 91 ls [.int v13]) rfl ?_
  refine lv_istore (lv' := [(6, .int v13), (5, .ref v12), (0, .ref a0), (1, .int a1), (2, .int a2), (3, .int a3), (4, .int a4)]) hx hb dX0_receive_91 hl (Nat.le_of_ble_eq_true rfl) rfl (fun ls hl => ?_)
  refine lv_aload_n hx hb dX0_receive_93 rfl (lv_at hl 2 rfl) ?_
  refine lv_aload hx hb dX0_receive_94 (lv_at hl 1 rfl) ?_
  refine lv_iload hx hb dX0_receive_96 (lv_at hl 0 rfl) ?_
  refine xr_callV (iv := (fun b => some (.int b))) (As := [.ref v12, .int v13]) (rest := []) h hX hI (fun _ _ h => w_X0_become h) (fun _ _ h => o_X0_become h) rfl 2 (lw_V q1182 q1184 qs9 q74 q1185) ⟨rfl, xd_X0_become⟩ ⟨rfl, rfl⟩ rfl hl.1 (Nat.le_of_ble_eq_true rfl) dX0_receive_98 (fun v14 H locs σ cells slots h hI => ?_)
  refine W.eq (g2 := F0 m 101 ls [.int v14]) rfl ?_
  exact xr_ireturn h hX hI dX0_receive_101
theorem o_X0_receive {a0 : Nat} {a1 : Int32} {a2 : Int32} {a3 : Int32} {a4 : Int32} {r : Int32} {σ σ9 : xS} (h : (f_X0_receive a0 a1 a2 a3 a4).1 σ = some (r, σ9)) : ∃ fs, σ.1 a0 = some (.inl (0, fs)) := xck_of h
theorem w_X0_receive {E : xE} {l : Launch} {a0 : Nat} {a1 : Int32} {a2 : Int32} {a3 : Int32} {a4 : Int32} {r : Int32} {σ σ9 : xS} (h : (f_X0_receive a0 a1 a2 a3 a4).1 σ = some (r, σ9)) : xMet E l yX0_receive (ws_ yX0_receive cX0_receive 7 (some .int)) 14 438 [.ref a0, .int a1, .int a2, .int a3, .int a4] σ σ9 (some (.int r)) := by
  refine xstart (by decide +kernel) ((f_X0_receive a0 a1 a2 a3 a4).2 _ _ _ h) (Nat.le_of_ble_eq_true rfl) ?_
  intro p e s m args below meth c H locs cells slots ls R hX hI hl
  have hx := hX.1.1
  have hb := hX.1.2.1
  have hl : lv_has ls 7 [(0, .ref a0), (1, .int a1), (2, .int a2), (3, .int a3), (4, .int a4)] := hl
  generalize hσ0 : σ = σ0 at hX hI ⊢
  have h : (f_X0_receive a0 a1 a2 a3 a4).1 σ0 = some (r, σ9) := by rw [← hσ0]; exact h
  clear hσ0
  delta f_X0_receive at h
  have h := (xck_bd h).2
  refine lv_aload_n hx hb dX0_receive_0 rfl (lv_at hl 0 rfl) ?_
  refine xr_gN h hX hI xl_X0_22_0.g dX0_receive_1 (fun v15 h => ?_)
  refine lv_iload_n hx hb dX0_receive_4 rfl (lv_at hl 1 rfl) ?_
  refine lv_iload_n hx hb dX0_receive_5 rfl (lv_at hl 2 rfl) ?_
  refine xr_callV (iv := (fun b => some (.int b))) (As := [.int a1, .int a2]) (rest := []) h hX hI (fun _ _ h => w_X1_hasLine h) (fun _ _ h => o_X1_hasLine h) rfl 2 (lw_V q1318 q1319 q1320 q75 q1321) ⟨rfl, xd_X1_hasLine⟩ ⟨rfl, rfl⟩ rfl hl.1 (Nat.le_of_ble_eq_true rfl) dX0_receive_6 (fun v16 H locs σ cells slots h hI => ?_)
  refine W.eq (g2 := F0 m 9 ls [.int v16]) rfl ?_
  refine lv_if_ne (tgt := 14) hx hb dX0_receive_9 (by decide) (fun hc => ?_) (fun hc => ?_)
  · have h := xif_f h hc
    refine lv_iload_n hx hb dX0_receive_14 rfl (lv_at hl 3 rfl) ?_
    refine lv_iconst (v := (0 : Int32)) hx hb dX0_receive_15 (by decide) ?_
    refine lv_sipush (v := (999 : Int32)) hx hb dX0_receive_16 (by decide) ?_
    refine xr_callS (iv := (fun b => some (.int b))) (As := [.int a3, .int (0 : Int32), .int (999 : Int32)]) (rest := []) h hX hI (fun _ _ h => w_X0_inRange h) 3 (lw_S q1267 q1230 q74 q1231) xd_X0_inRange ⟨rfl, rfl⟩ rfl hl.1 (Nat.le_of_ble_eq_true rfl) dX0_receive_19 (fun v17 H locs σ cells slots h hI => ?_)
    refine W.eq (g2 := F0 m 22 ls [.int v17]) rfl ?_
    refine lv_if_eq (tgt := 44) hx hb dX0_receive_22 (by decide) (fun hc => ?_) (fun hc => ?_)
    · have h := xif_t h hc
      refine lv_bipush (v := (-2 : Int32)) hx hb dX0_receive_44 (by decide) ?_
      exact xr_ireturn h hX hI dX0_receive_46
    · have h := xif_f h hc
      refine lv_iload hx hb dX0_receive_25 (lv_at hl 4 rfl) ?_
      refine lv_iconst (v := (0 : Int32)) hx hb dX0_receive_27 (by decide) ?_
      refine lv_sipush (v := (999 : Int32)) hx hb dX0_receive_28 (by decide) ?_
      refine xr_callS (iv := (fun b => some (.int b))) (As := [.int a4, .int (0 : Int32), .int (999 : Int32)]) (rest := []) h hX hI (fun _ _ h => w_X0_inRange h) 3 (lw_S q1267 q1230 q74 q1231) xd_X0_inRange ⟨rfl, rfl⟩ rfl hl.1 (Nat.le_of_ble_eq_true rfl) dX0_receive_31 (fun v18 H locs σ cells slots h hI => ?_)
      refine W.eq (g2 := F0 m 34 ls [.int v18]) rfl ?_
      refine lv_if_eq (tgt := 44) hx hb dX0_receive_34 (by decide) (fun hc => ?_) (fun hc => ?_)
      · have h := xif_t h hc
        refine lv_bipush (v := (-2 : Int32)) hx hb dX0_receive_44 (by decide) ?_
        exact xr_ireturn h hX hI dX0_receive_46
      · have h := xif_f h hc
        refine lv_iload_n hx hb dX0_receive_37 rfl (lv_at hl 3 rfl) ?_
        refine lv_iload hx hb dX0_receive_38 (lv_at hl 4 rfl) ?_
        refine lv_iadd hx hb dX0_receive_40 ?_
        refine lv_if_ne (tgt := 47) hx hb dX0_receive_41 (by decide) (fun hc => ?_) (fun hc => ?_)
        · have h := xif_f h hc
          refine lv_aload_n hx hb dX0_receive_47 rfl (lv_at hl 0 rfl) ?_
          refine lv_iload_n hx hb dX0_receive_48 rfl (lv_at hl 1 rfl) ?_
          refine xr_callV (iv := (fun b => some (.int b))) (As := [.int a1]) (rest := []) h hX hI (fun _ _ h => w_X0_isOpen h) (fun _ _ h => o_X0_isOpen h) rfl 1 (lw_V q1308 q1310 qs12 q74 q1311) ⟨rfl, xd_X0_isOpen⟩ ⟨rfl, rfl⟩ rfl hl.1 (Nat.le_of_ble_eq_true rfl) dX0_receive_49 (fun v19 H locs σ cells slots h hI => ?_)
          refine W.eq (g2 := F0 m 52 ls [.int v19]) rfl ?_
          refine lv_if_eq (tgt := 69) hx hb dX0_receive_52 (by decide) (fun hc => ?_) (fun hc => ?_)
          · have h := xif_t h hc
            refine lv_bipush (v := (-4 : Int32)) hx hb dX0_receive_69 (by decide) ?_
            exact xr_ireturn h hX hI dX0_receive_71
          · have h := xif_f h hc
            refine lv_iload_n hx hb dX0_receive_55 rfl (lv_at hl 3 rfl) ?_
            refine lv_if_le (tgt := 72) hx hb dX0_receive_56 (by decide) (fun hc => ?_) (fun hc => ?_)
            · have h := xif_t h hc
              exact w_X0_receive_b72 hX h hI (lv_sub hl [0, 1, 2, 3, 4] rfl)
            · have h := xif_f h hc
              refine lv_iload_n hx hb dX0_receive_59 rfl (lv_at hl 3 rfl) ?_
              refine lv_aload_n hx hb dX0_receive_60 rfl (lv_at hl 0 rfl) ?_
              refine lv_iload_n hx hb dX0_receive_61 rfl (lv_at hl 1 rfl) ?_
              refine lv_iload_n hx hb dX0_receive_62 rfl (lv_at hl 2 rfl) ?_
              refine xr_callV (iv := (fun b => some (.int b))) (As := [.int a1, .int a2]) (rest := [.int a3]) h hX hI (fun _ _ h => w_X0_roomOf h) (fun _ _ h => o_X0_roomOf h) rfl 2 (lw_V q1430 q1432 qs14 q74 q1433) ⟨rfl, xd_X0_roomOf⟩ ⟨rfl, rfl⟩ rfl hl.1 (Nat.le_of_ble_eq_true rfl) dX0_receive_63 (fun v20 H locs σ cells slots h hI => ?_)
              refine W.eq (g2 := F0 m 66 ls [.int v20, .int a3]) rfl ?_
              refine lv_icmp_le (tgt := 72) hx hb dX0_receive_66 (by decide) (fun hc => ?_) (fun hc => ?_)
              · have h := xif_t h hc
                exact w_X0_receive_b72 hX h hI (lv_sub hl [0, 1, 2, 3, 4] rfl)
              · have h := xif_f h hc
                refine lv_bipush (v := (-4 : Int32)) hx hb dX0_receive_69 (by decide) ?_
                exact xr_ireturn h hX hI dX0_receive_71
        · have h := xif_t h hc
          refine lv_bipush (v := (-2 : Int32)) hx hb dX0_receive_44 (by decide) ?_
          exact xr_ireturn h hX hI dX0_receive_46
  · have h := xif_t h hc
    refine lv_iconst (v := (-1 : Int32)) hx hb dX0_receive_12 (by decide) ?_
    exact xr_ireturn h hX hI dX0_receive_13
/-! PayMatchModel.real(I)D  -/
theorem o_X3_real {a0 : Nat} {a1 : Int32} {r : UInt64} {σ σ9 : xS} (h : (f_X3_real a0 a1).1 σ = some (r, σ9)) : ∃ fs, σ.1 a0 = some (.inl (3, fs)) := xck_of h
theorem w_X3_real {E : xE} {l : Launch} {a0 : Nat} {a1 : Int32} {r : UInt64} {σ σ9 : xS} (h : (f_X3_real a0 a1).1 σ = some (r, σ9)) : xMet E l yX3_real (ws_ yX3_real cX3_real 2 (some .double)) 1 60 [.ref a0, .int a1] σ σ9 (some (.double r)) := by
  refine xstart (by decide +kernel) ((f_X3_real a0 a1).2 _ _ _ h) (Nat.le_of_ble_eq_true rfl) ?_
  intro p e s m args below meth c H locs cells slots ls R hX hI hl
  have hx := hX.1.1
  have hb := hX.1.2.1
  have hl : lv_has ls 2 [(0, .ref a0), (1, .int a1)] := hl
  generalize hσ0 : σ = σ0 at hX hI ⊢
  have h : (f_X3_real a0 a1).1 σ0 = some (r, σ9) := by rw [← hσ0]; exact h
  clear hσ0
  delta f_X3_real at h
  have h := (xck_bd h).2
  refine lv_aload_n hx hb dX3_real_0 rfl (lv_at hl 0 rfl) ?_
  refine xr_gN h hX hI xl_X3_13_3.g dX3_real_1 (fun v3 h => ?_)
  refine lv_iload_n hx hb dX3_real_4 rfl (lv_at hl 1 rfl) ?_
  refine xr_ldL h hX hI dX3_real_5 (fun v4 h => ?_)
  refine xr_l2d h hX q2051 q1240 q1239 q88 hl.1 ⟨rfl, rfl⟩ dX3_real_6 (fun h => ?_)
  exact xr_dreturn h hX hI dX3_real_9
/-! PayMatchModel.stretched(II)I  -/
theorem o_X3_stretched {a0 : Nat} {a1 : Int32} {a2 : Int32} {r : Int32} {σ σ9 : xS} (h : (f_X3_stretched a0 a1 a2).1 σ = some (r, σ9)) : ∃ fs, σ.1 a0 = some (.inl (3, fs)) := xck_of h
theorem w_X3_stretched {E : xE} {l : Launch} {a0 : Nat} {a1 : Int32} {a2 : Int32} {r : Int32} {σ σ9 : xS} (h : (f_X3_stretched a0 a1 a2).1 σ = some (r, σ9)) : xMet E l yX3_stretched (ws_ yX3_stretched cX3_stretched 3 (some .int)) 2 81 [.ref a0, .int a1, .int a2] σ σ9 (some (.int r)) := by
  refine xstart (by decide +kernel) ((f_X3_stretched a0 a1 a2).2 _ _ _ h) (Nat.le_of_ble_eq_true rfl) ?_
  intro p e s m args below meth c H locs cells slots ls R hX hI hl
  have hx := hX.1.1
  have hb := hX.1.2.1
  have hl : lv_has ls 3 [(0, .ref a0), (1, .int a1), (2, .int a2)] := hl
  generalize hσ0 : σ = σ0 at hX hI ⊢
  have h : (f_X3_stretched a0 a1 a2).1 σ0 = some (r, σ9) := by rw [← hσ0]; exact h
  clear hσ0
  delta f_X3_stretched at h
  have h := (xck_bd h).2
  refine lv_iload_n hx hb dX3_stretched_0 rfl (lv_at hl 2 rfl) ?_
  refine lv_i2d hx hb dX3_stretched_1 ?_
  refine lv_dconst1 hx hb dX3_stretched_2 ?_
  refine lv_aload_n hx hb dX3_stretched_3 rfl (lv_at hl 0 rfl) ?_
  refine lv_aload_n hx hb dX3_stretched_4 rfl (lv_at hl 0 rfl) ?_
  refine lv_iload_n hx hb dX3_stretched_5 rfl (lv_at hl 1 rfl) ?_
  refine xr_callV (iv := (fun b => some (.int b))) (As := [.int a1]) (rest := [.ref a0, .double FP.dconst1, .double (FP.i2d a2)]) h hX hI (fun _ _ h => w_X3_whose h) (fun _ _ h => o_X3_whose h) rfl 1 (lw_V q2071 q2073 qs36 q87 q2074) ⟨rfl, xd_X3_whose⟩ ⟨rfl, rfl⟩ rfl hl.1 (Nat.le_of_ble_eq_true rfl) dX3_stretched_6 (fun v4 H locs σ cells slots h hI => ?_)
  refine W.eq (g2 := F0 m 9 ls [.int v4, .ref a0, .double FP.dconst1, .double (FP.i2d a2)]) rfl ?_
  refine lv_iconst (v := (1 : Int32)) hx hb dX3_stretched_9 (by decide) ?_
  refine xr_callS (iv := (fun b => some (.int b))) (As := [.int v4, .int (1 : Int32)]) (rest := [.ref a0, .double FP.dconst1, .double (FP.i2d a2)]) h hX hI (fun _ _ h => w_X3_ofSupplier h) 2 (lw_S q2026 q2027 q87 q2028) xd_X3_ofSupplier ⟨rfl, rfl⟩ rfl hl.1 (Nat.le_of_ble_eq_true rfl) dX3_stretched_10 (fun v5 H locs σ cells slots h hI => ?_)
  refine W.eq (g2 := F0 m 13 ls [.int v5, .ref a0, .double FP.dconst1, .double (FP.i2d a2)]) rfl ?_
  refine xr_callV (iv := (fun b => some (.double b))) (As := [.int v5]) (rest := [.double FP.dconst1, .double (FP.i2d a2)]) h hX hI (fun _ _ h => w_X3_real h) (fun _ _ h => o_X3_real h) rfl 1 (lw_V q2135 q2137 qs42 q87 q2138) ⟨rfl, xd_X3_real⟩ ⟨rfl, rfl⟩ rfl hl.1 (Nat.le_of_ble_eq_true rfl) dX3_stretched_13 (fun v6 H locs σ cells slots h hI => ?_)
  refine W.eq (g2 := F0 m 16 ls [.double v6, .double FP.dconst1, .double (FP.i2d a2)]) rfl ?_
  refine lv_ldc2d (v := (4636737291354636288 : UInt64)) hx hb hX.1.2.2.2.1 (hX.1.2.2.2.2 _ q2139) dX3_stretched_16 ?_
  refine xr_ddiv h hx hb dX3_stretched_19 (fun h => ?_)
  refine xr_dadd h hx hb dX3_stretched_20 (fun h => ?_)
  refine xr_dmul h hx hb dX3_stretched_21 (fun h => ?_)
  refine lv_d2i hx hb dX3_stretched_22 ?_
  exact xr_ireturn h hX hI dX3_stretched_23
/-! PayMatchModel.takesMost(II)I  -/
theorem o_X3_takesMost {a0 : Nat} {a1 : Int32} {a2 : Int32} {r : Int32} {σ σ9 : xS} (h : (f_X3_takesMost a0 a1 a2).1 σ = some (r, σ9)) : ∃ fs, σ.1 a0 = some (.inl (3, fs)) := xck_of h
theorem w_X3_takesMost {E : xE} {l : Launch} {a0 : Nat} {a1 : Int32} {a2 : Int32} {r : Int32} {σ σ9 : xS} (h : (f_X3_takesMost a0 a1 a2).1 σ = some (r, σ9)) : xMet E l yX3_takesMost (ws_ yX3_takesMost cX3_takesMost 3 (some .int)) 3 103 [.ref a0, .int a1, .int a2] σ σ9 (some (.int r)) := by
  refine xstart (by decide +kernel) ((f_X3_takesMost a0 a1 a2).2 _ _ _ h) (Nat.le_of_ble_eq_true rfl) ?_
  intro p e s m args below meth c H locs cells slots ls R hX hI hl
  have hx := hX.1.1
  have hb := hX.1.2.1
  have hl : lv_has ls 3 [(0, .ref a0), (1, .int a1), (2, .int a2)] := hl
  generalize hσ0 : σ = σ0 at hX hI ⊢
  have h : (f_X3_takesMost a0 a1 a2).1 σ0 = some (r, σ9) := by rw [← hσ0]; exact h
  clear hσ0
  delta f_X3_takesMost at h
  have h := (xck_bd h).2
  refine lv_aload_n hx hb dX3_takesMost_0 rfl (lv_at hl 0 rfl) ?_
  refine lv_iload_n hx hb dX3_takesMost_1 rfl (lv_at hl 1 rfl) ?_
  refine lv_aload_n hx hb dX3_takesMost_2 rfl (lv_at hl 0 rfl) ?_
  refine lv_iload_n hx hb dX3_takesMost_3 rfl (lv_at hl 1 rfl) ?_
  refine lv_iload_n hx hb dX3_takesMost_4 rfl (lv_at hl 2 rfl) ?_
  refine lv_iconst (v := (1 : Int32)) hx hb dX3_takesMost_5 (by decide) ?_
  refine xr_callS (iv := (fun b => some (.int b))) (As := [.int a1, .int a2, .int (1 : Int32)]) (rest := [.ref a0, .int a1, .ref a0]) h hX hI (fun _ _ h => w_X3_ofLine h) 3 (lw_S q2103 q2104 q87 q2105) xd_X3_ofLine ⟨rfl, rfl⟩ rfl hl.1 (Nat.le_of_ble_eq_true rfl) dX3_takesMost_6 (fun v4 H locs σ cells slots h hI => ?_)
  refine W.eq (g2 := F0 m 9 ls [.int v4, .ref a0, .int a1, .ref a0]) rfl ?_
  refine xr_callV (iv := (fun b => some (.int b))) (As := [.int v4]) (rest := [.int a1, .ref a0]) h hX hI (fun _ _ h => w_X3_at h) (fun _ _ h => o_X3_at h) rfl 1 (lw_V q2022 q2024 qs31 q87 q2025) ⟨rfl, xd_X3_at⟩ ⟨rfl, rfl⟩ rfl hl.1 (Nat.le_of_ble_eq_true rfl) dX3_takesMost_9 (fun v5 H locs σ cells slots h hI => ?_)
  refine W.eq (g2 := F0 m 12 ls [.int v5, .int a1, .ref a0]) rfl ?_
  refine xr_callV (iv := (fun b => some (.int b))) (As := [.int a1, .int v5]) (rest := []) h hX hI (fun _ _ h => w_X3_stretched h) (fun _ _ h => o_X3_stretched h) rfl 2 (lw_V q2131 q2133 qs41 q87 q2134) ⟨rfl, xd_X3_stretched⟩ ⟨rfl, rfl⟩ rfl hl.1 (Nat.le_of_ble_eq_true rfl) dX3_takesMost_12 (fun v6 H locs σ cells slots h hI => ?_)
  refine W.eq (g2 := F0 m 15 ls [.int v6]) rfl ?_
  exact xr_ireturn h hX hI dX3_takesMost_15
/-! PayMatchModel.log(III)V  -/
theorem w_X3_log_b40 {a0 : Nat} {a1 : Int32} {a2 : Int32} {a3 : Int32} {r : Unit} (hX : xX E R p m c cX3_log 5 s args RX3 "log" meth none 0 0 σ0 σ9)
    (h : (f_X3_log_b40 a0 a1 a2 a3).1 σ = some (r, σ9)) (hI : xI E σ0 σ s H locs cells slots) (hl : lv_has ls 5 [(0, .ref a0), (1, .int a1), (2, .int a2), (3, .int a3)]) : W p l e R s m args below meth c H locs cells slots (xMQ E below args s σ0 σ9 none) (F0 m 40 ls []) := by
  have hx := hX.1.1
  have hb := hX.1.2.1
  delta f_X3_log_b40 at h
  refine lv_aload_n hx hb dX3_log_40 rfl (lv_at hl 0 rfl) ?_
  refine xr_gN h hX hI xl_X3_13_3.g dX3_log_41 (fun v15 h => ?_)
  refine lv_sipush (v := (1371 : Int32)) hx hb dX3_log_44 (by decide) ?_
  refine lv_iload_n hx hb dX3_log_47 rfl (lv_at hl 1 rfl) ?_
  refine lv_i2l hx hb dX3_log_48 rfl ?_
  refine xr_stL h hX hI dX3_log_49 (fun H locs σ h hI => ?_)
  refine lv_aload_n hx hb dX3_log_50 rfl (lv_at hl 0 rfl) ?_
  refine xr_gN h hX hI xl_X3_13_3.g dX3_log_51 (fun v16 h => ?_)
  refine lv_sipush (v := (1372 : Int32)) hx hb dX3_log_54 (by decide) ?_
  refine lv_iload_n hx hb dX3_log_57 rfl (lv_at hl 2 rfl) ?_
  refine lv_i2l hx hb dX3_log_58 rfl ?_
  refine xr_stL h hX hI dX3_log_59 (fun H locs σ h hI => ?_)
  refine lv_aload_n hx hb dX3_log_60 rfl (lv_at hl 0 rfl) ?_
  refine xr_gN h hX hI xl_X3_13_3.g dX3_log_61 (fun v17 h => ?_)
  refine lv_sipush (v := (1373 : Int32)) hx hb dX3_log_64 (by decide) ?_
  refine lv_iload_n hx hb dX3_log_67 rfl (lv_at hl 3 rfl) ?_
  refine lv_i2l hx hb dX3_log_68 rfl ?_
  refine xr_stL h hX hI dX3_log_69 (fun H locs σ h hI => ?_)
  refine lv_aload_n hx hb dX3_log_70 rfl (lv_at hl 0 rfl) ?_
  refine xr_gN h hX hI xl_X3_13_3.g dX3_log_71 (fun v18 h => ?_)
  refine lv_sipush (v := (1374 : Int32)) hx hb dX3_log_74 (by decide) ?_
  refine lv_aload_n hx hb dX3_log_77 rfl (lv_at hl 0 rfl) ?_
  refine xr_gN h hX hI xl_X3_13_3.g dX3_log_78 (fun v19 h => ?_)
  refine lv_iconst (v := (0 : Int32)) hx hb dX3_log_81 (by decide) ?_
  refine xr_ldL h hX hI dX3_log_82 (fun v20 h => ?_)
  refine xr_stL h hX hI dX3_log_83 (fun H locs σ h hI => ?_)
  refine lv_aload_n hx hb dX3_log_84 rfl (lv_at hl 0 rfl) ?_
  refine xr_gN h hX hI xl_X3_13_3.g dX3_log_85 (fun v21 h => ?_)
  refine lv_bipush (v := (10 : Int32)) hx hb dX3_log_88 (by decide) ?_
  refine lv_dup2_11 hx hb dX3_log_90 rfl rfl ?_
  refine xr_ldL h hX hI dX3_log_91 (fun v22 h => ?_)
  refine lv_lconst (v := (1 : Int64)) hx hb dX3_log_92 (by decide) ?_
  refine lv_ladd hx hb dX3_log_93 ?_
  refine xr_stL h hX hI dX3_log_94 (fun H locs σ h hI => ?_)
  exact xr_return h hX hI dX3_log_95
theorem w_X3_log_b4 {rec4 : Nat → Int32 → Int32 → Int32 → Int32 → xM Unit} {a0 : Nat} {a1 : Int32} {a2 : Int32} {a3 : Int32} {a4 : Int32} {r : Unit} (hX : xX E R p m c cX3_log 5 s args RX3 "log" meth none 0 0 σ0 σ9) (hrec4 : ∀ (a0 : Nat) (a1 : Int32) (a2 : Int32) (a3 : Int32) (a4 : Int32) (σ : xS) (H : Heap) (locs : List Loc) (cells slots : Nat) (ls : Array Slot), (rec4 a0 a1 a2 a3 a4).1 σ = some (r, σ9) → xI E σ0 σ s H locs cells slots → lv_has ls 5 [(0, .ref a0), (1, .int a1), (2, .int a2), (3, .int a3), (4, .int a4)] → W p l e R s m args below meth c H locs cells slots (xMQ E below args s σ0 σ9 none) (F0 m 4 ls []))
    (h : (f_X3_log_b4 rec4 a0 a1 a2 a3 a4).1 σ = some (r, σ9)) (hI : xI E σ0 σ s H locs cells slots) (hl : lv_has ls 5 [(0, .ref a0), (1, .int a1), (2, .int a2), (3, .int a3), (4, .int a4)]) : W p l e R s m args below meth c H locs cells slots (xMQ E below args s σ0 σ9 none) (F0 m 4 ls []) := by
  have hx := hX.1.1
  have hb := hX.1.2.1
  delta f_X3_log_b4 at h
  refine lv_iload hx hb dX3_log_4 (lv_at hl 4 rfl) ?_
  refine lv_iconst (v := (3 : Int32)) hx hb dX3_log_6 (by decide) ?_
  refine lv_icmp_le (tgt := 40) hx hb dX3_log_7 (by decide) (fun hc => ?_) (fun hc => ?_)
  · have h := xif_t h hc
    exact w_X3_log_b40 hX h hI (lv_sub hl [0, 1, 2, 3] rfl)
  · have h := xif_f h hc
    refine lv_aload_n hx hb dX3_log_10 rfl (lv_at hl 0 rfl) ?_
    refine xr_gN h hX hI xl_X3_13_3.g dX3_log_11 (fun v12 h => ?_)
    refine lv_sipush (v := (1371 : Int32)) hx hb dX3_log_14 (by decide) ?_
    refine lv_iload hx hb dX3_log_17 (lv_at hl 4 rfl) ?_
    refine lv_iadd hx hb dX3_log_19 ?_
    refine lv_aload_n hx hb dX3_log_20 rfl (lv_at hl 0 rfl) ?_
    refine xr_gN h hX hI xl_X3_13_3.g dX3_log_21 (fun v13 h => ?_)
    refine lv_sipush (v := (1371 : Int32)) hx hb dX3_log_24 (by decide) ?_
    refine lv_iload hx hb dX3_log_27 (lv_at hl 4 rfl) ?_
    refine lv_iadd hx hb dX3_log_29 ?_
    refine lv_iconst (v := (4 : Int32)) hx hb dX3_log_30 (by decide) ?_
    refine lv_isub hx hb dX3_log_31 ?_
    refine xr_ldL h hX hI dX3_log_32 (fun v14 h => ?_)
    refine xr_stL h hX hI dX3_log_33 (fun H locs σ h hI => ?_)
    refine lv_iinc (k := 4) (lv' := [(4, .int (a4 - (1 : Int32))), (0, .ref a0), (1, .int a1), (2, .int a2), (3, .int a3)]) hx hb dX3_log_34 hl rfl (xidec (by decide)) (Nat.le_of_ble_eq_true rfl) rfl (fun ls hl => ?_)
    refine lv_goto (tgt := 4) hx hb dX3_log_37 (by decide) ?_
    exact hrec4 a0 a1 a2 a3 (a4 - (1 : Int32)) _ _ _ _ _ _ h hI (lv_sub hl [1, 2, 3, 4, 0] rfl)
theorem w_X3_log_L4 {r : Unit} (hX : xX E R p m c cX3_log 5 s args RX3 "log" meth none 0 0 σ0 σ9) : ∀ (n : Nat) (a0 : Nat) (a1 : Int32) (a2 : Int32) (a3 : Int32) (a4 : Int32) (σ : xS) (H : Heap) (locs : List Loc) (cells slots : Nat) (ls : Array Slot), (f_X3_log_L4 n a0 a1 a2 a3 a4).1 σ = some (r, σ9) → xI E σ0 σ s H locs cells slots → lv_has ls 5 [(0, .ref a0), (1, .int a1), (2, .int a2), (3, .int a3), (4, .int a4)] → W p l e R s m args below meth c H locs cells slots (xMQ E below args s σ0 σ9 none) (F0 m 4 ls []) := by
  intro n
  induction n with
  | zero =>
    intro a0 a1 a2 a3 a4 σ H locs cells slots ls h
    exact xr_no h
  | succ n ih =>
    intro a0 a1 a2 a3 a4 σ H locs cells slots ls h hI hl
    exact w_X3_log_b4 hX ih h hI hl
theorem o_X3_log {a0 : Nat} {a1 : Int32} {a2 : Int32} {a3 : Int32} {r : Unit} {σ σ9 : xS} (h : (f_X3_log a0 a1 a2 a3).1 σ = some (r, σ9)) : ∃ fs, σ.1 a0 = some (.inl (3, fs)) := xck_of h
theorem w_X3_log {E : xE} {l : Launch} {a0 : Nat} {a1 : Int32} {a2 : Int32} {a3 : Int32} {r : Unit} {σ σ9 : xS} (h : (f_X3_log a0 a1 a2 a3).1 σ = some (r, σ9)) : xMet E l yX3_log (ws_ yX3_log cX3_log 5 none) 0 0 [.ref a0, .int a1, .int a2, .int a3] σ σ9 none := by
  refine xstart (by decide +kernel) ((f_X3_log a0 a1 a2 a3).2 _ _ _ h) (Nat.le_of_ble_eq_true rfl) ?_
  intro p e s m args below meth c H locs cells slots ls R hX hI hl
  have hx := hX.1.1
  have hb := hX.1.2.1
  have hl : lv_has ls 5 [(0, .ref a0), (1, .int a1), (2, .int a2), (3, .int a3)] := hl
  generalize hσ0 : σ = σ0 at hX hI ⊢
  have h : (f_X3_log a0 a1 a2 a3).1 σ0 = some (r, σ9) := by rw [← hσ0]; exact h
  clear hσ0
  delta f_X3_log at h
  have h := (xck_bd h).2
  refine lv_bipush (v := (39 : Int32)) hx hb dX3_log_0 (by decide) ?_
  refine lv_istore (lv' := [(4, .int (39 : Int32)), (0, .ref a0), (1, .int a1), (2, .int a2), (3, .int a3)]) hx hb dX3_log_2 hl (Nat.le_of_ble_eq_true rfl) rfl (fun ls hl => ?_)
  exact w_X3_log_L4 hX xFU a0 a1 a2 a3 (39 : Int32) _ _ _ _ _ _ h hI (lv_sub hl [1, 2, 3, 4, 0] rfl)
/-! PayMatchModel.receive(IIII)I  -/
theorem w_X3_receive_b84 {a0 : Nat} {a1 : Int32} {a2 : Int32} {a3 : Int32} {a4 : Int32} {r : Int32} (hX : xX E R p m c cX3_receive 5 s args RX3 "receive" meth (some .int) 4 125 σ0 σ9)
    (h : (f_X3_receive_b84 a0 a1 a2 a3 a4).1 σ = some (r, σ9)) (hI : xI E σ0 σ s H locs cells slots) (hl : lv_has ls 5 [(0, .ref a0), (1, .int a1), (2, .int a2), (3, .int a3), (4, .int a4)]) : W p l e R s m args below meth c H locs cells slots (xMQ E below args s σ0 σ9 (some (.int r))) (F0 m 84 ls []) := by
  have hx := hX.1.1
  have hb := hX.1.2.1
  delta f_X3_receive_b84 at h
  refine lv_aload_n hx hb dX3_receive_84 rfl (lv_at hl 0 rfl) ?_
  refine xr_gN h hX hI xl_X3_13_3.g dX3_receive_85 (fun v17 h => ?_)
  refine lv_iload_n hx hb dX3_receive_88 rfl (lv_at hl 1 rfl) ?_
  refine lv_iload_n hx hb dX3_receive_89 rfl (lv_at hl 2 rfl) ?_
  refine lv_iconst (v := (3 : Int32)) hx hb dX3_receive_90 (by decide) ?_
  refine xr_callS (iv := (fun b => some (.int b))) (As := [.int a1, .int a2, .int (3 : Int32)]) (rest := [.ref v17]) h hX hI (fun _ _ h => w_X3_ofLine h) 3 (lw_S q2103 q2104 q87 q2105) xd_X3_ofLine ⟨rfl, rfl⟩ rfl hl.1 (Nat.le_of_ble_eq_true rfl) dX3_receive_91 (fun v18 H locs σ cells slots h hI => ?_)
  refine W.eq (g2 := F0 m 94 ls [.int v18, .ref v17]) rfl ?_
  refine lv_dup2_11 hx hb dX3_receive_94 rfl rfl ?_
  refine xr_ldL h hX hI dX3_receive_95 (fun v19 h => ?_)
  refine lv_iload_n hx hb dX3_receive_96 rfl (lv_at hl 3 rfl) ?_
  refine lv_i2l hx hb dX3_receive_97 rfl ?_
  refine lv_ladd hx hb dX3_receive_98 ?_
  refine xr_stL h hX hI dX3_receive_99 (fun H locs σ h hI => ?_)
  refine lv_aload_n hx hb dX3_receive_100 rfl (lv_at hl 0 rfl) ?_
  refine xr_gN h hX hI xl_X3_13_3.g dX3_receive_101 (fun v20 h => ?_)
  refine lv_iload_n hx hb dX3_receive_104 rfl (lv_at hl 1 rfl) ?_
  refine lv_iload_n hx hb dX3_receive_105 rfl (lv_at hl 2 rfl) ?_
  refine lv_iconst (v := (4 : Int32)) hx hb dX3_receive_106 (by decide) ?_
  refine xr_callS (iv := (fun b => some (.int b))) (As := [.int a1, .int a2, .int (4 : Int32)]) (rest := [.ref v20]) h hX hI (fun _ _ h => w_X3_ofLine h) 3 (lw_S q2103 q2104 q87 q2105) xd_X3_ofLine ⟨rfl, rfl⟩ rfl hl.1 (Nat.le_of_ble_eq_true rfl) dX3_receive_107 (fun v21 H locs σ cells slots h hI => ?_)
  refine W.eq (g2 := F0 m 110 ls [.int v21, .ref v20]) rfl ?_
  refine lv_dup2_11 hx hb dX3_receive_110 rfl rfl ?_
  refine xr_ldL h hX hI dX3_receive_111 (fun v22 h => ?_)
  refine lv_iload hx hb dX3_receive_112 (lv_at hl 4 rfl) ?_
  refine lv_i2l hx hb dX3_receive_114 rfl ?_
  refine lv_ladd hx hb dX3_receive_115 ?_
  refine xr_stL h hX hI dX3_receive_116 (fun H locs σ h hI => ?_)
  refine lv_aload_n hx hb dX3_receive_117 rfl (lv_at hl 0 rfl) ?_
  refine lv_iconst (v := (0 : Int32)) hx hb dX3_receive_118 (by decide) ?_
  refine lv_iload_n hx hb dX3_receive_119 rfl (lv_at hl 1 rfl) ?_
  refine lv_iload_n hx hb dX3_receive_120 rfl (lv_at hl 3 rfl) ?_
  refine xr_callV (iv := (fun _ => none)) (As := [.int (0 : Int32), .int a1, .int a3]) (rest := []) h hX hI (fun _ _ h => w_X3_log h) (fun _ _ h => o_X3_log h) rfl 3 (lw_V q2140 q2142 qs43 q87 q2143) ⟨rfl, xd_X3_log⟩ ⟨rfl, rfl⟩ rfl hl.1 (Nat.le_of_ble_eq_true rfl) dX3_receive_121 (fun _ H locs σ cells slots h hI => ?_)
  refine lv_aload_n hx hb dX3_receive_124 rfl (lv_at hl 0 rfl) ?_
  refine lv_aload_n hx hb dX3_receive_125 rfl (lv_at hl 0 rfl) ?_
  refine lv_iload_n hx hb dX3_receive_126 rfl (lv_at hl 1 rfl) ?_
  refine lv_iload_n hx hb dX3_receive_127 rfl (lv_at hl 2 rfl) ?_
  refine lv_iconst (v := (3 : Int32)) hx hb dX3_receive_128 (by decide) ?_
  refine xr_callS (iv := (fun b => some (.int b))) (As := [.int a1, .int a2, .int (3 : Int32)]) (rest := [.ref a0, .ref a0]) h hX hI (fun _ _ h => w_X3_ofLine h) 3 (lw_S q2103 q2104 q87 q2105) xd_X3_ofLine ⟨rfl, rfl⟩ rfl hl.1 (Nat.le_of_ble_eq_true rfl) dX3_receive_129 (fun v23 H locs σ cells slots h hI => ?_)
  refine W.eq (g2 := F0 m 132 ls [.int v23, .ref a0, .ref a0]) rfl ?_
  refine xr_callV (iv := (fun b => some (.int b))) (As := [.int v23]) (rest := [.ref a0]) h hX hI (fun _ _ h => w_X3_at h) (fun _ _ h => o_X3_at h) rfl 1 (lw_V q2022 q2024 qs31 q87 q2025) ⟨rfl, xd_X3_at⟩ ⟨rfl, rfl⟩ rfl hl.1 (Nat.le_of_ble_eq_true rfl) dX3_receive_132 (fun v24 H locs σ cells slots h hI => ?_)
  refine W.eq (g2 := F0 m 135 ls [.int v24, .ref a0]) rfl ?_
  refine xr_callV (iv := (fun b => some (.int b))) (As := [.int v24]) (rest := []) h hX hI (fun _ _ h => w_X3_acted h) (fun _ _ h => o_X3_acted h) rfl 1 (lw_V q2031 q2033 qs32 q87 q2034) ⟨rfl, xd_X3_acted⟩ ⟨rfl, rfl⟩ rfl hl.1 (Nat.le_of_ble_eq_true rfl) dX3_receive_135 (fun v25 H locs σ cells slots h hI => ?_)
  refine W.eq (g2 := F0 m 138 ls [.int v25]) rfl ?_
  exact xr_ireturn h hX hI dX3_receive_138
theorem o_X3_receive {a0 : Nat} {a1 : Int32} {a2 : Int32} {a3 : Int32} {a4 : Int32} {r : Int32} {σ σ9 : xS} (h : (f_X3_receive a0 a1 a2 a3 a4).1 σ = some (r, σ9)) : ∃ fs, σ.1 a0 = some (.inl (3, fs)) := xck_of h
theorem w_X3_receive {E : xE} {l : Launch} {a0 : Nat} {a1 : Int32} {a2 : Int32} {a3 : Int32} {a4 : Int32} {r : Int32} {σ σ9 : xS} (h : (f_X3_receive a0 a1 a2 a3 a4).1 σ = some (r, σ9)) : xMet E l yX3_receive (ws_ yX3_receive cX3_receive 5 (some .int)) 4 125 [.ref a0, .int a1, .int a2, .int a3, .int a4] σ σ9 (some (.int r)) := by
  refine xstart (by decide +kernel) ((f_X3_receive a0 a1 a2 a3 a4).2 _ _ _ h) (Nat.le_of_ble_eq_true rfl) ?_
  intro p e s m args below meth c H locs cells slots ls R hX hI hl
  have hx := hX.1.1
  have hb := hX.1.2.1
  have hl : lv_has ls 5 [(0, .ref a0), (1, .int a1), (2, .int a2), (3, .int a3), (4, .int a4)] := hl
  generalize hσ0 : σ = σ0 at hX hI ⊢
  have h : (f_X3_receive a0 a1 a2 a3 a4).1 σ0 = some (r, σ9) := by rw [← hσ0]; exact h
  clear hσ0
  delta f_X3_receive at h
  have h := (xck_bd h).2
  refine lv_aload_n hx hb dX3_receive_0 rfl (lv_at hl 0 rfl) ?_
  refine xr_callV (iv := (fun _ => none)) (As := []) (rest := []) h hX hI (fun _ _ h => w_X3_aside h) (fun _ _ h => o_X3_aside h) rfl 0 (lw_V q2018 q2020 qs30 q87 q2021) ⟨rfl, xd_X3_aside⟩ ⟨rfl, rfl⟩ rfl hl.1 (Nat.le_of_ble_eq_true rfl) dX3_receive_1 (fun _ H locs σ cells slots h hI => ?_)
  refine lv_aload_n hx hb dX3_receive_4 rfl (lv_at hl 0 rfl) ?_
  refine lv_iload_n hx hb dX3_receive_5 rfl (lv_at hl 1 rfl) ?_
  refine lv_iload_n hx hb dX3_receive_6 rfl (lv_at hl 2 rfl) ?_
  refine xr_callV (iv := (fun b => some (.int b))) (As := [.int a1, .int a2]) (rest := []) h hX hI (fun _ _ h => w_X3_isLine h) (fun _ _ h => o_X3_isLine h) rfl 2 (lw_V q2110 q2112 qs39 q87 q2113) ⟨rfl, xd_X3_isLine⟩ ⟨rfl, rfl⟩ rfl hl.1 (Nat.le_of_ble_eq_true rfl) dX3_receive_7 (fun v26 H locs σ cells slots h hI => ?_)
  refine W.eq (g2 := F0 m 10 ls [.int v26]) rfl ?_
  refine lv_if_ne (tgt := 15) hx hb dX3_receive_10 (by decide) (fun hc => ?_) (fun hc => ?_)
  · have h := xif_f h hc
    refine lv_iload_n hx hb dX3_receive_15 rfl (lv_at hl 3 rfl) ?_
    refine lv_iconst (v := (0 : Int32)) hx hb dX3_receive_16 (by decide) ?_
    refine lv_sipush (v := (999 : Int32)) hx hb dX3_receive_17 (by decide) ?_
    refine xr_callS (iv := (fun b => some (.int b))) (As := [.int a3, .int (0 : Int32), .int (999 : Int32)]) (rest := []) h hX hI (fun _ _ h => w_X3_in h) 3 (lw_S q2043 q2044 q87 q2045) xd_X3_in ⟨rfl, rfl⟩ rfl hl.1 (Nat.le_of_ble_eq_true rfl) dX3_receive_20 (fun v27 H locs σ cells slots h hI => ?_)
    refine W.eq (g2 := F0 m 23 ls [.int v27]) rfl ?_
    refine lv_if_eq (tgt := 45) hx hb dX3_receive_23 (by decide) (fun hc => ?_) (fun hc => ?_)
    · have h := xif_t h hc
      refine lv_bipush (v := (-2 : Int32)) hx hb dX3_receive_45 (by decide) ?_
      exact xr_ireturn h hX hI dX3_receive_47
    · have h := xif_f h hc
      refine lv_iload hx hb dX3_receive_26 (lv_at hl 4 rfl) ?_
      refine lv_iconst (v := (0 : Int32)) hx hb dX3_receive_28 (by decide) ?_
      refine lv_sipush (v := (999 : Int32)) hx hb dX3_receive_29 (by decide) ?_
      refine xr_callS (iv := (fun b => some (.int b))) (As := [.int a4, .int (0 : Int32), .int (999 : Int32)]) (rest := []) h hX hI (fun _ _ h => w_X3_in h) 3 (lw_S q2043 q2044 q87 q2045) xd_X3_in ⟨rfl, rfl⟩ rfl hl.1 (Nat.le_of_ble_eq_true rfl) dX3_receive_32 (fun v28 H locs σ cells slots h hI => ?_)
      refine W.eq (g2 := F0 m 35 ls [.int v28]) rfl ?_
      refine lv_if_eq (tgt := 45) hx hb dX3_receive_35 (by decide) (fun hc => ?_) (fun hc => ?_)
      · have h := xif_t h hc
        refine lv_bipush (v := (-2 : Int32)) hx hb dX3_receive_45 (by decide) ?_
        exact xr_ireturn h hX hI dX3_receive_47
      · have h := xif_f h hc
        refine lv_iload_n hx hb dX3_receive_38 rfl (lv_at hl 3 rfl) ?_
        refine lv_iload hx hb dX3_receive_39 (lv_at hl 4 rfl) ?_
        refine lv_iadd hx hb dX3_receive_41 ?_
        refine lv_if_ne (tgt := 48) hx hb dX3_receive_42 (by decide) (fun hc => ?_) (fun hc => ?_)
        · have h := xif_f h hc
          refine lv_aload_n hx hb dX3_receive_48 rfl (lv_at hl 0 rfl) ?_
          refine lv_iload_n hx hb dX3_receive_49 rfl (lv_at hl 1 rfl) ?_
          refine xr_callV (iv := (fun b => some (.int b))) (As := [.int a1]) (rest := []) h hX hI (fun _ _ h => w_X3_isOpen h) (fun _ _ h => o_X3_isOpen h) rfl 1 (lw_V q2099 q2101 qs38 q87 q2102) ⟨rfl, xd_X3_isOpen⟩ ⟨rfl, rfl⟩ rfl hl.1 (Nat.le_of_ble_eq_true rfl) dX3_receive_50 (fun v29 H locs σ cells slots h hI => ?_)
          refine W.eq (g2 := F0 m 53 ls [.int v29]) rfl ?_
          refine lv_if_eq (tgt := 81) hx hb dX3_receive_53 (by decide) (fun hc => ?_) (fun hc => ?_)
          · have h := xif_t h hc
            refine lv_bipush (v := (-4 : Int32)) hx hb dX3_receive_81 (by decide) ?_
            exact xr_ireturn h hX hI dX3_receive_83
          · have h := xif_f h hc
            refine lv_iload_n hx hb dX3_receive_56 rfl (lv_at hl 3 rfl) ?_
            refine lv_if_le (tgt := 84) hx hb dX3_receive_57 (by decide) (fun hc => ?_) (fun hc => ?_)
            · have h := xif_t h hc
              exact w_X3_receive_b84 hX h hI (lv_sub hl [0, 1, 2, 3, 4] rfl)
            · have h := xif_f h hc
              refine lv_aload_n hx hb dX3_receive_60 rfl (lv_at hl 0 rfl) ?_
              refine lv_iload_n hx hb dX3_receive_61 rfl (lv_at hl 1 rfl) ?_
              refine lv_iload_n hx hb dX3_receive_62 rfl (lv_at hl 2 rfl) ?_
              refine lv_iconst (v := (3 : Int32)) hx hb dX3_receive_63 (by decide) ?_
              refine xr_callS (iv := (fun b => some (.int b))) (As := [.int a1, .int a2, .int (3 : Int32)]) (rest := [.ref a0]) h hX hI (fun _ _ h => w_X3_ofLine h) 3 (lw_S q2103 q2104 q87 q2105) xd_X3_ofLine ⟨rfl, rfl⟩ rfl hl.1 (Nat.le_of_ble_eq_true rfl) dX3_receive_64 (fun v30 H locs σ cells slots h hI => ?_)
              refine W.eq (g2 := F0 m 67 ls [.int v30, .ref a0]) rfl ?_
              refine xr_callV (iv := (fun b => some (.int b))) (As := [.int v30]) (rest := []) h hX hI (fun _ _ h => w_X3_at h) (fun _ _ h => o_X3_at h) rfl 1 (lw_V q2022 q2024 qs31 q87 q2025) ⟨rfl, xd_X3_at⟩ ⟨rfl, rfl⟩ rfl hl.1 (Nat.le_of_ble_eq_true rfl) dX3_receive_67 (fun v31 H locs σ cells slots h hI => ?_)
              refine W.eq (g2 := F0 m 70 ls [.int v31]) rfl ?_
              refine lv_iload_n hx hb dX3_receive_70 rfl (lv_at hl 3 rfl) ?_
              refine lv_iadd hx hb dX3_receive_71 ?_
              refine lv_aload_n hx hb dX3_receive_72 rfl (lv_at hl 0 rfl) ?_
              refine lv_iload_n hx hb dX3_receive_73 rfl (lv_at hl 1 rfl) ?_
              refine lv_iload_n hx hb dX3_receive_74 rfl (lv_at hl 2 rfl) ?_
              refine xr_callV (iv := (fun b => some (.int b))) (As := [.int a1, .int a2]) (rest := [.int (v31 + a3)]) h hX hI (fun _ _ h => w_X3_takesMost h) (fun _ _ h => o_X3_takesMost h) rfl 2 (lw_V q2127 q2129 qs40 q87 q2130) ⟨rfl, xd_X3_takesMost⟩ ⟨rfl, rfl⟩ rfl hl.1 (Nat.le_of_ble_eq_true rfl) dX3_receive_75 (fun v32 H locs σ cells slots h hI => ?_)
              refine W.eq (g2 := F0 m 78 ls [.int v32, .int (v31 + a3)]) rfl ?_
              refine lv_icmp_le (tgt := 84) hx hb dX3_receive_78 (by decide) (fun hc => ?_) (fun hc => ?_)
              · have h := xif_t h hc
                exact w_X3_receive_b84 hX h hI (lv_sub hl [0, 1, 2, 3, 4] rfl)
              · have h := xif_f h hc
                refine lv_bipush (v := (-4 : Int32)) hx hb dX3_receive_81 (by decide) ?_
                exact xr_ireturn h hX hI dX3_receive_83
        · have h := xif_t h hc
          refine lv_bipush (v := (-2 : Int32)) hx hb dX3_receive_45 (by decide) ?_
          exact xr_ireturn h hX hI dX3_receive_47
  · have h := xif_t h hc
    refine lv_iconst (v := (-1 : Int32)) hx hb dX3_receive_13 (by decide) ?_
    exact xr_ireturn h hX hI dX3_receive_14
/-! PayMatch$Line.claim(I)I  -/
theorem o_X5_claim {a0 : Nat} {a1 : Int32} {r : Int32} {σ σ9 : xS} (h : (f_X5_claim a0 a1).1 σ = some (r, σ9)) : ∃ fs, σ.1 a0 = some (.inl (5, fs)) := xck_of h
theorem w_X5_claim {E : xE} {l : Launch} {a0 : Nat} {a1 : Int32} {r : Int32} {σ σ9 : xS} (h : (f_X5_claim a0 a1).1 σ = some (r, σ9)) : xMet E l yX5_claim (ws_ yX5_claim cX5_claim 3 (some .int)) 1 21 [.ref a0, .int a1] σ σ9 (some (.int r)) := by
  refine xstart (by decide +kernel) ((f_X5_claim a0 a1).2 _ _ _ h) (Nat.le_of_ble_eq_true rfl) ?_
  intro p e s m args below meth c H locs cells slots ls R hX hI hl
  have hx := hX.1.1
  have hb := hX.1.2.1
  have hl : lv_has ls 3 [(0, .ref a0), (1, .int a1)] := hl
  generalize hσ0 : σ = σ0 at hX hI ⊢
  have h : (f_X5_claim a0 a1).1 σ0 = some (r, σ9) := by rw [← hσ0]; exact h
  clear hσ0
  delta f_X5_claim at h
  have h := (xck_bd h).2
  refine lv_iconst (v := (0 : Int32)) hx hb dX5_claim_0 (by decide) ?_
  refine lv_aload_n hx hb dX5_claim_1 rfl (lv_at hl 0 rfl) ?_
  refine xr_gI h hX hI xl_X5_34_5.g dX5_claim_2 (fun v6 h => ?_)
  refine lv_iload_n hx hb dX5_claim_5 rfl (lv_at hl 1 rfl) ?_
  refine lv_isub hx hb dX5_claim_6 ?_
  refine lv_aload_n hx hb dX5_claim_7 rfl (lv_at hl 0 rfl) ?_
  refine xr_gI h hX hI xl_X5_37_5.g dX5_claim_8 (fun v7 h => ?_)
  refine lv_isub hx hb dX5_claim_11 ?_
  refine xr_callS (iv := (fun b => some (.int b))) (As := [.int (0 : Int32), .int ((v6 - a1) - v7)]) (rest := []) h hX hI (fun _ _ h => w_J21_max h) 2 (lw_S q1395 q646 q101 q647) xd_J21_max ⟨rfl, rfl⟩ rfl hl.1 (Nat.le_of_ble_eq_true rfl) dX5_claim_12 (fun v8 H locs σ cells slots h hI => ?_)
  refine W.eq (g2 := F0 m 15 ls [.int v8]) rfl ?_
  refine lv_istore_n (lv' := [(2, .int v8), (0, .ref a0), (1, .int a1)]) hx hb dX5_claim_15 rfl hl (Nat.le_of_ble_eq_true rfl) rfl (fun ls hl => ?_)
  refine lv_aload_n hx hb dX5_claim_16 rfl (lv_at hl 1 rfl) ?_
  refine lv_dup hx hb dX5_claim_17 rfl ?_
  refine xr_gI h hX hI xl_X5_37_5.g dX5_claim_18 (fun v9 h => ?_)
  refine lv_iload_n hx hb dX5_claim_21 rfl (lv_at hl 0 rfl) ?_
  refine lv_iadd hx hb dX5_claim_22 ?_
  refine xr_pt h hX hI xl_X5_37_5 (Or.inl rfl) rfl rfl dX5_claim_23 (fun H locs σ h hI => ?_)
  refine lv_iload_n hx hb dX5_claim_26 rfl (lv_at hl 0 rfl) ?_
  refine lv_aload_n hx hb dX5_claim_27 rfl (lv_at hl 1 rfl) ?_
  refine xr_gI h hX hI xl_X5_19_5.g dX5_claim_28 (fun v10 h => ?_)
  refine lv_imul hx hb dX5_claim_31 ?_
  exact xr_ireturn h hX hI dX5_claim_32
/-! PayMatch$State.claim(LPayMatch$Supplier;LPayMatch$Line;)I  -/
theorem o_X1_claim {a0 : Nat} {a1 : Nat} {a2 : Nat} {r : Int32} {σ σ9 : xS} (h : (f_X1_claim a0 a1 a2).1 σ = some (r, σ9)) : ∃ fs, σ.1 a0 = some (.inl (1, fs)) := xck_of h
theorem w_X1_claim {E : xE} {l : Launch} {a0 : Nat} {a1 : Nat} {a2 : Nat} {r : Int32} {σ σ9 : xS} (h : (f_X1_claim a0 a1 a2).1 σ = some (r, σ9)) : xMet E l yX1_claim (ws_ yX1_claim cX1_claim 4 (some .int)) 2 43 [.ref a0, .ref a1, .ref a2] σ σ9 (some (.int r)) := by
  refine xstart (by decide +kernel) ((f_X1_claim a0 a1 a2).2 _ _ _ h) (Nat.le_of_ble_eq_true rfl) ?_
  intro p e s m args below meth c H locs cells slots ls R hX hI hl
  have hx := hX.1.1
  have hb := hX.1.2.1
  have hl : lv_has ls 4 [(0, .ref a0), (1, .ref a1), (2, .ref a2)] := hl
  generalize hσ0 : σ = σ0 at hX hI ⊢
  have h : (f_X1_claim a0 a1 a2).1 σ0 = some (r, σ9) := by rw [← hσ0]; exact h
  clear hσ0
  delta f_X1_claim at h
  have h := (xck_bd h).2
  refine lv_aload_n hx hb dX1_claim_0 rfl (lv_at hl 2 rfl) ?_
  refine lv_aload_n hx hb dX1_claim_1 rfl (lv_at hl 1 rfl) ?_
  refine lv_aload_n hx hb dX1_claim_2 rfl (lv_at hl 2 rfl) ?_
  refine xr_gI h hX hI xl_X1_121_5.g dX1_claim_3 (fun v5 h => ?_)
  refine xr_callV (iv := (fun b => some (.int b))) (As := [.int v5]) (rest := [.ref a2]) h hX hI (fun _ _ h => w_X7_with h) (fun _ _ h => o_X7_with h) rfl 1 (lw_V q1501 q1440 q1441 q108 q1442) ⟨rfl, xd_X7_with⟩ ⟨rfl, rfl⟩ rfl hl.1 (Nat.le_of_ble_eq_true rfl) dX1_claim_6 (fun v6 H locs σ cells slots h hI => ?_)
  refine W.eq (g2 := F0 m 9 ls [.int v6, .ref a2]) rfl ?_
  refine xr_callV (iv := (fun b => some (.int b))) (As := [.int v6]) (rest := []) h hX hI (fun _ _ h => w_X5_claim h) (fun _ _ h => o_X5_claim h) rfl 1 (lw_V q1502 q1503 q1504 q106 q1505) ⟨rfl, xd_X5_claim⟩ ⟨rfl, rfl⟩ rfl hl.1 (Nat.le_of_ble_eq_true rfl) dX1_claim_9 (fun v7 H locs σ cells slots h hI => ?_)
  refine W.eq (g2 := F0 m 12 ls [.int v7]) rfl ?_
  refine lv_istore_n (lv' := [(3, .int v7), (0, .ref a0), (1, .ref a1), (2, .ref a2)]) hx hb dX1_claim_12 rfl hl (Nat.le_of_ble_eq_true rfl) rfl (fun ls hl => ?_)
  refine lv_aload_n hx hb dX1_claim_13 rfl (lv_at hl 2 rfl) ?_
  refine lv_dup hx hb dX1_claim_14 rfl ?_
  refine xr_gI h hX hI xl_X1_145_7.g dX1_claim_15 (fun v8 h => ?_)
  refine lv_iload_n hx hb dX1_claim_18 rfl (lv_at hl 0 rfl) ?_
  refine lv_iadd hx hb dX1_claim_19 ?_
  refine xr_pt h hX hI xl_X1_145_7 (Or.inl rfl) rfl rfl dX1_claim_20 (fun H locs σ h hI => ?_)
  refine lv_iload_n hx hb dX1_claim_23 rfl (lv_at hl 0 rfl) ?_
  exact xr_ireturn h hX hI dX1_claim_24
/-! PayMatch$State.giveBack(III)I  -/
theorem o_X1_giveBack {a0 : Nat} {a1 : Int32} {a2 : Int32} {a3 : Int32} {r : Int32} {σ σ9 : xS} (h : (f_X1_giveBack a0 a1 a2 a3).1 σ = some (r, σ9)) : ∃ fs, σ.1 a0 = some (.inl (1, fs)) := xck_of h
theorem w_X1_giveBack {E : xE} {l : Launch} {a0 : Nat} {a1 : Int32} {a2 : Int32} {a3 : Int32} {r : Int32} {σ σ9 : xS} (h : (f_X1_giveBack a0 a1 a2 a3).1 σ = some (r, σ9)) : xMet E l yX1_giveBack (ws_ yX1_giveBack cX1_giveBack 5 (some .int)) 5 150 [.ref a0, .int a1, .int a2, .int a3] σ σ9 (some (.int r)) := by
  refine xstart (by decide +kernel) ((f_X1_giveBack a0 a1 a2 a3).2 _ _ _ h) (Nat.le_of_ble_eq_true rfl) ?_
  intro p e s m args below meth c H locs cells slots ls R hX hI hl
  have hx := hX.1.1
  have hb := hX.1.2.1
  have hl : lv_has ls 5 [(0, .ref a0), (1, .int a1), (2, .int a2), (3, .int a3)] := hl
  generalize hσ0 : σ = σ0 at hX hI ⊢
  have h : (f_X1_giveBack a0 a1 a2 a3).1 σ0 = some (r, σ9) := by rw [← hσ0]; exact h
  clear hσ0
  delta f_X1_giveBack at h
  have h := (xck_bd h).2
  refine lv_aload_n hx hb dX1_giveBack_0 rfl (lv_at hl 0 rfl) ?_
  refine lv_iload_n hx hb dX1_giveBack_1 rfl (lv_at hl 1 rfl) ?_
  refine lv_iload_n hx hb dX1_giveBack_2 rfl (lv_at hl 2 rfl) ?_
  refine xr_callV (iv := (fun b => some (.ref b))) (As := [.int a1, .int a2]) (rest := []) h hX hI (fun _ _ h => w_X1_line h) (fun _ _ h => o_X1_line h) rfl 2 (lw_V q1448 q1324 q1325 q75 q1326) ⟨rfl, xd_X1_line⟩ ⟨rfl, rfl⟩ rfl hl.1 (Nat.le_of_ble_eq_true rfl) dX1_giveBack_3 (fun v5 H locs σ cells slots h hI => ?_)
  refine W.eq (g2 := F0 m 6 ls [.ref v5]) rfl ?_
  refine lv_astore (lv' := [(4, .ref v5), (0, .ref a0), (1, .int a1), (2, .int a2), (3, .int a3)]) hx hb dX1_giveBack_6 hl (Nat.le_of_ble_eq_true rfl) rfl (fun ls hl => ?_)
  refine lv_aload hx hb dX1_giveBack_8 (lv_at hl 0 rfl) ?_
  refine lv_dup hx hb dX1_giveBack_10 rfl ?_
  refine xr_gI h hX hI xl_X1_121_5.g dX1_giveBack_11 (fun v6 h => ?_)
  refine lv_iload_n hx hb dX1_giveBack_14 rfl (lv_at hl 4 rfl) ?_
  refine lv_isub hx hb dX1_giveBack_15 ?_
  refine xr_pt h hX hI xl_X1_121_5 (Or.inl rfl) rfl rfl dX1_giveBack_16 (fun H locs σ h hI => ?_)
  refine lv_aload_n hx hb dX1_giveBack_19 rfl (lv_at hl 1 rfl) ?_
  refine lv_iconst (v := (1 : Int32)) hx hb dX1_giveBack_20 (by decide) ?_
  refine lv_iload_n hx hb dX1_giveBack_21 rfl (lv_at hl 2 rfl) ?_
  refine lv_iload_n hx hb dX1_giveBack_22 rfl (lv_at hl 4 rfl) ?_
  refine xr_callV (iv := (fun _ => none)) (As := [.int (1 : Int32), .int a1, .int a3]) (rest := []) h hX hI (fun _ _ h => w_X1_tell h) (fun _ _ h => o_X1_tell h) rfl 3 (lw_V q1449 q1450 q1451 q75 q1452) ⟨rfl, xd_X1_tell⟩ ⟨rfl, rfl⟩ rfl hl.1 (Nat.le_of_ble_eq_true rfl) dX1_giveBack_23 (fun _ H locs σ cells slots h hI => ?_)
  refine lv_aload_n hx hb dX1_giveBack_26 rfl (lv_at hl 1 rfl) ?_
  refine lv_aload_n hx hb dX1_giveBack_27 rfl (lv_at hl 1 rfl) ?_
  refine lv_iload_n hx hb dX1_giveBack_28 rfl (lv_at hl 2 rfl) ?_
  refine xr_callV (iv := (fun b => some (.ref b))) (As := [.int a1]) (rest := [.ref a0]) h hX hI (fun _ _ h => w_X1_supplierOf h) (fun _ _ h => o_X1_supplierOf h) rfl 1 (lw_V q1496 q1435 q1436 q75 q1437) ⟨rfl, xd_X1_supplierOf⟩ ⟨rfl, rfl⟩ rfl hl.1 (Nat.le_of_ble_eq_true rfl) dX1_giveBack_29 (fun v7 H locs σ cells slots h hI => ?_)
  refine W.eq (g2 := F0 m 32 ls [.ref v7, .ref a0]) rfl ?_
  refine lv_aload hx hb dX1_giveBack_32 (lv_at hl 0 rfl) ?_
  refine xr_callV (iv := (fun b => some (.int b))) (As := [.ref v7, .ref v5]) (rest := []) h hX hI (fun _ _ h => w_X1_claim h) (fun _ _ h => o_X1_claim h) rfl 2 (lw_V q1497 q1499 qs17 q75 q1500) ⟨rfl, xd_X1_claim⟩ ⟨rfl, rfl⟩ rfl hl.1 (Nat.le_of_ble_eq_true rfl) dX1_giveBack_34 (fun v8 H locs σ cells slots h hI => ?_)
  refine W.eq (g2 := F0 m 37 ls [.int v8]) rfl ?_
  exact xr_ireturn h hX hI dX1_giveBack_37
/-! PayMatch.giveBack(III)I  -/
theorem o_X0_giveBack {a0 : Nat} {a1 : Int32} {a2 : Int32} {a3 : Int32} {r : Int32} {σ σ9 : xS} (h : (f_X0_giveBack a0 a1 a2 a3).1 σ = some (r, σ9)) : ∃ fs, σ.1 a0 = some (.inl (0, fs)) := xck_of h
theorem w_X0_giveBack {E : xE} {l : Launch} {a0 : Nat} {a1 : Int32} {a2 : Int32} {a3 : Int32} {r : Int32} {σ σ9 : xS} (h : (f_X0_giveBack a0 a1 a2 a3).1 σ = some (r, σ9)) : xMet E l yX0_giveBack (ws_ yX0_giveBack cX0_giveBack 6 (some .int)) 14 438 [.ref a0, .int a1, .int a2, .int a3] σ σ9 (some (.int r)) := by
  refine xstart (by decide +kernel) ((f_X0_giveBack a0 a1 a2 a3).2 _ _ _ h) (Nat.le_of_ble_eq_true rfl) ?_
  intro p e s m args below meth c H locs cells slots ls R hX hI hl
  have hx := hX.1.1
  have hb := hX.1.2.1
  have hl : lv_has ls 6 [(0, .ref a0), (1, .int a1), (2, .int a2), (3, .int a3)] := hl
  generalize hσ0 : σ = σ0 at hX hI ⊢
  have h : (f_X0_giveBack a0 a1 a2 a3).1 σ0 = some (r, σ9) := by rw [← hσ0]; exact h
  clear hσ0
  delta f_X0_giveBack at h
  have h := (xck_bd h).2
  refine lv_aload_n hx hb dX0_giveBack_0 rfl (lv_at hl 0 rfl) ?_
  refine xr_gN h hX hI xl_X0_22_0.g dX0_giveBack_1 (fun v11 h => ?_)
  refine lv_iload_n hx hb dX0_giveBack_4 rfl (lv_at hl 1 rfl) ?_
  refine lv_iload_n hx hb dX0_giveBack_5 rfl (lv_at hl 2 rfl) ?_
  refine xr_callV (iv := (fun b => some (.int b))) (As := [.int a1, .int a2]) (rest := []) h hX hI (fun _ _ h => w_X1_hasLine h) (fun _ _ h => o_X1_hasLine h) rfl 2 (lw_V q1318 q1319 q1320 q75 q1321) ⟨rfl, xd_X1_hasLine⟩ ⟨rfl, rfl⟩ rfl hl.1 (Nat.le_of_ble_eq_true rfl) dX0_giveBack_6 (fun v12 H locs σ cells slots h hI => ?_)
  refine W.eq (g2 := F0 m 9 ls [.int v12]) rfl ?_
  refine lv_if_ne (tgt := 14) hx hb dX0_giveBack_9 (by decide) (fun hc => ?_) (fun hc => ?_)
  · have h := xif_f h hc
    refine lv_iload_n hx hb dX0_giveBack_14 rfl (lv_at hl 3 rfl) ?_
    refine xr_callS (iv := (fun b => some (.int b))) (As := [.int a3]) (rest := []) h hX hI (fun _ _ h => w_X0_areUnits h) 1 (lw_S q1302 q1303 q74 q1304) xd_X0_areUnits ⟨rfl, rfl⟩ rfl hl.1 (Nat.le_of_ble_eq_true rfl) dX0_giveBack_15 (fun v13 H locs σ cells slots h hI => ?_)
    refine W.eq (g2 := F0 m 18 ls [.int v13]) rfl ?_
    refine lv_if_ne (tgt := 24) hx hb dX0_giveBack_18 (by decide) (fun hc => ?_) (fun hc => ?_)
    · have h := xif_f h hc
      refine lv_aload_n hx hb dX0_giveBack_24 rfl (lv_at hl 0 rfl) ?_
      refine xr_gN h hX hI xl_X0_22_0.g dX0_giveBack_25 (fun v14 h => ?_)
      refine lv_iload_n hx hb dX0_giveBack_28 rfl (lv_at hl 1 rfl) ?_
      refine lv_iload_n hx hb dX0_giveBack_29 rfl (lv_at hl 2 rfl) ?_
      refine xr_callV (iv := (fun b => some (.ref b))) (As := [.int a1, .int a2]) (rest := []) h hX hI (fun _ _ h => w_X1_line h) (fun _ _ h => o_X1_line h) rfl 2 (lw_V q1323 q1324 q1325 q75 q1326) ⟨rfl, xd_X1_line⟩ ⟨rfl, rfl⟩ rfl hl.1 (Nat.le_of_ble_eq_true rfl) dX0_giveBack_30 (fun v15 H locs σ cells slots h hI => ?_)
      refine W.eq (g2 := F0 m 33 ls [.ref v15]) rfl ?_
      refine xr_gI h hX hI xl_X0_166_5.g dX0_giveBack_33 (fun v16 h => ?_)
      refine lv_iload_n hx hb dX0_giveBack_36 rfl (lv_at hl 3 rfl) ?_
      refine lv_icmp_ge (tgt := 43) hx hb dX0_giveBack_37 (by decide) (fun hc => ?_) (fun hc => ?_)
      · have h := xif_t h hc
        refine lv_aload_n hx hb dX0_giveBack_43 rfl (lv_at hl 0 rfl) ?_
        refine xr_gN h hX hI xl_X0_22_0.g dX0_giveBack_44 (fun v17 h => ?_)
        refine xr_callV (iv := (fun b => some (.ref b))) (As := []) (rest := []) h hX hI (fun _ _ h => w_X1_copy h) (fun _ _ h => o_X1_copy h) rfl 0 (lw_V q323 q324 q325 q75 q326) ⟨rfl, xd_X1_copy⟩ ⟨rfl, rfl⟩ rfl hl.1 (Nat.le_of_ble_eq_true rfl) dX0_giveBack_47 (fun v18 H locs σ cells slots h hI => ?_)
        refine W.eq (g2 := F0 m 50 ls [.ref v18]) rfl ?_
        refine lv_astore (lv' := [(4, .ref v18), (0, .ref a0), (1, .int a1), (2, .int a2), (3, .int a3)]) hx hb dX0_giveBack_50 hl (Nat.le_of_ble_eq_true rfl) rfl (fun ls hl => ?_)
        refine lv_aload hx hb dX0_giveBack_52 (lv_at hl 0 rfl) ?_
        refine lv_iload_n hx hb dX0_giveBack_54 rfl (lv_at hl 2 rfl) ?_
        refine lv_iload_n hx hb dX0_giveBack_55 rfl (lv_at hl 3 rfl) ?_
        refine lv_iload_n hx hb dX0_giveBack_56 rfl (lv_at hl 4 rfl) ?_
        refine xr_callV (iv := (fun b => some (.int b))) (As := [.int a1, .int a2, .int a3]) (rest := []) h hX hI (fun _ _ h => w_X1_giveBack h) (fun _ _ h => o_X1_giveBack h) rfl 3 (lw_V q1492 q1493 q1494 q75 q1495) ⟨rfl, xd_X1_giveBack⟩ ⟨rfl, rfl⟩ rfl hl.1 (Nat.le_of_ble_eq_true rfl) dX0_giveBack_57 (fun v19 H locs σ cells slots h hI => ?_)
        refine W.eq (g2 := F0 m 60 ls [.int v19]) rfl ?_
        refine lv_istore (lv' := [(5, .int v19), (4, .ref v18), (0, .ref a0), (1, .int a1), (2, .int a2), (3, .int a3)]) hx hb dX0_giveBack_60 hl (Nat.le_of_ble_eq_true rfl) rfl (fun ls hl => ?_)
        refine lv_aload_n hx hb dX0_giveBack_62 rfl (lv_at hl 2 rfl) ?_
        refine lv_aload hx hb dX0_giveBack_63 (lv_at hl 1 rfl) ?_
        refine lv_iload hx hb dX0_giveBack_65 (lv_at hl 0 rfl) ?_
        refine xr_callV (iv := (fun b => some (.int b))) (As := [.ref v18, .int v19]) (rest := []) h hX hI (fun _ _ h => w_X0_become h) (fun _ _ h => o_X0_become h) rfl 2 (lw_V q1182 q1184 qs9 q74 q1185) ⟨rfl, xd_X0_become⟩ ⟨rfl, rfl⟩ rfl hl.1 (Nat.le_of_ble_eq_true rfl) dX0_giveBack_67 (fun v20 H locs σ cells slots h hI => ?_)
        refine W.eq (g2 := F0 m 70 ls [.int v20]) rfl ?_
        exact xr_ireturn h hX hI dX0_giveBack_70
      · have h := xif_f h hc
        refine lv_bipush (v := (-4 : Int32)) hx hb dX0_giveBack_40 (by decide) ?_
        exact xr_ireturn h hX hI dX0_giveBack_42
    · have h := xif_t h hc
      refine lv_bipush (v := (-2 : Int32)) hx hb dX0_giveBack_21 (by decide) ?_
      exact xr_ireturn h hX hI dX0_giveBack_23
  · have h := xif_t h hc
    refine lv_iconst (v := (-1 : Int32)) hx hb dX0_giveBack_12 (by decide) ?_
    exact xr_ireturn h hX hI dX0_giveBack_13
/-! PayMatchModel.billsMost(II)I  -/
theorem o_X3_billsMost {a0 : Nat} {a1 : Int32} {a2 : Int32} {r : Int32} {σ σ9 : xS} (h : (f_X3_billsMost a0 a1 a2).1 σ = some (r, σ9)) : ∃ fs, σ.1 a0 = some (.inl (3, fs)) := xck_of h
theorem w_X3_billsMost {E : xE} {l : Launch} {a0 : Nat} {a1 : Int32} {a2 : Int32} {r : Int32} {σ σ9 : xS} (h : (f_X3_billsMost a0 a1 a2).1 σ = some (r, σ9)) : xMet E l yX3_billsMost (ws_ yX3_billsMost cX3_billsMost 3 (some .int)) 3 103 [.ref a0, .int a1, .int a2] σ σ9 (some (.int r)) := by
  refine xstart (by decide +kernel) ((f_X3_billsMost a0 a1 a2).2 _ _ _ h) (Nat.le_of_ble_eq_true rfl) ?_
  intro p e s m args below meth c H locs cells slots ls R hX hI hl
  have hx := hX.1.1
  have hb := hX.1.2.1
  have hl : lv_has ls 3 [(0, .ref a0), (1, .int a1), (2, .int a2)] := hl
  generalize hσ0 : σ = σ0 at hX hI ⊢
  have h : (f_X3_billsMost a0 a1 a2).1 σ0 = some (r, σ9) := by rw [← hσ0]; exact h
  clear hσ0
  delta f_X3_billsMost at h
  have h := (xck_bd h).2
  refine lv_aload_n hx hb dX3_billsMost_0 rfl (lv_at hl 0 rfl) ?_
  refine lv_iload_n hx hb dX3_billsMost_1 rfl (lv_at hl 1 rfl) ?_
  refine lv_aload_n hx hb dX3_billsMost_2 rfl (lv_at hl 0 rfl) ?_
  refine lv_iload_n hx hb dX3_billsMost_3 rfl (lv_at hl 1 rfl) ?_
  refine lv_iload_n hx hb dX3_billsMost_4 rfl (lv_at hl 2 rfl) ?_
  refine lv_iconst (v := (3 : Int32)) hx hb dX3_billsMost_5 (by decide) ?_
  refine xr_callS (iv := (fun b => some (.int b))) (As := [.int a1, .int a2, .int (3 : Int32)]) (rest := [.ref a0, .int a1, .ref a0]) h hX hI (fun _ _ h => w_X3_ofLine h) 3 (lw_S q2103 q2104 q87 q2105) xd_X3_ofLine ⟨rfl, rfl⟩ rfl hl.1 (Nat.le_of_ble_eq_true rfl) dX3_billsMost_6 (fun v4 H locs σ cells slots h hI => ?_)
  refine W.eq (g2 := F0 m 9 ls [.int v4, .ref a0, .int a1, .ref a0]) rfl ?_
  refine xr_callV (iv := (fun b => some (.int b))) (As := [.int v4]) (rest := [.int a1, .ref a0]) h hX hI (fun _ _ h => w_X3_at h) (fun _ _ h => o_X3_at h) rfl 1 (lw_V q2022 q2024 qs31 q87 q2025) ⟨rfl, xd_X3_at⟩ ⟨rfl, rfl⟩ rfl hl.1 (Nat.le_of_ble_eq_true rfl) dX3_billsMost_9 (fun v5 H locs σ cells slots h hI => ?_)
  refine W.eq (g2 := F0 m 12 ls [.int v5, .int a1, .ref a0]) rfl ?_
  refine xr_callV (iv := (fun b => some (.int b))) (As := [.int a1, .int v5]) (rest := []) h hX hI (fun _ _ h => w_X3_stretched h) (fun _ _ h => o_X3_stretched h) rfl 2 (lw_V q2131 q2133 qs41 q87 q2134) ⟨rfl, xd_X3_stretched⟩ ⟨rfl, rfl⟩ rfl hl.1 (Nat.le_of_ble_eq_true rfl) dX3_billsMost_12 (fun v6 H locs σ cells slots h hI => ?_)
  refine W.eq (g2 := F0 m 15 ls [.int v6]) rfl ?_
  exact xr_ireturn h hX hI dX3_billsMost_15
end
