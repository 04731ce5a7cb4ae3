/-! walks, printed by gen.py -/
set_option maxRecDepth 100000
section
variable {E : xE} {p : Program} {l : Launch} {e : Env} {R : Room} {s : State} {m : MethodId} {args : Array Value} {below : List Frame} {meth : Method} {c : Code} {H : Heap} {locs : List Loc} {cells slots : Nat} {ls : Array Slot} {σ0 σ σ9 : xS}
/-! PayMatch.block(IZ)I  -/
theorem o_X0_block {a0 : Nat} {a1 : Int32} {a2 : Int32} {r : Int32} {σ σ9 : xS} (h : (f_X0_block a0 a1 a2).1 σ = some (r, σ9)) : ∃ fs, σ.1 a0 = some (.inl (0, fs)) := xck_of h
theorem w_X0_block {E : xE} {l : Launch} {a0 : Nat} {a1 : Int32} {a2 : Int32} {r : Int32} {σ σ9 : xS} (h : (f_X0_block a0 a1 a2).1 σ = some (r, σ9)) : xMet E l yX0_block (ws_ yX0_block cX0_block 4 (some .int)) 14 438 [.ref a0, .int a1, .int a2] σ σ9 (some (.int r)) := by
  refine xstart (by decide +kernel) ((f_X0_block a0 a1 a2).2 _ _ _ h) (Nat.le_of_ble_eq_true rfl) ?_
  intro p e s m args below meth c H locs cells slots ls R hX hI hl
  have hx := hX.1.1
  have hb := hX.1.2.1
  have hl : lv_has ls 4 [(0, .ref a0), (1, .int a1), (2, .int a2)] := hl
  generalize hσ0 : σ = σ0 at hX hI ⊢
  have h : (f_X0_block a0 a1 a2).1 σ0 = some (r, σ9) := by rw [← hσ0]; exact h
  clear hσ0
  delta f_X0_block at h
  have h := (xck_bd h).2
  refine lv_aload_n hx hb dX0_block_0 rfl (lv_at hl 0 rfl) ?_
  refine xr_gN h hX hI xl_X0_22_0.g dX0_block_1 (fun v14 h => ?_)
  refine xr_gN h hX hI xl_X0_60_1.g dX0_block_4 (fun v15 h => ?_)
  refine lv_iload_n hx hb dX0_block_7 rfl (lv_at hl 1 rfl) ?_
  refine xr_callV (iv := (fun b => some (.int b))) (As := [.int a1]) (rest := []) h hX hI (fun _ _ h => w_X2_has h) (fun _ _ h => o_X2_has h) rfl 1 (lw_V q1225 q1226 q1227 q76 q1228) ⟨rfl, xd_X2_has⟩ ⟨rfl, rfl⟩ rfl hl.1 (Nat.le_of_ble_eq_true rfl) dX0_block_8 (fun v16 H locs σ cells slots h hI => ?_)
  refine W.eq (g2 := F0 m 11 ls [.int v16]) rfl ?_
  refine lv_if_ne (tgt := 16) hx hb dX0_block_11 (by decide) (fun hc => ?_) (fun hc => ?_)
  · have h := xif_f h hc
    refine lv_aload_n hx hb dX0_block_16 rfl (lv_at hl 0 rfl) ?_
    refine xr_gN h hX hI xl_X0_22_0.g dX0_block_17 (fun v17 h => ?_)
    refine xr_gN h hX hI xl_X0_60_1.g dX0_block_20 (fun v18 h => ?_)
    refine lv_iload_n hx hb dX0_block_23 rfl (lv_at hl 1 rfl) ?_
    refine xr_callV (iv := (fun b => some (.ref b))) (As := [.int a1]) (rest := []) h hX hI (fun _ _ h => w_X2_get h) (fun _ _ h => o_X2_get h) rfl 1 (lw_V q1249 q1250 q1251 q76 q1252) ⟨rfl, xd_X2_get⟩ ⟨rfl, rfl⟩ rfl hl.1 (Nat.le_of_ble_eq_true rfl) dX0_block_24 (fun v19 H locs σ cells slots h hI => ?_)
    refine W.eq (g2 := F0 m 27 ls [.ref v19]) rfl ?_
    refine xr_cks h hX hI xc_X0_71 dX0_block_27 (fun h => ?_)
    refine xr_gI h hX hI xl_X0_111_7.g dX0_block_30 (fun v20 h => ?_)
    refine lv_iload_n hx hb dX0_block_33 rfl (lv_at hl 2 rfl) ?_
    refine lv_icmp_ne (tgt := 40) hx hb dX0_block_34 (by decide) (fun hc => ?_) (fun hc => ?_)
    · have h := xif_f h hc
      refine lv_aload_n hx hb dX0_block_40 rfl (lv_at hl 0 rfl) ?_
      refine xr_gN h hX hI xl_X0_22_0.g dX0_block_41 (fun v21 h => ?_)
      refine xr_callV (iv := (fun b => some (.ref b))) (As := []) (rest := []) h hX hI (fun _ _ h => w_X1_copy h) (fun _ _ h => o_X1_copy h) rfl 0 (lw_V q323 q324 q325 q75 q326) ⟨rfl, xd_X1_copy⟩ ⟨rfl, rfl⟩ rfl hl.1 (Nat.le_of_ble_eq_true rfl) dX0_block_44 (fun v22 H locs σ cells slots h hI => ?_)
      refine W.eq (g2 := F0 m 47 ls [.ref v22]) rfl ?_
      refine lv_astore_n (lv' := [(3, .ref v22), (0, .ref a0), (1, .int a1), (2, .int a2)]) hx hb dX0_block_47 rfl hl (Nat.le_of_ble_eq_true rfl) rfl (fun ls hl => ?_)
      refine lv_aload_n hx hb dX0_block_48 rfl (lv_at hl 0 rfl) ?_
      refine xr_gN h hX hI xl_X0_60_1.g dX0_block_49 (fun v23 h => ?_)
      refine lv_iload_n hx hb dX0_block_52 rfl (lv_at hl 2 rfl) ?_
      refine xr_callV (iv := (fun b => some (.ref b))) (As := [.int a1]) (rest := []) h hX hI (fun _ _ h => w_X2_get h) (fun _ _ h => o_X2_get h) rfl 1 (lw_V q1249 q1250 q1251 q76 q1252) ⟨rfl, xd_X2_get⟩ ⟨rfl, rfl⟩ rfl hl.1 (Nat.le_of_ble_eq_true rfl) dX0_block_53 (fun v24 H locs σ cells slots h hI => ?_)
      refine W.eq (g2 := F0 m 56 ls [.ref v24]) rfl ?_
      refine xr_cks h hX hI xc_X0_71 dX0_block_56 (fun h => ?_)
      refine lv_iload_n hx hb dX0_block_59 rfl (lv_at hl 3 rfl) ?_
      refine xr_ptZ h hX hI xl_X0_111_7 (Or.inl rfl) dX0_block_60 (fun H locs σ h hI => ?_)
      refine lv_aload_n hx hb dX0_block_63 rfl (lv_at hl 1 rfl) ?_
      refine lv_aload_n hx hb dX0_block_64 rfl (lv_at hl 0 rfl) ?_
      refine lv_aload_n hx hb dX0_block_65 rfl (lv_at hl 0 rfl) ?_
      refine lv_iload_n hx hb dX0_block_66 rfl (lv_at hl 2 rfl) ?_
      refine lv_iconst (v := (0 : Int32)) hx hb dX0_block_67 (by decide) ?_
      refine xr_callV (iv := (fun b => some (.int b))) (As := [.int a1, .int (0 : Int32)]) (rest := [.ref v22, .ref a0]) h hX hI (fun _ _ h => w_X1_invoicesOf h) (fun _ _ h => o_X1_invoicesOf h) rfl 2 (lw_V q1272 q1273 q1274 q75 q1275) ⟨rfl, xd_X1_invoicesOf⟩ ⟨rfl, rfl⟩ rfl hl.1 (Nat.le_of_ble_eq_true rfl) dX0_block_68 (fun v25 H locs σ cells slots h hI => ?_)
      refine W.eq (g2 := F0 m 71 ls [.int v25, .ref v22, .ref a0]) rfl ?_
      refine xr_callV (iv := (fun b => some (.int b))) (As := [.ref v22, .int v25]) (rest := []) h hX hI (fun _ _ h => w_X0_become h) (fun _ _ h => o_X0_become h) rfl 2 (lw_V q1182 q1184 qs9 q74 q1185) ⟨rfl, xd_X0_become⟩ ⟨rfl, rfl⟩ rfl hl.1 (Nat.le_of_ble_eq_true rfl) dX0_block_71 (fun v26 H locs σ cells slots h hI => ?_)
      refine W.eq (g2 := F0 m 74 ls [.int v26]) rfl ?_
      exact xr_ireturn h hX hI dX0_block_74
    · have h := xif_t h hc
      refine lv_bipush (v := (-5 : Int32)) hx hb dX0_block_37 (by decide) ?_
      exact xr_ireturn h hX hI dX0_block_39
  · have h := xif_t h hc
    refine lv_iconst (v := (-1 : Int32)) hx hb dX0_block_14 (by decide) ?_
    exact xr_ireturn h hX hI dX0_block_15
/-! PayMatchModel.isBlocked(I)Z  -/
theorem o_X3_isBlocked {a0 : Nat} {a1 : Int32} {r : Int32} {σ σ9 : xS} (h : (f_X3_isBlocked a0 a1).1 σ = some (r, σ9)) : ∃ fs, σ.1 a0 = some (.inl (3, fs)) := xck_of h
theorem w_X3_isBlocked {E : xE} {l : Launch} {a0 : Nat} {a1 : Int32} {r : Int32} {σ σ9 : xS} (h : (f_X3_isBlocked a0 a1).1 σ = some (r, σ9)) : xMet E l yX3_isBlocked (ws_ yX3_isBlocked cX3_isBlocked 2 (some .boolean)) 1 21 [.ref a0, .int a1] σ σ9 (some (.int r)) := by
  refine xstart (by decide +kernel) ((f_X3_isBlocked a0 a1).2 _ _ _ h) (Nat.le_of_ble_eq_true rfl) ?_
  intro p e s m args below meth c H locs cells slots ls R hX hI hl
  have hx := hX.1.1
  have hb := hX.1.2.1
  have hl : lv_has ls 2 [(0, .ref a0), (1, .int a1)] := hl
  generalize hσ0 : σ = σ0 at hX hI ⊢
  have h : (f_X3_isBlocked a0 a1).1 σ0 = some (r, σ9) := by rw [← hσ0]; exact h
  clear hσ0
  delta f_X3_isBlocked at h
  have h := (xck_bd h).2
  refine lv_aload_n hx hb dX3_isBlocked_0 rfl (lv_at hl 0 rfl) ?_
  refine lv_iload_n hx hb dX3_isBlocked_1 rfl (lv_at hl 1 rfl) ?_
  refine lv_iconst (v := (4 : Int32)) hx hb dX3_isBlocked_2 (by decide) ?_
  refine xr_callS (iv := (fun b => some (.int b))) (As := [.int a1, .int (4 : Int32)]) (rest := [.ref a0]) h hX hI (fun _ _ h => w_X3_ofSupplier h) 2 (lw_S q2026 q2027 q87 q2028) xd_X3_ofSupplier ⟨rfl, rfl⟩ rfl hl.1 (Nat.le_of_ble_eq_true rfl) dX3_isBlocked_3 (fun v3 H locs σ cells slots h hI => ?_)
  refine W.eq (g2 := F0 m 6 ls [.int v3, .ref a0]) rfl ?_
  refine xr_callV (iv := (fun b => some (.int b))) (As := [.int v3]) (rest := []) h hX hI (fun _ _ h => w_X3_at h) (fun _ _ h => o_X3_at h) rfl 1 (lw_V q2022 q2024 qs31 q87 q2025) ⟨rfl, xd_X3_at⟩ ⟨rfl, rfl⟩ rfl hl.1 (Nat.le_of_ble_eq_true rfl) dX3_isBlocked_6 (fun v4 H locs σ cells slots h hI => ?_)
  refine W.eq (g2 := F0 m 9 ls [.int v4]) rfl ?_
  refine lv_iconst (v := (1 : Int32)) hx hb dX3_isBlocked_9 (by decide) ?_
  refine lv_icmp_ne (tgt := 17) hx hb dX3_isBlocked_10 (by decide) (fun hc => ?_) (fun hc => ?_)
  · have h := xif_f h hc
    refine lv_iconst (v := (0 : Int32)) hx hb dX3_isBlocked_17 (by decide) ?_
    exact xr_zreturn h hX hI dX3_isBlocked_18
  · have h := xif_t h hc
    refine lv_iconst (v := (1 : Int32)) hx hb dX3_isBlocked_13 (by decide) ?_
    refine lv_goto (tgt := 18) hx hb dX3_isBlocked_14 (by decide) ?_
    exact xr_zreturn h hX hI dX3_isBlocked_18
/-! PayMatchModel.ofInvoice(II)I  -/
theorem w_X3_ofInvoice {E : xE} {l : Launch} {a0 : Int32} {a1 : Int32} {r : Int32} {σ σ9 : xS} (h : (f_X3_ofInvoice a0 a1).1 σ = some (r, σ9)) : xMet E l yX3_ofInvoice (ws_ yX3_ofInvoice cX3_ofInvoice 2 (some .int)) 0 0 [.int a0, .int a1] σ σ9 (some (.int r)) := by
  refine xstart (by decide +kernel) ((f_X3_ofInvoice a0 a1).2 _ _ _ h) (Nat.le_of_ble_eq_true rfl) ?_
  intro p e s m args below meth c H locs cells slots ls R hX hI hl
  have hx := hX.1.1
  have hb := hX.1.2.1
  have hl : lv_has ls 2 [(0, .int a0), (1, .int a1)] := hl
  generalize hσ0 : σ = σ0 at hX hI ⊢
  have h : (f_X3_ofInvoice a0 a1).1 σ0 = some (r, σ9) := by rw [← hσ0]; exact h
  clear hσ0
  delta f_X3_ofInvoice at h
  refine lv_sipush (v := (675 : Int32)) hx hb dX3_ofInvoice_0 (by decide) ?_
  refine lv_bipush (v := (29 : Int32)) hx hb dX3_ofInvoice_3 (by decide) ?_
  refine lv_iload_n hx hb dX3_ofInvoice_5 rfl (lv_at hl 0 rfl) ?_
  refine lv_imul hx hb dX3_ofInvoice_6 ?_
  refine lv_iadd hx hb dX3_ofInvoice_7 ?_
  refine lv_iload_n hx hb dX3_ofInvoice_8 rfl (lv_at hl 1 rfl) ?_
  refine lv_iadd hx hb dX3_ofInvoice_9 ?_
  exact xr_ireturn h hX hI dX3_ofInvoice_10
/-! PayMatchModel.ofOrder(II)I  -/
theorem w_X3_ofOrder {E : xE} {l : Launch} {a0 : Int32} {a1 : Int32} {r : Int32} {σ σ9 : xS} (h : (f_X3_ofOrder a0 a1).1 σ = some (r, σ9)) : xMet E l yX3_ofOrder (ws_ yX3_ofOrder cX3_ofOrder 2 (some .int)) 0 0 [.int a0, .int a1] σ σ9 (some (.int r)) := by
  refine xstart (by decide +kernel) ((f_X3_ofOrder a0 a1).2 _ _ _ h) (Nat.le_of_ble_eq_true rfl) ?_
  intro p e s m args below meth c H locs cells slots ls R hX hI hl
  have hx := hX.1.1
  have hb := hX.1.2.1
  have hl : lv_has ls 2 [(0, .int a0), (1, .int a1)] := hl
  generalize hσ0 : σ = σ0 at hX hI ⊢
  have h : (f_X3_ofOrder a0 a1).1 σ0 = some (r, σ9) := by rw [← hσ0]; exact h
  clear hσ0
  delta f_X3_ofOrder at h
  refine lv_bipush (v := (51 : Int32)) hx hb dX3_ofOrder_0 (by decide) ?_
  refine lv_iconst (v := (4 : Int32)) hx hb dX3_ofOrder_2 (by decide) ?_
  refine lv_iload_n hx hb dX3_ofOrder_3 rfl (lv_at hl 0 rfl) ?_
  refine lv_imul hx hb dX3_ofOrder_4 ?_
  refine lv_iadd hx hb dX3_ofOrder_5 ?_
  refine lv_iload_n hx hb dX3_ofOrder_6 rfl (lv_at hl 1 rfl) ?_
  refine lv_iadd hx hb dX3_ofOrder_7 ?_
  exact xr_ireturn h hX hI dX3_ofOrder_8
/-! PayMatchModel.whose(I)I  -/
theorem o_X3_whose {a0 : Nat} {a1 : Int32} {r : Int32} {σ σ9 : xS} (h : (f_X3_whose a0 a1).1 σ = some (r, σ9)) : ∃ fs, σ.1 a0 = some (.inl (3, fs)) := xck_of h
theorem w_X3_whose {E : xE} {l : Launch} {a0 : Nat} {a1 : Int32} {r : Int32} {σ σ9 : xS} (h : (f_X3_whose a0 a1).1 σ = some (r, σ9)) : xMet E l yX3_whose (ws_ yX3_whose cX3_whose 2 (some .int)) 1 21 [.ref a0, .int a1] σ σ9 (some (.int r)) := by
  refine xstart (by decide +kernel) ((f_X3_whose a0 a1).2 _ _ _ h) (Nat.le_of_ble_eq_true rfl) ?_
  intro p e s m args below meth c H locs cells slots ls R hX hI hl
  have hx := hX.1.1
  have hb := hX.1.2.1
  have hl : lv_has ls 2 [(0, .ref a0), (1, .int a1)] := hl
  generalize hσ0 : σ = σ0 at hX hI ⊢
  have h : (f_X3_whose a0 a1).1 σ0 = some (r, σ9) := by rw [← hσ0]; exact h
  clear hσ0
  delta f_X3_whose at h
  have h := (xck_bd h).2
  refine lv_aload_n hx hb dX3_whose_0 rfl (lv_at hl 0 rfl) ?_
  refine lv_iload_n hx hb dX3_whose_1 rfl (lv_at hl 1 rfl) ?_
  refine lv_iconst (v := (0 : Int32)) hx hb dX3_whose_2 (by decide) ?_
  refine xr_callS (iv := (fun b => some (.int b))) (As := [.int a1, .int (0 : Int32)]) (rest := [.ref a0]) h hX hI (fun _ _ h => w_X3_ofOrder h) 2 (lw_S q2075 q2076 q87 q2077) xd_X3_ofOrder ⟨rfl, rfl⟩ rfl hl.1 (Nat.le_of_ble_eq_true rfl) dX3_whose_3 (fun v3 H locs σ cells slots h hI => ?_)
  refine W.eq (g2 := F0 m 6 ls [.int v3, .ref a0]) rfl ?_
  refine xr_callV (iv := (fun b => some (.int b))) (As := [.int v3]) (rest := []) h hX hI (fun _ _ h => w_X3_at h) (fun _ _ h => o_X3_at h) rfl 1 (lw_V q2022 q2024 qs31 q87 q2025) ⟨rfl, xd_X3_at⟩ ⟨rfl, rfl⟩ rfl hl.1 (Nat.le_of_ble_eq_true rfl) dX3_whose_6 (fun v4 H locs σ cells slots h hI => ?_)
  refine W.eq (g2 := F0 m 9 ls [.int v4]) rfl ?_
  exact xr_ireturn h hX hI dX3_whose_9
/-! PayMatchModel.payee(I)I  -/
theorem o_X3_payee {a0 : Nat} {a1 : Int32} {r : Int32} {σ σ9 : xS} (h : (f_X3_payee a0 a1).1 σ = some (r, σ9)) : ∃ fs, σ.1 a0 = some (.inl (3, fs)) := xck_of h
theorem w_X3_payee {E : xE} {l : Launch} {a0 : Nat} {a1 : Int32} {r : Int32} {σ σ9 : xS} (h : (f_X3_payee a0 a1).1 σ = some (r, σ9)) : xMet E l yX3_payee (ws_ yX3_payee cX3_payee 2 (some .int)) 2 42 [.ref a0, .int a1] σ σ9 (some (.int r)) := by
  refine xstart (by decide +kernel) ((f_X3_payee a0 a1).2 _ _ _ h) (Nat.le_of_ble_eq_true rfl) ?_
  intro p e s m args below meth c H locs cells slots ls R hX hI hl
  have hx := hX.1.1
  have hb := hX.1.2.1
  have hl : lv_has ls 2 [(0, .ref a0), (1, .int a1)] := hl
  generalize hσ0 : σ = σ0 at hX hI ⊢
  have h : (f_X3_payee a0 a1).1 σ0 = some (r, σ9) := by rw [← hσ0]; exact h
  clear hσ0
  delta f_X3_payee at h
  have h := (xck_bd h).2
  refine lv_aload_n hx hb dX3_payee_0 rfl (lv_at hl 0 rfl) ?_
  refine lv_aload_n hx hb dX3_payee_1 rfl (lv_at hl 0 rfl) ?_
  refine lv_iload_n hx hb dX3_payee_2 rfl (lv_at hl 1 rfl) ?_
  refine lv_iconst (v := (1 : Int32)) hx hb dX3_payee_3 (by decide) ?_
  refine xr_callS (iv := (fun b => some (.int b))) (As := [.int a1, .int (1 : Int32)]) (rest := [.ref a0, .ref a0]) h hX hI (fun _ _ h => w_X3_ofInvoice h) 2 (lw_S q2068 q2069 q87 q2070) xd_X3_ofInvoice ⟨rfl, rfl⟩ rfl hl.1 (Nat.le_of_ble_eq_true rfl) dX3_payee_4 (fun v4 H locs σ cells slots h hI => ?_)
  refine W.eq (g2 := F0 m 7 ls [.int v4, .ref a0, .ref a0]) rfl ?_
  refine xr_callV (iv := (fun b => some (.int b))) (As := [.int v4]) (rest := [.ref a0]) h hX hI (fun _ _ h => w_X3_at h) (fun _ _ h => o_X3_at h) rfl 1 (lw_V q2022 q2024 qs31 q87 q2025) ⟨rfl, xd_X3_at⟩ ⟨rfl, rfl⟩ rfl hl.1 (Nat.le_of_ble_eq_true rfl) dX3_payee_7 (fun v5 H locs σ cells slots h hI => ?_)
  refine W.eq (g2 := F0 m 10 ls [.int v5, .ref a0]) rfl ?_
  refine xr_callV (iv := (fun b => some (.int b))) (As := [.int v5]) (rest := []) h hX hI (fun _ _ h => w_X3_whose h) (fun _ _ h => o_X3_whose h) rfl 1 (lw_V q2071 q2073 qs36 q87 q2074) ⟨rfl, xd_X3_whose⟩ ⟨rfl, rfl⟩ rfl hl.1 (Nat.le_of_ble_eq_true rfl) dX3_payee_10 (fun v6 H locs σ cells slots h hI => ?_)
  refine W.eq (g2 := F0 m 13 ls [.int v6]) rfl ?_
  exact xr_ireturn h hX hI dX3_payee_13
/-! PayMatchModel.block(IZ)I  -/
theorem w_X3_block_b90 {rec50 : Nat → Int32 → Int32 → Int32 → xM Int32} {t0 : Int32} {t1 : Int32} {a0 : Nat} {a1 : Int32} {a4 : Int32} {r : Int32} (hX : xX E R p m c cX3_block 5 s args RX3 "block" meth (some .int) 3 63 σ0 σ9) (hrec50 : ∀ (a0 : Nat) (a1 : Int32) (a3 : Int32) (a4 : Int32) (σ : xS) (H : Heap) (locs : List Loc) (cells slots : Nat) (ls : Array Slot), (rec50 a0 a1 a3 a4).1 σ = some (r, σ9) → xI E σ0 σ s H locs cells slots → lv_has ls 5 [(0, .ref a0), (1, .int a1), (3, .int a3), (4, .int a4)] → W p l e R s m args below meth c H locs cells slots (xMQ E below args s σ0 σ9 (some (.int r))) (F0 m 50 ls []))
    (h : (f_X3_block_b90 rec50 t0 t1 a0 a1 a4).1 σ = some (r, σ9)) (hI : xI E σ0 σ s H locs cells slots) (hl : lv_has ls 5 [(0, .ref a0), (1, .int a1), (4, .int a4)]) : W p l e R s m args below meth c H locs cells slots (xMQ E below args s σ0 σ9 (some (.int r))) (F0 m 90 ls [.int t1, .int t0]) := by
  have hx := hX.1.1
  have hb := hX.1.2.1
  delta f_X3_block_b90 at h
  refine lv_iadd hx hb dX3_block_90 ?_
  refine lv_istore_n (lv' := [(3, .int (t0 + t1)), (0, .ref a0), (1, .int a1), (4, .int a4)]) hx hb dX3_block_91 rfl hl (Nat.le_of_ble_eq_true rfl) rfl (fun ls hl => ?_)
  refine lv_iinc (k := 3) (lv' := [(4, .int (a4 + (1 : Int32))), (3, .int (t0 + t1)), (0, .ref a0), (1, .int a1)]) hx hb dX3_block_92 hl rfl (xiinc (by decide)) (Nat.le_of_ble_eq_true rfl) rfl (fun ls hl => ?_)
  refine lv_goto (tgt := 50) hx hb dX3_block_95 (by decide) ?_
  exact hrec50 a0 a1 (t0 + t1) (a4 + (1 : Int32)) _ _ _ _ _ _ h hI (lv_sub hl [2, 3, 1, 0] rfl)
theorem w_X3_block_b89 {rec50 : Nat → Int32 → Int32 → Int32 → xM Int32} {t0 : Int32} {a0 : Nat} {a1 : Int32} {a4 : Int32} {r : Int32} (hX : xX E R p m c cX3_block 5 s args RX3 "block" meth (some .int) 3 63 σ0 σ9) (hrec50 : ∀ (a0 : Nat) (a1 : Int32) (a3 : Int32) (a4 : Int32) (σ : xS) (H : Heap) (locs : List Loc) (cells slots : Nat) (ls : Array Slot), (rec50 a0 a1 a3 a4).1 σ = some (r, σ9) → xI E σ0 σ s H locs cells slots → lv_has ls 5 [(0, .ref a0), (1, .int a1), (3, .int a3), (4, .int a4)] → W p l e R s m args below meth c H locs cells slots (xMQ E below args s σ0 σ9 (some (.int r))) (F0 m 50 ls []))
    (h : (f_X3_block_b89 rec50 t0 a0 a1 a4).1 σ = some (r, σ9)) (hI : xI E σ0 σ s H locs cells slots) (hl : lv_has ls 5 [(0, .ref a0), (1, .int a1), (4, .int a4)]) : W p l e R s m args below meth c H locs cells slots (xMQ E below args s σ0 σ9 (some (.int r))) (F0 m 89 ls [.int t0]) := by
  have hx := hX.1.1
  have hb := hX.1.2.1
  delta f_X3_block_b89 at h
  refine lv_iconst (v := (0 : Int32)) hx hb dX3_block_89 (by decide) ?_
  exact w_X3_block_b90 hX hrec50 h hI (lv_sub hl [0, 1, 2] rfl)
theorem w_X3_block_b98 {a0 : Nat} {a3 : Int32} {r : Int32} (hX : xX E R p m c cX3_block 5 s args RX3 "block" meth (some .int) 3 63 σ0 σ9)
    (h : (f_X3_block_b98 a0 a3).1 σ = some (r, σ9)) (hI : xI E σ0 σ s H locs cells slots) (hl : lv_has ls 5 [(0, .ref a0), (3, .int a3)]) : W p l e R s m args below meth c H locs cells slots (xMQ E below args s σ0 σ9 (some (.int r))) (F0 m 98 ls []) := by
  have hx := hX.1.1
  have hb := hX.1.2.1
  delta f_X3_block_b98 at h
  refine lv_aload_n hx hb dX3_block_98 rfl (lv_at hl 0 rfl) ?_
  refine lv_iload_n hx hb dX3_block_99 rfl (lv_at hl 1 rfl) ?_
  refine xr_callV (iv := (fun b => some (.int b))) (As := [.int a3]) (rest := []) h hX hI (fun _ _ h => w_X3_acted h) (fun _ _ h => o_X3_acted h) rfl 1 (lw_V q2031 q2033 qs32 q87 q2034) ⟨rfl, xd_X3_acted⟩ ⟨rfl, rfl⟩ rfl hl.1 (Nat.le_of_ble_eq_true rfl) dX3_block_100 (fun v14 H locs σ cells slots h hI => ?_)
  refine W.eq (g2 := F0 m 103 ls [.int v14]) rfl ?_
  exact xr_ireturn h hX hI dX3_block_103
theorem w_X3_block_b50 {rec50 : Nat → Int32 → Int32 → Int32 → xM Int32} {a0 : Nat} {a1 : Int32} {a3 : Int32} {a4 : Int32} {r : Int32} (hX : xX E R p m c cX3_block 5 s args RX3 "block" meth (some .int) 3 63 σ0 σ9) (hrec50 : ∀ (a0 : Nat) (a1 : Int32) (a3 : Int32) (a4 : Int32) (σ : xS) (H : Heap) (locs : List Loc) (cells slots : Nat) (ls : Array Slot), (rec50 a0 a1 a3 a4).1 σ = some (r, σ9) → xI E σ0 σ s H locs cells slots → lv_has ls 5 [(0, .ref a0), (1, .int a1), (3, .int a3), (4, .int a4)] → W p l e R s m args below meth c H locs cells slots (xMQ E below args s σ0 σ9 (some (.int r))) (F0 m 50 ls []))
    (h : (f_X3_block_b50 rec50 a0 a1 a3 a4).1 σ = some (r, σ9)) (hI : xI E σ0 σ s H locs cells slots) (hl : lv_has ls 5 [(0, .ref a0), (1, .int a1), (3, .int a3), (4, .int a4)]) : W p l e R s m args below meth c H locs cells slots (xMQ E below args s σ0 σ9 (some (.int r))) (F0 m 50 ls []) := by
  have hx := hX.1.1
  have hb := hX.1.2.1
  delta f_X3_block_b50 at h
  refine lv_iload hx hb dX3_block_50 (lv_at hl 3 rfl) ?_
  refine lv_aload_n hx hb dX3_block_52 rfl (lv_at hl 0 rfl) ?_
  refine lv_iconst (v := (3 : Int32)) hx hb dX3_block_53 (by decide) ?_
  refine xr_callV (iv := (fun b => some (.int b))) (As := [.int (3 : Int32)]) (rest := [.int a4]) h hX hI (fun _ _ h => w_X3_at h) (fun _ _ h => o_X3_at h) rfl 1 (lw_V q2022 q2024 qs31 q87 q2025) ⟨rfl, xd_X3_at⟩ ⟨rfl, rfl⟩ rfl hl.1 (Nat.le_of_ble_eq_true rfl) dX3_block_54 (fun v10 H locs σ cells slots h hI => ?_)
  refine W.eq (g2 := F0 m 57 ls [.int v10, .int a4]) rfl ?_
  refine lv_icmp_ge (tgt := 98) hx hb dX3_block_57 (by decide) (fun hc => ?_) (fun hc => ?_)
  · have h := xif_t h hc
    exact w_X3_block_b98 hX h hI (lv_sub hl [0, 2] rfl)
  · have h := xif_f h hc
    refine lv_iload_n hx hb dX3_block_60 rfl (lv_at hl 2 rfl) ?_
    refine lv_aload_n hx hb dX3_block_61 rfl (lv_at hl 0 rfl) ?_
    refine lv_iload hx hb dX3_block_62 (lv_at hl 3 rfl) ?_
    refine xr_callV (iv := (fun b => some (.int b))) (As := [.int a4]) (rest := [.int a3]) h hX hI (fun _ _ h => w_X3_payee h) (fun _ _ h => o_X3_payee h) rfl 1 (lw_V q2064 q2066 qs35 q87 q2067) ⟨rfl, xd_X3_payee⟩ ⟨rfl, rfl⟩ rfl hl.1 (Nat.le_of_ble_eq_true rfl) dX3_block_64 (fun v11 H locs σ cells slots h hI => ?_)
    refine W.eq (g2 := F0 m 67 ls [.int v11, .int a3]) rfl ?_
    refine lv_iload_n hx hb dX3_block_67 rfl (lv_at hl 1 rfl) ?_
    refine lv_icmp_ne (tgt := 89) hx hb dX3_block_68 (by decide) (fun hc => ?_) (fun hc => ?_)
    · have h := xif_f h hc
      exact w_X3_block_b89 hX hrec50 h hI (lv_sub hl [0, 1, 3] rfl)
    · have h := xif_t h hc
      refine lv_aload_n hx hb dX3_block_71 rfl (lv_at hl 0 rfl) ?_
      refine lv_iload hx hb dX3_block_72 (lv_at hl 3 rfl) ?_
      refine lv_iconst (v := (4 : Int32)) hx hb dX3_block_74 (by decide) ?_
      refine xr_callS (iv := (fun b => some (.int b))) (As := [.int a4, .int (4 : Int32)]) (rest := [.ref a0, .int a3]) h hX hI (fun _ _ h => w_X3_ofInvoice h) 2 (lw_S q2068 q2069 q87 q2070) xd_X3_ofInvoice ⟨rfl, rfl⟩ rfl hl.1 (Nat.le_of_ble_eq_true rfl) dX3_block_75 (fun v12 H locs σ cells slots h hI => ?_)
      refine W.eq (g2 := F0 m 78 ls [.int v12, .ref a0, .int a3]) rfl ?_
      refine xr_callV (iv := (fun b => some (.int b))) (As := [.int v12]) (rest := [.int a3]) h hX hI (fun _ _ h => w_X3_at h) (fun _ _ h => o_X3_at h) rfl 1 (lw_V q2022 q2024 qs31 q87 q2025) ⟨rfl, xd_X3_at⟩ ⟨rfl, rfl⟩ rfl hl.1 (Nat.le_of_ble_eq_true rfl) dX3_block_78 (fun v13 H locs σ cells slots h hI => ?_)
      refine W.eq (g2 := F0 m 81 ls [.int v13, .int a3]) rfl ?_
      refine lv_iconst (v := (3 : Int32)) hx hb dX3_block_81 (by decide) ?_
      refine lv_icmp_ge (tgt := 89) hx hb dX3_block_82 (by decide) (fun hc => ?_) (fun hc => ?_)
      · have h := xif_t h hc
        exact w_X3_block_b89 hX hrec50 h hI (lv_sub hl [0, 1, 3] rfl)
      · have h := xif_f h hc
        refine lv_iconst (v := (1 : Int32)) hx hb dX3_block_85 (by decide) ?_
        refine lv_goto (tgt := 90) hx hb dX3_block_86 (by decide) ?_
        exact w_X3_block_b90 hX hrec50 h hI (lv_sub hl [0, 1, 3] rfl)
theorem w_X3_block_L50 {r : Int32} (hX : xX E R p m c cX3_block 5 s args RX3 "block" meth (some .int) 3 63 σ0 σ9) : ∀ (n : Nat) (a0 : Nat) (a1 : Int32) (a3 : Int32) (a4 : Int32) (σ : xS) (H : Heap) (locs : List Loc) (cells slots : Nat) (ls : Array Slot), (f_X3_block_L50 n a0 a1 a3 a4).1 σ = some (r, σ9) → xI E σ0 σ s H locs cells slots → lv_has ls 5 [(0, .ref a0), (1, .int a1), (3, .int a3), (4, .int a4)] → W p l e R s m args below meth c H locs cells slots (xMQ E below args s σ0 σ9 (some (.int r))) (F0 m 50 ls []) := by
  intro n
  induction n with
  | zero =>
    intro a0 a1 a3 a4 σ H locs cells slots ls h
    exact xr_no h
  | succ n ih =>
    intro a0 a1 a3 a4 σ H locs cells slots ls h hI hl
    exact w_X3_block_b50 hX ih h hI hl
theorem w_X3_block_b44 {t0 : Nat} {t1 : Int32} {t2 : Int64} {a0 : Nat} {a1 : Int32} {r : Int32} (hX : xX E R p m c cX3_block 5 s args RX3 "block" meth (some .int) 3 63 σ0 σ9)
    (h : (f_X3_block_b44 t0 t1 t2 a0 a1).1 σ = some (r, σ9)) (hI : xI E σ0 σ s H locs cells slots) (hl : lv_has ls 5 [(0, .ref a0), (1, .int a1)]) : W p l e R s m args below meth c H locs cells slots (xMQ E below args s σ0 σ9 (some (.int r))) (F0 m 44 ls [.long t2, .int t1, .ref t0]) := by
  have hx := hX.1.1
  have hb := hX.1.2.1
  delta f_X3_block_b44 at h
  refine xr_stL h hX hI dX3_block_44 (fun H locs σ h hI => ?_)
  refine lv_iconst (v := (0 : Int32)) hx hb dX3_block_45 (by decide) ?_
  refine lv_istore_n (lv' := [(3, .int (0 : Int32)), (0, .ref a0), (1, .int a1)]) hx hb dX3_block_46 rfl hl (Nat.le_of_ble_eq_true rfl) rfl (fun ls hl => ?_)
  refine lv_iconst (v := (0 : Int32)) hx hb dX3_block_47 (by decide) ?_
  refine lv_istore (lv' := [(4, .int (0 : Int32)), (3, .int (0 : Int32)), (0, .ref a0), (1, .int a1)]) hx hb dX3_block_48 hl (Nat.le_of_ble_eq_true rfl) rfl (fun ls hl => ?_)
  exact w_X3_block_L50 hX xFU a0 a1 (0 : Int32) (0 : Int32) _ _ _ _ _ _ h hI (lv_sub hl [2, 3, 1, 0] rfl)
theorem o_X3_block {a0 : Nat} {a1 : Int32} {a2 : Int32} {r : Int32} {σ σ9 : xS} (h : (f_X3_block a0 a1 a2).1 σ = some (r, σ9)) : ∃ fs, σ.1 a0 = some (.inl (3, fs)) := xck_of h
theorem w_X3_block {E : xE} {l : Launch} {a0 : Nat} {a1 : Int32} {a2 : Int32} {r : Int32} {σ σ9 : xS} (h : (f_X3_block a0 a1 a2).1 σ = some (r, σ9)) : xMet E l yX3_block (ws_ yX3_block cX3_block 5 (some .int)) 3 63 [.ref a0, .int a1, .int a2] σ σ9 (some (.int r)) := by
  refine xstart (by decide +kernel) ((f_X3_block a0 a1 a2).2 _ _ _ h) (Nat.le_of_ble_eq_true rfl) ?_
  intro p e s m args below meth c H locs cells slots ls R hX hI hl
  have hx := hX.1.1
  have hb := hX.1.2.1
  have hl : lv_has ls 5 [(0, .ref a0), (1, .int a1), (2, .int a2)] := hl
  generalize hσ0 : σ = σ0 at hX hI ⊢
  have h : (f_X3_block a0 a1 a2).1 σ0 = some (r, σ9) := by rw [← hσ0]; exact h
  clear hσ0
  delta f_X3_block at h
  have h := (xck_bd h).2
  refine lv_aload_n hx hb dX3_block_0 rfl (lv_at hl 0 rfl) ?_
  refine xr_callV (iv := (fun _ => none)) (As := []) (rest := []) h hX hI (fun _ _ h => w_X3_aside h) (fun _ _ h => o_X3_aside h) rfl 0 (lw_V q2018 q2020 qs30 q87 q2021) ⟨rfl, xd_X3_aside⟩ ⟨rfl, rfl⟩ rfl hl.1 (Nat.le_of_ble_eq_true rfl) dX3_block_1 (fun _ H locs σ cells slots h hI => ?_)
  refine lv_aload_n hx hb dX3_block_4 rfl (lv_at hl 0 rfl) ?_
  refine lv_iload_n hx hb dX3_block_5 rfl (lv_at hl 1 rfl) ?_
  refine xr_callV (iv := (fun b => some (.int b))) (As := [.int a1]) (rest := []) h hX hI (fun _ _ h => w_X3_isSupplier h) (fun _ _ h => o_X3_isSupplier h) rfl 1 (lw_V q2039 q2041 qs33 q87 q2042) ⟨rfl, xd_X3_isSupplier⟩ ⟨rfl, rfl⟩ rfl hl.1 (Nat.le_of_ble_eq_true rfl) dX3_block_6 (fun v15 H locs σ cells slots h hI => ?_)
  refine W.eq (g2 := F0 m 9 ls [.int v15]) rfl ?_
  refine lv_if_ne (tgt := 14) hx hb dX3_block_9 (by decide) (fun hc => ?_) (fun hc => ?_)
  · have h := xif_f h hc
    refine lv_aload_n hx hb dX3_block_14 rfl (lv_at hl 0 rfl) ?_
    refine lv_iload_n hx hb dX3_block_15 rfl (lv_at hl 1 rfl) ?_
    refine xr_callV (iv := (fun b => some (.int b))) (As := [.int a1]) (rest := []) h hX hI (fun _ _ h => w_X3_isBlocked h) (fun _ _ h => o_X3_isBlocked h) rfl 1 (lw_V q2060 q2062 qs34 q87 q2063) ⟨rfl, xd_X3_isBlocked⟩ ⟨rfl, rfl⟩ rfl hl.1 (Nat.le_of_ble_eq_true rfl) dX3_block_16 (fun v16 H locs σ cells slots h hI => ?_)
    refine W.eq (g2 := F0 m 19 ls [.int v16]) rfl ?_
    refine lv_iload_n hx hb dX3_block_19 rfl (lv_at hl 2 rfl) ?_
    refine lv_icmp_ne (tgt := 26) hx hb dX3_block_20 (by decide) (fun hc => ?_) (fun hc => ?_)
    · have h := xif_f h hc
      refine lv_aload_n hx hb dX3_block_26 rfl (lv_at hl 0 rfl) ?_
      refine xr_gN h hX hI xl_X3_13_3.g dX3_block_27 (fun v17 h => ?_)
      refine lv_iload_n hx hb dX3_block_30 rfl (lv_at hl 1 rfl) ?_
      refine lv_iconst (v := (4 : Int32)) hx hb dX3_block_31 (by decide) ?_
      refine xr_callS (iv := (fun b => some (.int b))) (As := [.int a1, .int (4 : Int32)]) (rest := [.ref v17]) h hX hI (fun _ _ h => w_X3_ofSupplier h) 2 (lw_S q2026 q2027 q87 q2028) xd_X3_ofSupplier ⟨rfl, rfl⟩ rfl hl.1 (Nat.le_of_ble_eq_true rfl) dX3_block_32 (fun v18 H locs σ cells slots h hI => ?_)
      refine W.eq (g2 := F0 m 35 ls [.int v18, .ref v17]) rfl ?_
      refine lv_iload_n hx hb dX3_block_35 rfl (lv_at hl 2 rfl) ?_
      refine lv_if_eq (tgt := 43) hx hb dX3_block_36 (by decide) (fun hc => ?_) (fun hc => ?_)
      · have h := xif_t h hc
        refine lv_lconst (v := (0 : Int64)) hx hb dX3_block_43 (by decide) ?_
        exact w_X3_block_b44 hX h hI (lv_sub hl [0, 1] rfl)
      · have h := xif_f h hc
        refine lv_lconst (v := (1 : Int64)) hx hb dX3_block_39 (by decide) ?_
        refine lv_goto (tgt := 44) hx hb dX3_block_40 (by decide) ?_
        exact w_X3_block_b44 hX h hI (lv_sub hl [0, 1] rfl)
    · have h := xif_t h hc
      refine lv_bipush (v := (-5 : Int32)) hx hb dX3_block_23 (by decide) ?_
      exact xr_ireturn h hX hI dX3_block_25
  · have h := xif_t h hc
    refine lv_iconst (v := (-1 : Int32)) hx hb dX3_block_12 (by decide) ?_
    exact xr_ireturn h hX hI dX3_block_13
/-! PayMatch.setDiscount(J)I  -/
theorem o_X0_setDiscount {a0 : Nat} {a1 : Int64} {r : Int32} {σ σ9 : xS} (h : (f_X0_setDiscount a0 a1).1 σ = some (r, σ9)) : ∃ fs, σ.1 a0 = some (.inl (0, fs)) := xck_of h
theorem w_X0_setDiscount {E : xE} {l : Launch} {a0 : Nat} {a1 : Int64} {r : Int32} {σ σ9 : xS} (h : (f_X0_setDiscount a0 a1).1 σ = some (r, σ9)) : xMet E l yX0_setDiscount (ws_ yX0_setDiscount cX0_setDiscount 6 (some .int)) 14 438 [.ref a0, .long a1] σ σ9 (some (.int r)) := by
  refine xstart (by decide +kernel) ((f_X0_setDiscount a0 a1).2 _ _ _ h) (Nat.le_of_ble_eq_true rfl) ?_
  intro p e s m args below meth c H locs cells slots ls R hX hI hl
  have hx := hX.1.1
  have hb := hX.1.2.1
  have hl : lv_has ls 6 [(0, .ref a0), (1, .long a1)] := hl
  generalize hσ0 : σ = σ0 at hX hI ⊢
  have h : (f_X0_setDiscount a0 a1).1 σ0 = some (r, σ9) := by rw [← hσ0]; exact h
  clear hσ0
  delta f_X0_setDiscount at h
  have h := (xck_bd h).2
  refine lv_lload_n hx hb dX0_setDiscount_0 rfl (lv_at hl 1 rfl) ?_
  refine lv_ldc2d (v := (4626322717216342016 : UInt64)) hx hb hX.1.2.2.2.1 (hX.1.2.2.2.2 _ q1287) dX0_setDiscount_1 ?_
  refine xr_callS (iv := (fun b => some (.int b))) (As := [.long a1, .double (4626322717216342016 : UInt64)]) (rest := []) h hX hI (fun _ _ h => w_X0_isPercent h) 2 (lw_S q1233 q1234 q74 q1235) xd_X0_isPercent ⟨rfl, rfl⟩ rfl hl.1 (Nat.le_of_ble_eq_true rfl) dX0_setDiscount_4 (fun v7 H locs σ cells slots h hI => ?_)
  refine W.eq (g2 := F0 m 7 ls [.int v7]) rfl ?_
  refine lv_if_ne (tgt := 13) hx hb dX0_setDiscount_7 (by decide) (fun hc => ?_) (fun hc => ?_)
  · have h := xif_f h hc
    refine lv_lload_n hx hb dX0_setDiscount_13 rfl (lv_at hl 1 rfl) ?_
    refine xr_l2d h hX q1238 q1240 q1239 q88 hl.1 ⟨rfl, rfl⟩ dX0_setDiscount_14 (fun h => ?_)
    refine lv_dstore_n (lv' := [(3, .double a1.toUInt64), (0, .ref a0), (1, .long a1)]) hx hb dX0_setDiscount_17 rfl hl (Nat.le_of_ble_eq_true rfl) rfl (fun ls hl => ?_)
    refine lv_dload_n hx hb dX0_setDiscount_18 rfl (lv_at hl 0 rfl) ?_
    refine lv_aload_n hx hb dX0_setDiscount_19 rfl (lv_at hl 1 rfl) ?_
    refine xr_gN h hX hI xl_X0_22_0.g dX0_setDiscount_20 (fun v8 h => ?_)
    refine xr_gD h hX hI xl_X0_121_1.g dX0_setDiscount_23 (fun v9 h => ?_)
    refine lv_dcmp hx hb dX0_setDiscount_26 ?_
    refine lv_if_ne (tgt := 33) hx hb dX0_setDiscount_27 (by decide) (fun hc => ?_) (fun hc => ?_)
    · have h := xif_f h hc
      refine lv_aload_n hx hb dX0_setDiscount_33 rfl (lv_at hl 1 rfl) ?_
      refine xr_gN h hX hI xl_X0_22_0.g dX0_setDiscount_34 (fun v10 h => ?_)
      refine xr_callV (iv := (fun b => some (.ref b))) (As := []) (rest := []) h hX hI (fun _ _ h => w_X1_copy h) (fun _ _ h => o_X1_copy h) rfl 0 (lw_V q323 q324 q325 q75 q326) ⟨rfl, xd_X1_copy⟩ ⟨rfl, rfl⟩ rfl hl.1 (Nat.le_of_ble_eq_true rfl) dX0_setDiscount_37 (fun v11 H locs σ cells slots h hI => ?_)
      refine W.eq (g2 := F0 m 40 ls [.ref v11]) rfl ?_
      refine lv_astore (lv' := [(5, .ref v11), (3, .double a1.toUInt64), (0, .ref a0), (1, .long a1)]) hx hb dX0_setDiscount_40 hl (Nat.le_of_ble_eq_true rfl) rfl (fun ls hl => ?_)
      refine lv_aload hx hb dX0_setDiscount_42 (lv_at hl 0 rfl) ?_
      refine lv_dload_n hx hb dX0_setDiscount_44 rfl (lv_at hl 1 rfl) ?_
      refine xr_pt h hX hI xl_X0_121_1 (Or.inl rfl) rfl rfl dX0_setDiscount_45 (fun H locs σ h hI => ?_)
      refine lv_aload_n hx hb dX0_setDiscount_48 rfl (lv_at hl 2 rfl) ?_
      refine lv_aload hx hb dX0_setDiscount_49 (lv_at hl 0 rfl) ?_
      refine lv_iconst (v := (1 : Int32)) hx hb dX0_setDiscount_51 (by decide) ?_
      refine xr_callV (iv := (fun b => some (.int b))) (As := [.ref v11, .int (1 : Int32)]) (rest := []) h hX hI (fun _ _ h => w_X0_become h) (fun _ _ h => o_X0_become h) rfl 2 (lw_V q1182 q1184 qs9 q74 q1185) ⟨rfl, xd_X0_become⟩ ⟨rfl, rfl⟩ rfl hl.1 (Nat.le_of_ble_eq_true rfl) dX0_setDiscount_52 (fun v12 H locs σ cells slots h hI => ?_)
      refine W.eq (g2 := F0 m 55 ls [.int v12]) rfl ?_
      exact xr_ireturn h hX hI dX0_setDiscount_55
    · have h := xif_t h hc
      refine lv_bipush (v := (-5 : Int32)) hx hb dX0_setDiscount_30 (by decide) ?_
      exact xr_ireturn h hX hI dX0_setDiscount_32
  · have h := xif_t h hc
    refine lv_bipush (v := (-2 : Int32)) hx hb dX0_setDiscount_10 (by decide) ?_
    exact xr_ireturn h hX hI dX0_setDiscount_12
/-! PayMatchModel.setDiscount(J)I  -/
theorem o_X3_setDiscount {a0 : Nat} {a1 : Int64} {r : Int32} {σ σ9 : xS} (h : (f_X3_setDiscount a0 a1).1 σ = some (r, σ9)) : ∃ fs, σ.1 a0 = some (.inl (3, fs)) := xck_of h
theorem w_X3_setDiscount {E : xE} {l : Launch} {a0 : Nat} {a1 : Int64} {r : Int32} {σ σ9 : xS} (h : (f_X3_setDiscount a0 a1).1 σ = some (r, σ9)) : xMet E l yX3_setDiscount (ws_ yX3_setDiscount cX3_setDiscount 3 (some .int)) 2 83 [.ref a0, .long a1] σ σ9 (some (.int r)) := by
  refine xstart (by decide +kernel) ((f_X3_setDiscount a0 a1).2 _ _ _ h) (Nat.le_of_ble_eq_true rfl) ?_
  intro p e s m args below meth c H locs cells slots ls R hX hI hl
  have hx := hX.1.1
  have hb := hX.1.2.1
  have hl : lv_has ls 3 [(0, .ref a0), (1, .long a1)] := hl
  generalize hσ0 : σ = σ0 at hX hI ⊢
  have h : (f_X3_setDiscount a0 a1).1 σ0 = some (r, σ9) := by rw [← hσ0]; exact h
  clear hσ0
  delta f_X3_setDiscount at h
  have h := (xck_bd h).2
  refine lv_aload_n hx hb dX3_setDiscount_0 rfl (lv_at hl 0 rfl) ?_
  refine xr_callV (iv := (fun _ => none)) (As := []) (rest := []) h hX hI (fun _ _ h => w_X3_aside h) (fun _ _ h => o_X3_aside h) rfl 0 (lw_V q2018 q2020 qs30 q87 q2021) ⟨rfl, xd_X3_aside⟩ ⟨rfl, rfl⟩ rfl hl.1 (Nat.le_of_ble_eq_true rfl) dX3_setDiscount_1 (fun _ H locs σ cells slots h hI => ?_)
  refine lv_lload_n hx hb dX3_setDiscount_4 rfl (lv_at hl 1 rfl) ?_
  refine lv_ldc2d (v := (4626322717216342016 : UInt64)) hx hb hX.1.2.2.2.1 (hX.1.2.2.2.2 _ q2082) dX3_setDiscount_5 ?_
  refine xr_callS (iv := (fun b => some (.int b))) (As := [.long a1, .double (4626322717216342016 : UInt64)]) (rest := []) h hX hI (fun _ _ h => w_X3_isFrom h) 2 (lw_S q2047 q2048 q87 q2049) xd_X3_isFrom ⟨rfl, rfl⟩ rfl hl.1 (Nat.le_of_ble_eq_true rfl) dX3_setDiscount_8 (fun v6 H locs σ cells slots h hI => ?_)
  refine W.eq (g2 := F0 m 11 ls [.int v6]) rfl ?_
  refine lv_if_ne (tgt := 17) hx hb dX3_setDiscount_11 (by decide) (fun hc => ?_) (fun hc => ?_)
  · have h := xif_f h hc
    refine lv_aload_n hx hb dX3_setDiscount_17 rfl (lv_at hl 0 rfl) ?_
    refine xr_gN h hX hI xl_X3_13_3.g dX3_setDiscount_18 (fun v7 h => ?_)
    refine lv_iconst (v := (4 : Int32)) hx hb dX3_setDiscount_21 (by decide) ?_
    refine xr_ldL h hX hI dX3_setDiscount_22 (fun v8 h => ?_)
    refine lv_lload_n hx hb dX3_setDiscount_23 rfl (lv_at hl 1 rfl) ?_
    refine W.lcmp hx hb dX3_setDiscount_24 ?_
    refine lv_if_ne (tgt := 31) hx hb dX3_setDiscount_25 (by decide) (fun hc => ?_) (fun hc => ?_)
    · have h := xif_f h hc
      refine lv_aload_n hx hb dX3_setDiscount_31 rfl (lv_at hl 0 rfl) ?_
      refine xr_gN h hX hI xl_X3_13_3.g dX3_setDiscount_32 (fun v9 h => ?_)
      refine lv_iconst (v := (4 : Int32)) hx hb dX3_setDiscount_35 (by decide) ?_
      refine lv_lload_n hx hb dX3_setDiscount_36 rfl (lv_at hl 1 rfl) ?_
      refine xr_stL h hX hI dX3_setDiscount_37 (fun H locs σ h hI => ?_)
      refine lv_aload_n hx hb dX3_setDiscount_38 rfl (lv_at hl 0 rfl) ?_
      refine lv_iconst (v := (1 : Int32)) hx hb dX3_setDiscount_39 (by decide) ?_
      refine xr_callV (iv := (fun b => some (.int b))) (As := [.int (1 : Int32)]) (rest := []) h hX hI (fun _ _ h => w_X3_acted h) (fun _ _ h => o_X3_acted h) rfl 1 (lw_V q2031 q2033 qs32 q87 q2034) ⟨rfl, xd_X3_acted⟩ ⟨rfl, rfl⟩ rfl hl.1 (Nat.le_of_ble_eq_true rfl) dX3_setDiscount_40 (fun v10 H locs σ cells slots h hI => ?_)
      refine W.eq (g2 := F0 m 43 ls [.int v10]) rfl ?_
      exact xr_ireturn h hX hI dX3_setDiscount_43
    · have h := xif_t h hc
      refine lv_bipush (v := (-5 : Int32)) hx hb dX3_setDiscount_28 (by decide) ?_
      exact xr_ireturn h hX hI dX3_setDiscount_30
  · have h := xif_t h hc
    refine lv_bipush (v := (-2 : Int32)) hx hb dX3_setDiscount_14 (by decide) ?_
    exact xr_ireturn h hX hI dX3_setDiscount_16
/-! PayMatch.setTerms(II)I  -/
theorem w_X0_setTerms_b50 {a0 : Nat} {a1 : Int32} {a2 : Int32} {a3 : Int32} {r : Int32} (hX : xX E R p m c cX0_setTerms 5 s args RX0 "setTerms" meth (some .int) 14 438 σ0 σ9)
    (h : (f_X0_setTerms_b50 a0 a1 a2 a3).1 σ = some (r, σ9)) (hI : xI E σ0 σ s H locs cells slots) (hl : lv_has ls 5 [(0, .ref a0), (1, .int a1), (2, .int a2), (3, .int a3)]) : W p l e R s m args below meth c H locs cells slots (xMQ E below args s σ0 σ9 (some (.int r))) (F0 m 50 ls []) := by
  have hx := hX.1.1
  have hb := hX.1.2.1
  delta f_X0_setTerms_b50 at h
  refine lv_aload_n hx hb dX0_setTerms_50 rfl (lv_at hl 0 rfl) ?_
  refine xr_gN h hX hI xl_X0_22_0.g dX0_setTerms_51 (fun v10 h => ?_)
  refine xr_callV (iv := (fun b => some (.ref b))) (As := []) (rest := []) h hX hI (fun _ _ h => w_X1_copy h) (fun _ _ h => o_X1_copy h) rfl 0 (lw_V q323 q324 q325 q75 q326) ⟨rfl, xd_X1_copy⟩ ⟨rfl, rfl⟩ rfl hl.1 (Nat.le_of_ble_eq_true rfl) dX0_setTerms_54 (fun v11 H locs σ cells slots h hI => ?_)
  refine W.eq (g2 := F0 m 57 ls [.ref v11]) rfl ?_
  refine lv_astore (lv' := [(4, .ref v11), (0, .ref a0), (1, .int a1), (2, .int a2), (3, .int a3)]) hx hb dX0_setTerms_57 hl (Nat.le_of_ble_eq_true rfl) rfl (fun ls hl => ?_)
  refine lv_aload hx hb dX0_setTerms_59 (lv_at hl 0 rfl) ?_
  refine lv_iload_n hx hb dX0_setTerms_61 rfl (lv_at hl 2 rfl) ?_
  refine xr_pt h hX hI xl_X0_127_1 (Or.inl rfl) rfl rfl dX0_setTerms_62 (fun H locs σ h hI => ?_)
  refine lv_aload hx hb dX0_setTerms_65 (lv_at hl 0 rfl) ?_
  refine lv_iload_n hx hb dX0_setTerms_67 rfl (lv_at hl 3 rfl) ?_
  refine xr_pt h hX hI xl_X0_124_1 (Or.inl rfl) rfl rfl dX0_setTerms_68 (fun H locs σ h hI => ?_)
  refine lv_aload_n hx hb dX0_setTerms_71 rfl (lv_at hl 1 rfl) ?_
  refine lv_aload hx hb dX0_setTerms_72 (lv_at hl 0 rfl) ?_
  refine lv_iload_n hx hb dX0_setTerms_74 rfl (lv_at hl 4 rfl) ?_
  refine xr_callV (iv := (fun b => some (.int b))) (As := [.ref v11, .int a3]) (rest := []) h hX hI (fun _ _ h => w_X0_become h) (fun _ _ h => o_X0_become h) rfl 2 (lw_V q1182 q1184 qs9 q74 q1185) ⟨rfl, xd_X0_become⟩ ⟨rfl, rfl⟩ rfl hl.1 (Nat.le_of_ble_eq_true rfl) dX0_setTerms_75 (fun v12 H locs σ cells slots h hI => ?_)
  refine W.eq (g2 := F0 m 78 ls [.int v12]) rfl ?_
  exact xr_ireturn h hX hI dX0_setTerms_78
theorem o_X0_setTerms {a0 : Nat} {a1 : Int32} {a2 : Int32} {r : Int32} {σ σ9 : xS} (h : (f_X0_setTerms a0 a1 a2).1 σ = some (r, σ9)) : ∃ fs, σ.1 a0 = some (.inl (0, fs)) := xck_of h
theorem w_X0_setTerms {E : xE} {l : Launch} {a0 : Nat} {a1 : Int32} {a2 : Int32} {r : Int32} {σ σ9 : xS} (h : (f_X0_setTerms a0 a1 a2).1 σ = some (r, σ9)) : xMet E l yX0_setTerms (ws_ yX0_setTerms cX0_setTerms 5 (some .int)) 14 438 [.ref a0, .int a1, .int a2] σ σ9 (some (.int r)) := by
  refine xstart (by decide +kernel) ((f_X0_setTerms a0 a1 a2).2 _ _ _ h) (Nat.le_of_ble_eq_true rfl) ?_
  intro p e s m args below meth c H locs cells slots ls R hX hI hl
  have hx := hX.1.1
  have hb := hX.1.2.1
  have hl : lv_has ls 5 [(0, .ref a0), (1, .int a1), (2, .int a2)] := hl
  generalize hσ0 : σ = σ0 at hX hI ⊢
  have h : (f_X0_setTerms a0 a1 a2).1 σ0 = some (r, σ9) := by rw [← hσ0]; exact h
  clear hσ0
  delta f_X0_setTerms at h
  have h := (xck_bd h).2
  refine lv_iload_n hx hb dX0_setTerms_0 rfl (lv_at hl 1 rfl) ?_
  refine lv_iconst (v := (0 : Int32)) hx hb dX0_setTerms_1 (by decide) ?_
  refine lv_bipush (v := (60 : Int32)) hx hb dX0_setTerms_2 (by decide) ?_
  refine xr_callS (iv := (fun b => some (.int b))) (As := [.int a1, .int (0 : Int32), .int (60 : Int32)]) (rest := []) h hX hI (fun _ _ h => w_X0_inRange h) 3 (lw_S q1267 q1230 q74 q1231) xd_X0_inRange ⟨rfl, rfl⟩ rfl hl.1 (Nat.le_of_ble_eq_true rfl) dX0_setTerms_4 (fun v13 H locs σ cells slots h hI => ?_)
  refine W.eq (g2 := F0 m 7 ls [.int v13]) rfl ?_
  refine lv_if_eq (tgt := 20) hx hb dX0_setTerms_7 (by decide) (fun hc => ?_) (fun hc => ?_)
  · have h := xif_t h hc
    refine lv_bipush (v := (-2 : Int32)) hx hb dX0_setTerms_20 (by decide) ?_
    exact xr_ireturn h hX hI dX0_setTerms_22
  · have h := xif_f h hc
    refine lv_iload_n hx hb dX0_setTerms_10 rfl (lv_at hl 2 rfl) ?_
    refine lv_iconst (v := (1 : Int32)) hx hb dX0_setTerms_11 (by decide) ?_
    refine lv_bipush (v := (90 : Int32)) hx hb dX0_setTerms_12 (by decide) ?_
    refine xr_callS (iv := (fun b => some (.int b))) (As := [.int a2, .int (1 : Int32), .int (90 : Int32)]) (rest := []) h hX hI (fun _ _ h => w_X0_inRange h) 3 (lw_S q1267 q1230 q74 q1231) xd_X0_inRange ⟨rfl, rfl⟩ rfl hl.1 (Nat.le_of_ble_eq_true rfl) dX0_setTerms_14 (fun v14 H locs σ cells slots h hI => ?_)
    refine W.eq (g2 := F0 m 17 ls [.int v14]) rfl ?_
    refine lv_if_ne (tgt := 23) hx hb dX0_setTerms_17 (by decide) (fun hc => ?_) (fun hc => ?_)
    · have h := xif_f h hc
      refine lv_aload_n hx hb dX0_setTerms_23 rfl (lv_at hl 0 rfl) ?_
      refine xr_gN h hX hI xl_X0_22_0.g dX0_setTerms_24 (fun v15 h => ?_)
      refine xr_gI h hX hI xl_X0_124_1.g dX0_setTerms_27 (fun v16 h => ?_)
      refine lv_istore_n (lv' := [(3, .int v16), (0, .ref a0), (1, .int a1), (2, .int a2)]) hx hb dX0_setTerms_30 rfl hl (Nat.le_of_ble_eq_true rfl) rfl (fun ls hl => ?_)
      refine lv_iload_n hx hb dX0_setTerms_31 rfl (lv_at hl 0 rfl) ?_
      refine lv_iload_n hx hb dX0_setTerms_32 rfl (lv_at hl 3 rfl) ?_
      refine lv_icmp_ne (tgt := 50) hx hb dX0_setTerms_33 (by decide) (fun hc => ?_) (fun hc => ?_)
      · have h := xif_f h hc
        exact w_X0_setTerms_b50 hX h hI (lv_sub hl [1, 2, 3, 0] rfl)
      · have h := xif_t h hc
        refine lv_aload_n hx hb dX0_setTerms_36 rfl (lv_at hl 1 rfl) ?_
        refine xr_gN h hX hI xl_X0_22_0.g dX0_setTerms_37 (fun v17 h => ?_)
        refine xr_gI h hX hI xl_X0_127_1.g dX0_setTerms_40 (fun v18 h => ?_)
        refine lv_iload_n hx hb dX0_setTerms_43 rfl (lv_at hl 2 rfl) ?_
        refine lv_icmp_ne (tgt := 50) hx hb dX0_setTerms_44 (by decide) (fun hc => ?_) (fun hc => ?_)
        · have h := xif_f h hc
          exact w_X0_setTerms_b50 hX h hI (lv_sub hl [1, 2, 3, 0] rfl)
        · have h := xif_t h hc
          refine lv_bipush (v := (-5 : Int32)) hx hb dX0_setTerms_47 (by decide) ?_
          exact xr_ireturn h hX hI dX0_setTerms_49
    · have h := xif_t h hc
      refine lv_bipush (v := (-2 : Int32)) hx hb dX0_setTerms_20 (by decide) ?_
      exact xr_ireturn h hX hI dX0_setTerms_22
/-! PayMatchModel.setTerms(II)I  -/
theorem w_X3_setTerms_b51 {a0 : Nat} {a1 : Int32} {a2 : Int32} {a3 : Int32} {r : Int32} (hX : xX E R p m c cX3_setTerms 4 s args RX3 "setTerms" meth (some .int) 1 22 σ0 σ9)
    (h : (f_X3_setTerms_b51 a0 a1 a2 a3).1 σ = some (r, σ9)) (hI : xI E σ0 σ s H locs cells slots) (hl : lv_has ls 4 [(0, .ref a0), (1, .int a1), (2, .int a2), (3, .int a3)]) : W p l e R s m args below meth c H locs cells slots (xMQ E below args s σ0 σ9 (some (.int r))) (F0 m 51 ls []) := by
  have hx := hX.1.1
  have hb := hX.1.2.1
  delta f_X3_setTerms_b51 at h
  refine lv_aload_n hx hb dX3_setTerms_51 rfl (lv_at hl 0 rfl) ?_
  refine xr_gN h hX hI xl_X3_13_3.g dX3_setTerms_52 (fun v8 h => ?_)
  refine lv_iconst (v := (5 : Int32)) hx hb dX3_setTerms_55 (by decide) ?_
  refine lv_iload_n hx hb dX3_setTerms_56 rfl (lv_at hl 1 rfl) ?_
  refine lv_i2l hx hb dX3_setTerms_57 rfl ?_
  refine xr_stL h hX hI dX3_setTerms_58 (fun H locs σ h hI => ?_)
  refine lv_aload_n hx hb dX3_setTerms_59 rfl (lv_at hl 0 rfl) ?_
  refine xr_gN h hX hI xl_X3_13_3.g dX3_setTerms_60 (fun v9 h => ?_)
  refine lv_bipush (v := (6 : Int32)) hx hb dX3_setTerms_63 (by decide) ?_
  refine lv_iload_n hx hb dX3_setTerms_65 rfl (lv_at hl 2 rfl) ?_
  refine lv_i2l hx hb dX3_setTerms_66 rfl ?_
  refine xr_stL h hX hI dX3_setTerms_67 (fun H locs σ h hI => ?_)
  refine lv_aload_n hx hb dX3_setTerms_68 rfl (lv_at hl 0 rfl) ?_
  refine lv_iload_n hx hb dX3_setTerms_69 rfl (lv_at hl 3 rfl) ?_
  refine xr_callV (iv := (fun b => some (.int b))) (As := [.int a3]) (rest := []) h hX hI (fun _ _ h => w_X3_acted h) (fun _ _ h => o_X3_acted h) rfl 1 (lw_V q2031 q2033 qs32 q87 q2034) ⟨rfl, xd_X3_acted⟩ ⟨rfl, rfl⟩ rfl hl.1 (Nat.le_of_ble_eq_true rfl) dX3_setTerms_70 (fun v10 H locs σ cells slots h hI => ?_)
  refine W.eq (g2 := F0 m 73 ls [.int v10]) rfl ?_
  exact xr_ireturn h hX hI dX3_setTerms_73
theorem o_X3_setTerms {a0 : Nat} {a1 : Int32} {a2 : Int32} {r : Int32} {σ σ9 : xS} (h : (f_X3_setTerms a0 a1 a2).1 σ = some (r, σ9)) : ∃ fs, σ.1 a0 = some (.inl (3, fs)) := xck_of h
theorem w_X3_setTerms {E : xE} {l : Launch} {a0 : Nat} {a1 : Int32} {a2 : Int32} {r : Int32} {σ σ9 : xS} (h : (f_X3_setTerms a0 a1 a2).1 σ = some (r, σ9)) : xMet E l yX3_setTerms (ws_ yX3_setTerms cX3_setTerms 4 (some .int)) 1 22 [.ref a0, .int a1, .int a2] σ σ9 (some (.int r)) := by
  refine xstart (by decide +kernel) ((f_X3_setTerms a0 a1 a2).2 _ _ _ h) (Nat.le_of_ble_eq_true rfl) ?_
  intro p e s m args below meth c H locs cells slots ls R hX hI hl
  have hx := hX.1.1
  have hb := hX.1.2.1
  have hl : lv_has ls 4 [(0, .ref a0), (1, .int a1), (2, .int a2)] := hl
  generalize hσ0 : σ = σ0 at hX hI ⊢
  have h : (f_X3_setTerms a0 a1 a2).1 σ0 = some (r, σ9) := by rw [← hσ0]; exact h
  clear hσ0
  delta f_X3_setTerms at h
  have h := (xck_bd h).2
  refine lv_aload_n hx hb dX3_setTerms_0 rfl (lv_at hl 0 rfl) ?_
  refine xr_callV (iv := (fun _ => none)) (As := []) (rest := []) h hX hI (fun _ _ h => w_X3_aside h) (fun _ _ h => o_X3_aside h) rfl 0 (lw_V q2018 q2020 qs30 q87 q2021) ⟨rfl, xd_X3_aside⟩ ⟨rfl, rfl⟩ rfl hl.1 (Nat.le_of_ble_eq_true rfl) dX3_setTerms_1 (fun _ H locs σ cells slots h hI => ?_)
  refine lv_iload_n hx hb dX3_setTerms_4 rfl (lv_at hl 1 rfl) ?_
  refine lv_iconst (v := (0 : Int32)) hx hb dX3_setTerms_5 (by decide) ?_
  refine lv_bipush (v := (60 : Int32)) hx hb dX3_setTerms_6 (by decide) ?_
  refine xr_callS (iv := (fun b => some (.int b))) (As := [.int a1, .int (0 : Int32), .int (60 : Int32)]) (rest := []) h hX hI (fun _ _ h => w_X3_in h) 3 (lw_S q2043 q2044 q87 q2045) xd_X3_in ⟨rfl, rfl⟩ rfl hl.1 (Nat.le_of_ble_eq_true rfl) dX3_setTerms_8 (fun v11 H locs σ cells slots h hI => ?_)
  refine W.eq (g2 := F0 m 11 ls [.int v11]) rfl ?_
  refine lv_if_eq (tgt := 24) hx hb dX3_setTerms_11 (by decide) (fun hc => ?_) (fun hc => ?_)
  · have h := xif_t h hc
    refine lv_bipush (v := (-2 : Int32)) hx hb dX3_setTerms_24 (by decide) ?_
    exact xr_ireturn h hX hI dX3_setTerms_26
  · have h := xif_f h hc
    refine lv_iload_n hx hb dX3_setTerms_14 rfl (lv_at hl 2 rfl) ?_
    refine lv_iconst (v := (1 : Int32)) hx hb dX3_setTerms_15 (by decide) ?_
    refine lv_bipush (v := (90 : Int32)) hx hb dX3_setTerms_16 (by decide) ?_
    refine xr_callS (iv := (fun b => some (.int b))) (As := [.int a2, .int (1 : Int32), .int (90 : Int32)]) (rest := []) h hX hI (fun _ _ h => w_X3_in h) 3 (lw_S q2043 q2044 q87 q2045) xd_X3_in ⟨rfl, rfl⟩ rfl hl.1 (Nat.le_of_ble_eq_true rfl) dX3_setTerms_18 (fun v12 H locs σ cells slots h hI => ?_)
    refine W.eq (g2 := F0 m 21 ls [.int v12]) rfl ?_
    refine lv_if_ne (tgt := 27) hx hb dX3_setTerms_21 (by decide) (fun hc => ?_) (fun hc => ?_)
    · have h := xif_f h hc
      refine lv_aload_n hx hb dX3_setTerms_27 rfl (lv_at hl 0 rfl) ?_
      refine lv_bipush (v := (6 : Int32)) hx hb dX3_setTerms_28 (by decide) ?_
      refine xr_callV (iv := (fun b => some (.int b))) (As := [.int (6 : Int32)]) (rest := []) h hX hI (fun _ _ h => w_X3_at h) (fun _ _ h => o_X3_at h) rfl 1 (lw_V q2022 q2024 qs31 q87 q2025) ⟨rfl, xd_X3_at⟩ ⟨rfl, rfl⟩ rfl hl.1 (Nat.le_of_ble_eq_true rfl) dX3_setTerms_30 (fun v13 H locs σ cells slots h hI => ?_)
      refine W.eq (g2 := F0 m 33 ls [.int v13]) rfl ?_
      refine lv_istore_n (lv' := [(3, .int v13), (0, .ref a0), (1, .int a1), (2, .int a2)]) hx hb dX3_setTerms_33 rfl hl (Nat.le_of_ble_eq_true rfl) rfl (fun ls hl => ?_)
      refine lv_aload_n hx hb dX3_setTerms_34 rfl (lv_at hl 1 rfl) ?_
      refine lv_iconst (v := (5 : Int32)) hx hb dX3_setTerms_35 (by decide) ?_
      refine xr_callV (iv := (fun b => some (.int b))) (As := [.int (5 : Int32)]) (rest := []) h hX hI (fun _ _ h => w_X3_at h) (fun _ _ h => o_X3_at h) rfl 1 (lw_V q2022 q2024 qs31 q87 q2025) ⟨rfl, xd_X3_at⟩ ⟨rfl, rfl⟩ rfl hl.1 (Nat.le_of_ble_eq_true rfl) dX3_setTerms_36 (fun v14 H locs σ cells slots h hI => ?_)
      refine W.eq (g2 := F0 m 39 ls [.int v14]) rfl ?_
      refine lv_iload_n hx hb dX3_setTerms_39 rfl (lv_at hl 2 rfl) ?_
      refine lv_icmp_ne (tgt := 51) hx hb dX3_setTerms_40 (by decide) (fun hc => ?_) (fun hc => ?_)
      · have h := xif_f h hc
        exact w_X3_setTerms_b51 hX h hI (lv_sub hl [1, 2, 3, 0] rfl)
      · have h := xif_t h hc
        refine lv_iload_n hx hb dX3_setTerms_43 rfl (lv_at hl 0 rfl) ?_
        refine lv_iload_n hx hb dX3_setTerms_44 rfl (lv_at hl 3 rfl) ?_
        refine lv_icmp_ne (tgt := 51) hx hb dX3_setTerms_45 (by decide) (fun hc => ?_) (fun hc => ?_)
        · have h := xif_f h hc
          exact w_X3_setTerms_b51 hX h hI (lv_sub hl [1, 2, 3, 0] rfl)
        · have h := xif_t h hc
          refine lv_bipush (v := (-5 : Int32)) hx hb dX3_setTerms_48 (by decide) ?_
          exact xr_ireturn h hX hI dX3_setTerms_50
    · have h := xif_t h hc
      refine lv_bipush (v := (-2 : Int32)) hx hb dX3_setTerms_24 (by decide) ?_
      exact xr_ireturn h hX hI dX3_setTerms_26
/-! PayMatch.addOrder(I)I  -/
theorem o_X0_addOrder {a0 : Nat} {a1 : Int32} {r : Int32} {σ σ9 : xS} (h : (f_X0_addOrder a0 a1).1 σ = some (r, σ9)) : ∃ fs, σ.1 a0 = some (.inl (0, fs)) := xck_of h
theorem w_X0_addOrder {E : xE} {l : Launch} {a0 : Nat} {a1 : Int32} {r : Int32} {σ σ9 : xS} (h : (f_X0_addOrder a0 a1).1 σ = some (r, σ9)) : xMet E l yX0_addOrder (ws_ yX0_addOrder cX0_addOrder 4 (some .int)) 14 438 [.ref a0, .int a1] σ σ9 (some (.int r)) := by
  refine xstart (by decide +kernel) ((f_X0_addOrder a0 a1).2 _ _ _ h) (Nat.le_of_ble_eq_true rfl) ?_
  intro p e s m args below meth c H locs cells slots ls R hX hI hl
  have hx := hX.1.1
  have hb := hX.1.2.1
  have hl : lv_has ls 4 [(0, .ref a0), (1, .int a1)] := hl
  generalize hσ0 : σ = σ0 at hX hI ⊢
  have h : (f_X0_addOrder a0 a1).1 σ0 = some (r, σ9) := by rw [← hσ0]; exact h
  clear hσ0
  delta f_X0_addOrder at h
  have h := (xck_bd h).2
  refine lv_aload_n hx hb dX0_addOrder_0 rfl (lv_at hl 0 rfl) ?_
  refine xr_gN h hX hI xl_X0_22_0.g dX0_addOrder_1 (fun v17 h => ?_)
  refine xr_gN h hX hI xl_X0_60_1.g dX0_addOrder_4 (fun v18 h => ?_)
  refine lv_iload_n hx hb dX0_addOrder_7 rfl (lv_at hl 1 rfl) ?_
  refine xr_callV (iv := (fun b => some (.int b))) (As := [.int a1]) (rest := []) h hX hI (fun _ _ h => w_X2_has h) (fun _ _ h => o_X2_has h) rfl 1 (lw_V q1225 q1226 q1227 q76 q1228) ⟨rfl, xd_X2_has⟩ ⟨rfl, rfl⟩ rfl hl.1 (Nat.le_of_ble_eq_true rfl) dX0_addOrder_8 (fun v19 H locs σ cells slots h hI => ?_)
  refine W.eq (g2 := F0 m 11 ls [.int v19]) rfl ?_
  refine lv_if_ne (tgt := 16) hx hb dX0_addOrder_11 (by decide) (fun hc => ?_) (fun hc => ?_)
  · have h := xif_f h hc
    refine lv_aload_n hx hb dX0_addOrder_16 rfl (lv_at hl 0 rfl) ?_
    refine xr_gN h hX hI xl_X0_22_0.g dX0_addOrder_17 (fun v20 h => ?_)
    refine xr_gN h hX hI xl_X0_60_1.g dX0_addOrder_20 (fun v21 h => ?_)
    refine lv_iload_n hx hb dX0_addOrder_23 rfl (lv_at hl 1 rfl) ?_
    refine xr_callV (iv := (fun b => some (.ref b))) (As := [.int a1]) (rest := []) h hX hI (fun _ _ h => w_X2_get h) (fun _ _ h => o_X2_get h) rfl 1 (lw_V q1249 q1250 q1251 q76 q1252) ⟨rfl, xd_X2_get⟩ ⟨rfl, rfl⟩ rfl hl.1 (Nat.le_of_ble_eq_true rfl) dX0_addOrder_24 (fun v22 H locs σ cells slots h hI => ?_)
    refine W.eq (g2 := F0 m 27 ls [.ref v22]) rfl ?_
    refine xr_cks h hX hI xc_X0_71 dX0_addOrder_27 (fun h => ?_)
    refine xr_gI h hX hI xl_X0_111_7.g dX0_addOrder_30 (fun v23 h => ?_)
    refine lv_if_eq (tgt := 39) hx hb dX0_addOrder_33 (by decide) (fun hc => ?_) (fun hc => ?_)
    · have h := xif_t h hc
      refine lv_aload_n hx hb dX0_addOrder_39 rfl (lv_at hl 0 rfl) ?_
      refine xr_gN h hX hI xl_X0_22_0.g dX0_addOrder_40 (fun v24 h => ?_)
      refine xr_gN h hX hI xl_X0_130_1.g dX0_addOrder_43 (fun v25 h => ?_)
      refine xr_callV (iv := (fun b => some (.int b))) (As := []) (rest := []) h hX hI (fun _ _ h => w_X2_size h) (fun _ _ h => o_X2_size h) rfl 0 (lw_V q303 q304 q305 q76 q306) ⟨rfl, xd_X2_size⟩ ⟨rfl, rfl⟩ rfl hl.1 (Nat.le_of_ble_eq_true rfl) dX0_addOrder_46 (fun v26 H locs σ cells slots h hI => ?_)
      refine W.eq (g2 := F0 m 49 ls [.int v26]) rfl ?_
      refine lv_istore_n (lv' := [(2, .int v26), (0, .ref a0), (1, .int a1)]) hx hb dX0_addOrder_49 rfl hl (Nat.le_of_ble_eq_true rfl) rfl (fun ls hl => ?_)
      refine lv_iload_n hx hb dX0_addOrder_50 rfl (lv_at hl 0 rfl) ?_
      refine lv_bipush (v := (12 : Int32)) hx hb dX0_addOrder_51 (by decide) ?_
      refine lv_icmp_ne (tgt := 59) hx hb dX0_addOrder_53 (by decide) (fun hc => ?_) (fun hc => ?_)
      · have h := xif_f h hc
        refine lv_aload_n hx hb dX0_addOrder_59 rfl (lv_at hl 1 rfl) ?_
        refine xr_gN h hX hI xl_X0_22_0.g dX0_addOrder_60 (fun v27 h => ?_)
        refine xr_callV (iv := (fun b => some (.ref b))) (As := []) (rest := []) h hX hI (fun _ _ h => w_X1_copy h) (fun _ _ h => o_X1_copy h) rfl 0 (lw_V q323 q324 q325 q75 q326) ⟨rfl, xd_X1_copy⟩ ⟨rfl, rfl⟩ rfl hl.1 (Nat.le_of_ble_eq_true rfl) dX0_addOrder_63 (fun v28 H locs σ cells slots h hI => ?_)
        refine W.eq (g2 := F0 m 66 ls [.ref v28]) rfl ?_
        refine lv_astore_n (lv' := [(3, .ref v28), (2, .int v26), (0, .ref a0), (1, .int a1)]) hx hb dX0_addOrder_66 rfl hl (Nat.le_of_ble_eq_true rfl) rfl (fun ls hl => ?_)
        refine lv_aload_n hx hb dX0_addOrder_67 rfl (lv_at hl 0 rfl) ?_
        refine xr_gN h hX hI xl_X0_130_1.g dX0_addOrder_68 (fun v29 h => ?_)
        refine xr_nw h hX hI xn_X0_133 dX0_addOrder_71 (fun v30 H σ cells slots h hI => ?_)
        refine lv_dup hx hb dX0_addOrder_74 rfl ?_
        refine lv_iload_n hx hb dX0_addOrder_75 rfl (lv_at hl 1 rfl) ?_
        refine lv_iload_n hx hb dX0_addOrder_76 rfl (lv_at hl 3 rfl) ?_
        refine xr_callI (As := [.int v26, .int a1]) (rest := [.ref v30, .ref v29]) h hX hI (fun _ _ h => w_X6_init h) 2 q1297 q1011 q107 q1010 rfl xd_X6_init ⟨rfl, rfl⟩ rfl hl.1 (Nat.le_of_ble_eq_true rfl) dX0_addOrder_77 (fun _ H locs σ cells slots h hI => ?_)
        refine xr_callV (iv := (fun b => some (.ref b))) (As := [.ref v30]) (rest := []) h hX hI (fun _ _ h => w_X2_add h) (fun _ _ h => o_X2_add h) rfl 1 (lw_V q1181 q1097 q1098 q76 q1099) ⟨rfl, xd_X2_add⟩ ⟨rfl, rfl⟩ rfl hl.1 (Nat.le_of_ble_eq_true rfl) dX0_addOrder_80 (fun v31 H locs σ cells slots h hI => ?_)
        refine W.eq (g2 := F0 m 83 ls [.ref v31]) rfl ?_
        refine lv_pop hx hb dX0_addOrder_83 rfl ?_
        refine lv_aload_n hx hb dX0_addOrder_84 rfl (lv_at hl 2 rfl) ?_
        refine lv_aload_n hx hb dX0_addOrder_85 rfl (lv_at hl 0 rfl) ?_
        refine lv_iload_n hx hb dX0_addOrder_86 rfl (lv_at hl 1 rfl) ?_
        refine xr_callV (iv := (fun b => some (.int b))) (As := [.ref v28, .int v26]) (rest := []) h hX hI (fun _ _ h => w_X0_become h) (fun _ _ h => o_X0_become h) rfl 2 (lw_V q1182 q1184 qs9 q74 q1185) ⟨rfl, xd_X0_become⟩ ⟨rfl, rfl⟩ rfl hl.1 (Nat.le_of_ble_eq_true rfl) dX0_addOrder_87 (fun v32 H locs σ cells slots h hI => ?_)
        refine W.eq (g2 := F0 m 90 ls [.int v32]) rfl ?_
        exact xr_ireturn h hX hI dX0_addOrder_90
      · have h := xif_t h hc
        refine lv_bipush (v := (-3 : Int32)) hx hb dX0_addOrder_56 (by decide) ?_
        exact xr_ireturn h hX hI dX0_addOrder_58
    · have h := xif_f h hc
      refine lv_bipush (v := (-4 : Int32)) hx hb dX0_addOrder_36 (by decide) ?_
      exact xr_ireturn h hX hI dX0_addOrder_38
  · have h := xif_t h hc
    refine lv_iconst (v := (-1 : Int32)) hx hb dX0_addOrder_14 (by decide) ?_
    exact xr_ireturn h hX hI dX0_addOrder_15
/-! PayMatchModel.addOrder(I)I  -/
theorem w_X3_addOrder_b68 {a0 : Nat} {a1 : Int32} {a2 : Int32} {r : Int32} (hX : xX E R p m c cX3_addOrder 4 s args RX3 "addOrder" meth (some .int) 2 43 σ0 σ9)
    (h : (f_X3_addOrder_b68 a0 a1 a2).1 σ = some (r, σ9)) (hI : xI E σ0 σ s H locs cells slots) (hl : lv_has ls 4 [(0, .ref a0), (1, .int a1), (2, .int a2)]) : W p l e R s m args below meth c H locs cells slots (xMQ E below args s σ0 σ9 (some (.int r))) (F0 m 68 ls []) := by
  have hx := hX.1.1
  have hb := hX.1.2.1
  delta f_X3_addOrder_b68 at h
  refine lv_aload_n hx hb dX3_addOrder_68 rfl (lv_at hl 0 rfl) ?_
  refine xr_gN h hX hI xl_X3_13_3.g dX3_addOrder_69 (fun v14 h => ?_)
  refine lv_iload_n hx hb dX3_addOrder_72 rfl (lv_at hl 2 rfl) ?_
  refine lv_iconst (v := (0 : Int32)) hx hb dX3_addOrder_73 (by decide) ?_
  refine xr_callS (iv := (fun b => some (.int b))) (As := [.int a2, .int (0 : Int32)]) (rest := [.ref v14]) h hX hI (fun _ _ h => w_X3_ofOrder h) 2 (lw_S q2075 q2076 q87 q2077) xd_X3_ofOrder ⟨rfl, rfl⟩ rfl hl.1 (Nat.le_of_ble_eq_true rfl) dX3_addOrder_74 (fun v15 H locs σ cells slots h hI => ?_)
  refine W.eq (g2 := F0 m 77 ls [.int v15, .ref v14]) rfl ?_
  refine lv_iload_n hx hb dX3_addOrder_77 rfl (lv_at hl 1 rfl) ?_
  refine lv_i2l hx hb dX3_addOrder_78 rfl ?_
  refine xr_stL h hX hI dX3_addOrder_79 (fun H locs σ h hI => ?_)
  refine lv_aload_n hx hb dX3_addOrder_80 rfl (lv_at hl 0 rfl) ?_
  refine xr_gN h hX hI xl_X3_13_3.g dX3_addOrder_81 (fun v16 h => ?_)
  refine lv_iconst (v := (2 : Int32)) hx hb dX3_addOrder_84 (by decide) ?_
  refine lv_dup2_11 hx hb dX3_addOrder_85 rfl rfl ?_
  refine xr_ldL h hX hI dX3_addOrder_86 (fun v17 h => ?_)
  refine lv_lconst (v := (1 : Int64)) hx hb dX3_addOrder_87 (by decide) ?_
  refine lv_ladd hx hb dX3_addOrder_88 ?_
  refine xr_stL h hX hI dX3_addOrder_89 (fun H locs σ h hI => ?_)
  refine lv_aload_n hx hb dX3_addOrder_90 rfl (lv_at hl 0 rfl) ?_
  refine lv_iload_n hx hb dX3_addOrder_91 rfl (lv_at hl 2 rfl) ?_
  refine xr_callV (iv := (fun b => some (.int b))) (As := [.int a2]) (rest := []) h hX hI (fun _ _ h => w_X3_acted h) (fun _ _ h => o_X3_acted h) rfl 1 (lw_V q2031 q2033 qs32 q87 q2034) ⟨rfl, xd_X3_acted⟩ ⟨rfl, rfl⟩ rfl hl.1 (Nat.le_of_ble_eq_true rfl) dX3_addOrder_92 (fun v18 H locs σ cells slots h hI => ?_)
  refine W.eq (g2 := F0 m 95 ls [.int v18]) rfl ?_
  exact xr_ireturn h hX hI dX3_addOrder_95
theorem w_X3_addOrder_b46 {rec46 : Nat → Int32 → Int32 → Int32 → xM Int32} {a0 : Nat} {a1 : Int32} {a2 : Int32} {a3 : Int32} {r : Int32} (hX : xX E R p m c cX3_addOrder 4 s args RX3 "addOrder" meth (some .int) 2 43 σ0 σ9) (hrec46 : ∀ (a0 : Nat) (a1 : Int32) (a2 : Int32) (a3 : Int32) (σ : xS) (H : Heap) (locs : List Loc) (cells slots : Nat) (ls : Array Slot), (rec46 a0 a1 a2 a3).1 σ = some (r, σ9) → xI E σ0 σ s H locs cells slots → lv_has ls 4 [(0, .ref a0), (1, .int a1), (2, .int a2), (3, .int a3)] → W p l e R s m args below meth c H locs cells slots (xMQ E below args s σ0 σ9 (some (.int r))) (F0 m 46 ls []))
    (h : (f_X3_addOrder_b46 rec46 a0 a1 a2 a3).1 σ = some (r, σ9)) (hI : xI E σ0 σ s H locs cells slots) (hl : lv_has ls 4 [(0, .ref a0), (1, .int a1), (2, .int a2), (3, .int a3)]) : W p l e R s m args below meth c H locs cells slots (xMQ E below args s σ0 σ9 (some (.int r))) (F0 m 46 ls []) := by
  have hx := hX.1.1
  have hb := hX.1.2.1
  delta f_X3_addOrder_b46 at h
  refine lv_iload_n hx hb dX3_addOrder_46 rfl (lv_at hl 3 rfl) ?_
  refine lv_iconst (v := (4 : Int32)) hx hb dX3_addOrder_47 (by decide) ?_
  refine lv_icmp_ge (tgt := 68) hx hb dX3_addOrder_48 (by decide) (fun hc => ?_) (fun hc => ?_)
  · have h := xif_t h hc
    exact w_X3_addOrder_b68 hX h hI (lv_sub hl [0, 1, 2] rfl)
  · have h := xif_f h hc
    refine lv_aload_n hx hb dX3_addOrder_51 rfl (lv_at hl 0 rfl) ?_
    refine xr_gN h hX hI xl_X3_13_3.g dX3_addOrder_52 (fun v12 h => ?_)
    refine lv_iload_n hx hb dX3_addOrder_55 rfl (lv_at hl 2 rfl) ?_
    refine lv_iload_n hx hb dX3_addOrder_56 rfl (lv_at hl 3 rfl) ?_
    refine xr_callS (iv := (fun b => some (.int b))) (As := [.int a2, .int a3]) (rest := [.ref v12]) h hX hI (fun _ _ h => w_X3_ofOrder h) 2 (lw_S q2075 q2076 q87 q2077) xd_X3_ofOrder ⟨rfl, rfl⟩ rfl hl.1 (Nat.le_of_ble_eq_true rfl) dX3_addOrder_57 (fun v13 H locs σ cells slots h hI => ?_)
    refine W.eq (g2 := F0 m 60 ls [.int v13, .ref v12]) rfl ?_
    refine lv_lconst (v := (0 : Int64)) hx hb dX3_addOrder_60 (by decide) ?_
    refine xr_stL h hX hI dX3_addOrder_61 (fun H locs σ h hI => ?_)
    refine lv_iinc (k := 3) (lv' := [(3, .int (a3 + (1 : Int32))), (0, .ref a0), (1, .int a1), (2, .int a2)]) hx hb dX3_addOrder_62 hl rfl (xiinc (by decide)) (Nat.le_of_ble_eq_true rfl) rfl (fun ls hl => ?_)
    refine lv_goto (tgt := 46) hx hb dX3_addOrder_65 (by decide) ?_
    exact hrec46 a0 a1 a2 (a3 + (1 : Int32)) _ _ _ _ _ _ h hI (lv_sub hl [1, 2, 3, 0] rfl)
theorem w_X3_addOrder_L46 {r : Int32} (hX : xX E R p m c cX3_addOrder 4 s args RX3 "addOrder" meth (some .int) 2 43 σ0 σ9) : ∀ (n : Nat) (a0 : Nat) (a1 : Int32) (a2 : Int32) (a3 : Int32) (σ : xS) (H : Heap) (locs : List Loc) (cells slots : Nat) (ls : Array Slot), (f_X3_addOrder_L46 n a0 a1 a2 a3).1 σ = some (r, σ9) → xI E σ0 σ s H locs cells slots → lv_has ls 4 [(0, .ref a0), (1, .int a1), (2, .int a2), (3, .int a3)] → W p l e R s m args below meth c H locs cells slots (xMQ E below args s σ0 σ9 (some (.int r))) (F0 m 46 ls []) := by
  intro n
  induction n with
  | zero =>
    intro a0 a1 a2 a3 σ H locs cells slots ls h
    exact xr_no h
  | succ n ih =>
    intro a0 a1 a2 a3 σ H locs cells slots ls h hI hl
    exact w_X3_addOrder_b46 hX ih h hI hl
theorem o_X3_addOrder {a0 : Nat} {a1 : Int32} {r : Int32} {σ σ9 : xS} (h : (f_X3_addOrder a0 a1).1 σ = some (r, σ9)) : ∃ fs, σ.1 a0 = some (.inl (3, fs)) := xck_of h
theorem w_X3_addOrder {E : xE} {l : Launch} {a0 : Nat} {a1 : Int32} {r : Int32} {σ σ9 : xS} (h : (f_X3_addOrder a0 a1).1 σ = some (r, σ9)) : xMet E l yX3_addOrder (ws_ yX3_addOrder cX3_addOrder 4 (some .int)) 2 43 [.ref a0, .int a1] σ σ9 (some (.int r)) := by
  refine xstart (by decide +kernel) ((f_X3_addOrder a0 a1).2 _ _ _ h) (Nat.le_of_ble_eq_true rfl) ?_
  intro p e s m args below meth c H locs cells slots ls R hX hI hl
  have hx := hX.1.1
  have hb := hX.1.2.1
  have hl : lv_has ls 4 [(0, .ref a0), (1, .int a1)] := hl
  generalize hσ0 : σ = σ0 at hX hI ⊢
  have h : (f_X3_addOrder a0 a1).1 σ0 = some (r, σ9) := by rw [← hσ0]; exact h
  clear hσ0
  delta f_X3_addOrder at h
  have h := (xck_bd h).2
  refine lv_aload_n hx hb dX3_addOrder_0 rfl (lv_at hl 0 rfl) ?_
  refine xr_callV (iv := (fun _ => none)) (As := []) (rest := []) h hX hI (fun _ _ h => w_X3_aside h) (fun _ _ h => o_X3_aside h) rfl 0 (lw_V q2018 q2020 qs30 q87 q2021) ⟨rfl, xd_X3_aside⟩ ⟨rfl, rfl⟩ rfl hl.1 (Nat.le_of_ble_eq_true rfl) dX3_addOrder_1 (fun _ H locs σ cells slots h hI => ?_)
  refine lv_aload_n hx hb dX3_addOrder_4 rfl (lv_at hl 0 rfl) ?_
  refine lv_iload_n hx hb dX3_addOrder_5 rfl (lv_at hl 1 rfl) ?_
  refine xr_callV (iv := (fun b => some (.int b))) (As := [.int a1]) (rest := []) h hX hI (fun _ _ h => w_X3_isSupplier h) (fun _ _ h => o_X3_isSupplier h) rfl 1 (lw_V q2039 q2041 qs33 q87 q2042) ⟨rfl, xd_X3_isSupplier⟩ ⟨rfl, rfl⟩ rfl hl.1 (Nat.le_of_ble_eq_true rfl) dX3_addOrder_6 (fun v19 H locs σ cells slots h hI => ?_)
  refine W.eq (g2 := F0 m 9 ls [.int v19]) rfl ?_
  refine lv_if_ne (tgt := 14) hx hb dX3_addOrder_9 (by decide) (fun hc => ?_) (fun hc => ?_)
  · have h := xif_f h hc
    refine lv_aload_n hx hb dX3_addOrder_14 rfl (lv_at hl 0 rfl) ?_
    refine lv_iload_n hx hb dX3_addOrder_15 rfl (lv_at hl 1 rfl) ?_
    refine xr_callV (iv := (fun b => some (.int b))) (As := [.int a1]) (rest := []) h hX hI (fun _ _ h => w_X3_isBlocked h) (fun _ _ h => o_X3_isBlocked h) rfl 1 (lw_V q2060 q2062 qs34 q87 q2063) ⟨rfl, xd_X3_isBlocked⟩ ⟨rfl, rfl⟩ rfl hl.1 (Nat.le_of_ble_eq_true rfl) dX3_addOrder_16 (fun v20 H locs σ cells slots h hI => ?_)
    refine W.eq (g2 := F0 m 19 ls [.int v20]) rfl ?_
    refine lv_if_eq (tgt := 25) hx hb dX3_addOrder_19 (by decide) (fun hc => ?_) (fun hc => ?_)
    · have h := xif_t h hc
      refine lv_aload_n hx hb dX3_addOrder_25 rfl (lv_at hl 0 rfl) ?_
      refine lv_iconst (v := (2 : Int32)) hx hb dX3_addOrder_26 (by decide) ?_
      refine xr_callV (iv := (fun b => some (.int b))) (As := [.int (2 : Int32)]) (rest := []) h hX hI (fun _ _ h => w_X3_at h) (fun _ _ h => o_X3_at h) rfl 1 (lw_V q2022 q2024 qs31 q87 q2025) ⟨rfl, xd_X3_at⟩ ⟨rfl, rfl⟩ rfl hl.1 (Nat.le_of_ble_eq_true rfl) dX3_addOrder_27 (fun v21 H locs σ cells slots h hI => ?_)
      refine W.eq (g2 := F0 m 30 ls [.int v21]) rfl ?_
      refine lv_bipush (v := (12 : Int32)) hx hb dX3_addOrder_30 (by decide) ?_
      refine lv_icmp_ne (tgt := 38) hx hb dX3_addOrder_32 (by decide) (fun hc => ?_) (fun hc => ?_)
      · have h := xif_f h hc
        refine lv_aload_n hx hb dX3_addOrder_38 rfl (lv_at hl 0 rfl) ?_
        refine lv_iconst (v := (2 : Int32)) hx hb dX3_addOrder_39 (by decide) ?_
        refine xr_callV (iv := (fun b => some (.int b))) (As := [.int (2 : Int32)]) (rest := []) h hX hI (fun _ _ h => w_X3_at h) (fun _ _ h => o_X3_at h) rfl 1 (lw_V q2022 q2024 qs31 q87 q2025) ⟨rfl, xd_X3_at⟩ ⟨rfl, rfl⟩ rfl hl.1 (Nat.le_of_ble_eq_true rfl) dX3_addOrder_40 (fun v22 H locs σ cells slots h hI => ?_)
        refine W.eq (g2 := F0 m 43 ls [.int v22]) rfl ?_
        refine lv_istore_n (lv' := [(2, .int v22), (0, .ref a0), (1, .int a1)]) hx hb dX3_addOrder_43 rfl hl (Nat.le_of_ble_eq_true rfl) rfl (fun ls hl => ?_)
        refine lv_iconst (v := (0 : Int32)) hx hb dX3_addOrder_44 (by decide) ?_
        refine lv_istore_n (lv' := [(3, .int (0 : Int32)), (2, .int v22), (0, .ref a0), (1, .int a1)]) hx hb dX3_addOrder_45 rfl hl (Nat.le_of_ble_eq_true rfl) rfl (fun ls hl => ?_)
        exact w_X3_addOrder_L46 hX xFU a0 a1 v22 (0 : Int32) _ _ _ _ _ _ h hI (lv_sub hl [2, 3, 1, 0] rfl)
      · have h := xif_t h hc
        refine lv_bipush (v := (-3 : Int32)) hx hb dX3_addOrder_35 (by decide) ?_
        exact xr_ireturn h hX hI dX3_addOrder_37
    · have h := xif_f h hc
      refine lv_bipush (v := (-4 : Int32)) hx hb dX3_addOrder_22 (by decide) ?_
      exact xr_ireturn h hX hI dX3_addOrder_24
  · have h := xif_t h hc
    refine lv_iconst (v := (-1 : Int32)) hx hb dX3_addOrder_12 (by decide) ?_
    exact xr_ireturn h hX hI dX3_addOrder_13
/-! PayMatch.areUnits(I)Z  -/
theorem w_X0_areUnits {E : xE} {l : Launch} {a0 : Int32} {r : Int32} {σ σ9 : xS} (h : (f_X0_areUnits a0).1 σ = some (r, σ9)) : xMet E l yX0_areUnits (ws_ yX0_areUnits cX0_areUnits 1 (some .boolean)) 1 22 [.int a0] σ σ9 (some (.int r)) := by
  refine xstart (by decide +kernel) ((f_X0_areUnits a0).2 _ _ _ h) (Nat.le_of_ble_eq_true rfl) ?_
  intro p e s m args below meth c H locs cells slots ls R hX hI hl
  have hx := hX.1.1
  have hb := hX.1.2.1
  have hl : lv_has ls 1 [(0, .int a0)] := hl
  generalize hσ0 : σ = σ0 at hX hI ⊢
  have h : (f_X0_areUnits a0).1 σ0 = some (r, σ9) := by rw [← hσ0]; exact h
  clear hσ0
  delta f_X0_areUnits at h
  refine lv_iload_n hx hb dX0_areUnits_0 rfl (lv_at hl 0 rfl) ?_
  refine lv_iconst (v := (1 : Int32)) hx hb dX0_areUnits_1 (by decide) ?_
  refine lv_sipush (v := (999 : Int32)) hx hb dX0_areUnits_2 (by decide) ?_
  refine xr_callS (iv := (fun b => some (.int b))) (As := [.int a0, .int (1 : Int32), .int (999 : Int32)]) (rest := []) h hX hI (fun _ _ h => w_X0_inRange h) 3 (lw_S q1267 q1230 q74 q1231) xd_X0_inRange ⟨rfl, rfl⟩ rfl hl.1 (Nat.le_of_ble_eq_true rfl) dX0_areUnits_5 (fun v2 H locs σ cells slots h hI => ?_)
  refine W.eq (g2 := F0 m 8 ls [.int v2]) rfl ?_
  exact xr_zreturn h hX hI dX0_areUnits_8
/-! PayMatch.isPrice(I)Z  -/
theorem w_X0_isPrice {E : xE} {l : Launch} {a0 : Int32} {r : Int32} {σ σ9 : xS} (h : (f_X0_isPrice a0).1 σ = some (r, σ9)) : xMet E l yX0_isPrice (ws_ yX0_isPrice cX0_isPrice 1 (some .boolean)) 1 22 [.int a0] σ σ9 (some (.int r)) := by
  refine xstart (by decide +kernel) ((f_X0_isPrice a0).2 _ _ _ h) (Nat.le_of_ble_eq_true rfl) ?_
  intro p e s m args below meth c H locs cells slots ls R hX hI hl
  have hx := hX.1.1
  have hb := hX.1.2.1
  have hl : lv_has ls 1 [(0, .int a0)] := hl
  generalize hσ0 : σ = σ0 at hX hI ⊢
  have h : (f_X0_isPrice a0).1 σ0 = some (r, σ9) := by rw [← hσ0]; exact h
  clear hσ0
  delta f_X0_isPrice at h
  refine lv_iload_n hx hb dX0_isPrice_0 rfl (lv_at hl 0 rfl) ?_
  refine lv_iconst (v := (1 : Int32)) hx hb dX0_isPrice_1 (by decide) ?_
  refine lv_sipush (v := (9999 : Int32)) hx hb dX0_isPrice_2 (by decide) ?_
  refine xr_callS (iv := (fun b => some (.int b))) (As := [.int a0, .int (1 : Int32), .int (9999 : Int32)]) (rest := []) h hX hI (fun _ _ h => w_X0_inRange h) 3 (lw_S q1267 q1230 q74 q1231) xd_X0_inRange ⟨rfl, rfl⟩ rfl hl.1 (Nat.le_of_ble_eq_true rfl) dX0_isPrice_5 (fun v2 H locs σ cells slots h hI => ?_)
  refine W.eq (g2 := F0 m 8 ls [.int v2]) rfl ?_
  exact xr_zreturn h hX hI dX0_isPrice_8
/-! PayMatch.isOpen(I)Z  -/
theorem o_X0_isOpen {a0 : Nat} {a1 : Int32} {r : Int32} {σ σ9 : xS} (h : (f_X0_isOpen a0 a1).1 σ = some (r, σ9)) : ∃ fs, σ.1 a0 = some (.inl (0, fs)) := xck_of h
theorem w_X0_isOpen {E : xE} {l : Launch} {a0 : Nat} {a1 : Int32} {r : Int32} {σ σ9 : xS} (h : (f_X0_isOpen a0 a1).1 σ = some (r, σ9)) : xMet E l yX0_isOpen (ws_ yX0_isOpen cX0_isOpen 2 (some .boolean)) 4 85 [.ref a0, .int a1] σ σ9 (some (.int r)) := by
  refine xstart (by decide +kernel) ((f_X0_isOpen a0 a1).2 _ _ _ h) (Nat.le_of_ble_eq_true rfl) ?_
  intro p e s m args below meth c H locs cells slots ls R hX hI hl
  have hx := hX.1.1
  have hb := hX.1.2.1
  have hl : lv_has ls 2 [(0, .ref a0), (1, .int a1)] := hl
  generalize hσ0 : σ = σ0 at hX hI ⊢
  have h : (f_X0_isOpen a0 a1).1 σ0 = some (r, σ9) := by rw [← hσ0]; exact h
  clear hσ0
  delta f_X0_isOpen at h
  have h := (xck_bd h).2
  refine lv_aload_n hx hb dX0_isOpen_0 rfl (lv_at hl 0 rfl) ?_
  refine xr_gN h hX hI xl_X0_22_0.g dX0_isOpen_1 (fun v5 h => ?_)
  refine xr_gN h hX hI xl_X0_130_1.g dX0_isOpen_4 (fun v6 h => ?_)
  refine lv_iload_n hx hb dX0_isOpen_7 rfl (lv_at hl 1 rfl) ?_
  refine xr_callV (iv := (fun b => some (.ref b))) (As := [.int a1]) (rest := []) h hX hI (fun _ _ h => w_X2_get h) (fun _ _ h => o_X2_get h) rfl 1 (lw_V q1249 q1250 q1251 q76 q1252) ⟨rfl, xd_X2_get⟩ ⟨rfl, rfl⟩ rfl hl.1 (Nat.le_of_ble_eq_true rfl) dX0_isOpen_8 (fun v7 H locs σ cells slots h hI => ?_)
  refine W.eq (g2 := F0 m 11 ls [.ref v7]) rfl ?_
  refine xr_cks h hX hI xc_X0_133 dX0_isOpen_11 (fun h => ?_)
  refine xr_gI h hX hI xl_X0_138_6.g dX0_isOpen_14 (fun v8 h => ?_)
  refine lv_if_ne (tgt := 24) hx hb dX0_isOpen_17 (by decide) (fun hc => ?_) (fun hc => ?_)
  · have h := xif_f h hc
    refine lv_iconst (v := (0 : Int32)) hx hb dX0_isOpen_24 (by decide) ?_
    exact xr_zreturn h hX hI dX0_isOpen_25
  · have h := xif_t h hc
    refine lv_iconst (v := (1 : Int32)) hx hb dX0_isOpen_20 (by decide) ?_
    refine lv_goto (tgt := 25) hx hb dX0_isOpen_21 (by decide) ?_
    exact xr_zreturn h hX hI dX0_isOpen_25
/-! PayMatch.addLine(IIII)I  -/
theorem o_X0_addLine {a0 : Nat} {a1 : Int32} {a2 : Int32} {a3 : Int32} {a4 : Int32} {r : Int32} {σ σ9 : xS} (h : (f_X0_addLine a0 a1 a2 a3 a4).1 σ = some (r, σ9)) : ∃ fs, σ.1 a0 = some (.inl (0, fs)) := xck_of h
theorem w_X0_addLine {E : xE} {l : Launch} {a0 : Nat} {a1 : Int32} {a2 : Int32} {a3 : Int32} {a4 : Int32} {r : Int32} {σ σ9 : xS} (h : (f_X0_addLine a0 a1 a2 a3 a4).1 σ = some (r, σ9)) : xMet E l yX0_addLine (ws_ yX0_addLine cX0_addLine 7 (some .int)) 14 438 [.ref a0, .int a1, .int a2, .int a3, .int a4] σ σ9 (some (.int r)) := by
  refine xstart (by decide +kernel) ((f_X0_addLine a0 a1 a2 a3 a4).2 _ _ _ h) (Nat.le_of_ble_eq_true rfl) ?_
  intro p e s m args below meth c H locs cells slots ls R hX hI hl
  have hx := hX.1.1
  have hb := hX.1.2.1
  have hl : lv_has ls 7 [(0, .ref a0), (1, .int a1), (2, .int a2), (3, .int a3), (4, .int a4)] := hl
  generalize hσ0 : σ = σ0 at hX hI ⊢
  have h : (f_X0_addLine a0 a1 a2 a3 a4).1 σ0 = some (r, σ9) := by rw [← hσ0]; exact h
  clear hσ0
  delta f_X0_addLine at h
  have h := (xck_bd h).2
  refine lv_aload_n hx hb dX0_addLine_0 rfl (lv_at hl 0 rfl) ?_
  refine xr_gN h hX hI xl_X0_22_0.g dX0_addLine_1 (fun v21 h => ?_)
  refine xr_gN h hX hI xl_X0_130_1.g dX0_addLine_4 (fun v22 h => ?_)
  refine lv_iload_n hx hb dX0_addLine_7 rfl (lv_at hl 1 rfl) ?_
  refine xr_callV (iv := (fun b => some (.int b))) (As := [.int a1]) (rest := []) h hX hI (fun _ _ h => w_X2_has h) (fun _ _ h => o_X2_has h) rfl 1 (lw_V q1225 q1226 q1227 q76 q1228) ⟨rfl, xd_X2_has⟩ ⟨rfl, rfl⟩ rfl hl.1 (Nat.le_of_ble_eq_true rfl) dX0_addLine_8 (fun v23 H locs σ cells slots h hI => ?_)
  refine W.eq (g2 := F0 m 11 ls [.int v23]) rfl ?_
  refine lv_if_ne (tgt := 16) hx hb dX0_addLine_11 (by decide) (fun hc => ?_) (fun hc => ?_)
  · have h := xif_f h hc
    refine lv_iload_n hx hb dX0_addLine_16 rfl (lv_at hl 2 rfl) ?_
    refine lv_iconst (v := (0 : Int32)) hx hb dX0_addLine_17 (by decide) ?_
    refine lv_bipush (v := (99 : Int32)) hx hb dX0_addLine_18 (by decide) ?_
    refine xr_callS (iv := (fun b => some (.int b))) (As := [.int a2, .int (0 : Int32), .int (99 : Int32)]) (rest := []) h hX hI (fun _ _ h => w_X0_inRange h) 3 (lw_S q1267 q1230 q74 q1231) xd_X0_inRange ⟨rfl, rfl⟩ rfl hl.1 (Nat.le_of_ble_eq_true rfl) dX0_addLine_20 (fun v24 H locs σ cells slots h hI => ?_)
    refine W.eq (g2 := F0 m 23 ls [.int v24]) rfl ?_
    refine lv_if_eq (tgt := 41) hx hb dX0_addLine_23 (by decide) (fun hc => ?_) (fun hc => ?_)
    · have h := xif_t h hc
      refine lv_bipush (v := (-2 : Int32)) hx hb dX0_addLine_41 (by decide) ?_
      exact xr_ireturn h hX hI dX0_addLine_43
    · have h := xif_f h hc
      refine lv_iload_n hx hb dX0_addLine_26 rfl (lv_at hl 3 rfl) ?_
      refine xr_callS (iv := (fun b => some (.int b))) (As := [.int a3]) (rest := []) h hX hI (fun _ _ h => w_X0_areUnits h) 1 (lw_S q1302 q1303 q74 q1304) xd_X0_areUnits ⟨rfl, rfl⟩ rfl hl.1 (Nat.le_of_ble_eq_true rfl) dX0_addLine_27 (fun v25 H locs σ cells slots h hI => ?_)
      refine W.eq (g2 := F0 m 30 ls [.int v25]) rfl ?_
      refine lv_if_eq (tgt := 41) hx hb dX0_addLine_30 (by decide) (fun hc => ?_) (fun hc => ?_)
      · have h := xif_t h hc
        refine lv_bipush (v := (-2 : Int32)) hx hb dX0_addLine_41 (by decide) ?_
        exact xr_ireturn h hX hI dX0_addLine_43
      · have h := xif_f h hc
        refine lv_iload hx hb dX0_addLine_33 (lv_at hl 4 rfl) ?_
        refine xr_callS (iv := (fun b => some (.int b))) (As := [.int a4]) (rest := []) h hX hI (fun _ _ h => w_X0_isPrice h) 1 (lw_S q1305 q1306 q74 q1307) xd_X0_isPrice ⟨rfl, rfl⟩ rfl hl.1 (Nat.le_of_ble_eq_true rfl) dX0_addLine_35 (fun v26 H locs σ cells slots h hI => ?_)
        refine W.eq (g2 := F0 m 38 ls [.int v26]) rfl ?_
        refine lv_if_ne (tgt := 44) hx hb dX0_addLine_38 (by decide) (fun hc => ?_) (fun hc => ?_)
        · have h := xif_f h hc
          refine lv_aload_n hx hb dX0_addLine_44 rfl (lv_at hl 0 rfl) ?_
          refine lv_iload_n hx hb dX0_addLine_45 rfl (lv_at hl 1 rfl) ?_
          refine xr_callV (iv := (fun b => some (.int b))) (As := [.int a1]) (rest := []) h hX hI (fun _ _ h => w_X0_isOpen h) (fun _ _ h => o_X0_isOpen h) rfl 1 (lw_V q1308 q1310 qs12 q74 q1311) ⟨rfl, xd_X0_isOpen⟩ ⟨rfl, rfl⟩ rfl hl.1 (Nat.le_of_ble_eq_true rfl) dX0_addLine_46 (fun v27 H locs σ cells slots h hI => ?_)
          refine W.eq (g2 := F0 m 49 ls [.int v27]) rfl ?_
          refine lv_if_ne (tgt := 55) hx hb dX0_addLine_49 (by decide) (fun hc => ?_) (fun hc => ?_)
          · have h := xif_f h hc
            refine lv_aload_n hx hb dX0_addLine_55 rfl (lv_at hl 0 rfl) ?_
            refine xr_gN h hX hI xl_X0_22_0.g dX0_addLine_56 (fun v28 h => ?_)
            refine xr_gN h hX hI xl_X0_130_1.g dX0_addLine_59 (fun v29 h => ?_)
            refine lv_iload_n hx hb dX0_addLine_62 rfl (lv_at hl 1 rfl) ?_
            refine xr_callV (iv := (fun b => some (.ref b))) (As := [.int a1]) (rest := []) h hX hI (fun _ _ h => w_X2_get h) (fun _ _ h => o_X2_get h) rfl 1 (lw_V q1249 q1250 q1251 q76 q1252) ⟨rfl, xd_X2_get⟩ ⟨rfl, rfl⟩ rfl hl.1 (Nat.le_of_ble_eq_true rfl) dX0_addLine_63 (fun v30 H locs σ cells slots h hI => ?_)
            refine W.eq (g2 := F0 m 66 ls [.ref v30]) rfl ?_
            refine xr_cks h hX hI xc_X0_133 dX0_addLine_66 (fun h => ?_)
            refine xr_gN h hX hI xl_X0_150_6.g dX0_addLine_69 (fun v31 h => ?_)
            refine xr_callV (iv := (fun b => some (.int b))) (As := []) (rest := []) h hX hI (fun _ _ h => w_X2_size h) (fun _ _ h => o_X2_size h) rfl 0 (lw_V q303 q304 q305 q76 q306) ⟨rfl, xd_X2_size⟩ ⟨rfl, rfl⟩ rfl hl.1 (Nat.le_of_ble_eq_true rfl) dX0_addLine_72 (fun v32 H locs σ cells slots h hI => ?_)
            refine W.eq (g2 := F0 m 75 ls [.int v32]) rfl ?_
            refine lv_istore (lv' := [(5, .int v32), (0, .ref a0), (1, .int a1), (2, .int a2), (3, .int a3), (4, .int a4)]) hx hb dX0_addLine_75 hl (Nat.le_of_ble_eq_true rfl) rfl (fun ls hl => ?_)
            refine lv_iload hx hb dX0_addLine_77 (lv_at hl 0 rfl) ?_
            refine lv_bipush (v := (6 : Int32)) hx hb dX0_addLine_79 (by decide) ?_
            refine lv_icmp_ne (tgt := 87) hx hb dX0_addLine_81 (by decide) (fun hc => ?_) (fun hc => ?_)
            · have h := xif_f h hc
              refine lv_aload_n hx hb dX0_addLine_87 rfl (lv_at hl 1 rfl) ?_
              refine xr_gN h hX hI xl_X0_22_0.g dX0_addLine_88 (fun v33 h => ?_)
              refine xr_callV (iv := (fun b => some (.ref b))) (As := []) (rest := []) h hX hI (fun _ _ h => w_X1_copy h) (fun _ _ h => o_X1_copy h) rfl 0 (lw_V q323 q324 q325 q75 q326) ⟨rfl, xd_X1_copy⟩ ⟨rfl, rfl⟩ rfl hl.1 (Nat.le_of_ble_eq_true rfl) dX0_addLine_91 (fun v34 H locs σ cells slots h hI => ?_)
              refine W.eq (g2 := F0 m 94 ls [.ref v34]) rfl ?_
              refine lv_astore (lv' := [(6, .ref v34), (5, .int v32), (0, .ref a0), (1, .int a1), (2, .int a2), (3, .int a3), (4, .int a4)]) hx hb dX0_addLine_94 hl (Nat.le_of_ble_eq_true rfl) rfl (fun ls hl => ?_)
              refine lv_aload hx hb dX0_addLine_96 (lv_at hl 0 rfl) ?_
              refine xr_gN h hX hI xl_X0_130_1.g dX0_addLine_98 (fun v35 h => ?_)
              refine lv_iload_n hx hb dX0_addLine_101 rfl (lv_at hl 3 rfl) ?_
              refine xr_callV (iv := (fun b => some (.ref b))) (As := [.int a1]) (rest := []) h hX hI (fun _ _ h => w_X2_get h) (fun _ _ h => o_X2_get h) rfl 1 (lw_V q1249 q1250 q1251 q76 q1252) ⟨rfl, xd_X2_get⟩ ⟨rfl, rfl⟩ rfl hl.1 (Nat.le_of_ble_eq_true rfl) dX0_addLine_102 (fun v36 H locs σ cells slots h hI => ?_)
              refine W.eq (g2 := F0 m 105 ls [.ref v36]) rfl ?_
              refine xr_cks h hX hI xc_X0_133 dX0_addLine_105 (fun h => ?_)
              refine xr_gN h hX hI xl_X0_150_6.g dX0_addLine_108 (fun v37 h => ?_)
              refine xr_nw h hX hI xn_X0_153 dX0_addLine_111 (fun v38 H σ cells slots h hI => ?_)
              refine lv_dup hx hb dX0_addLine_114 rfl ?_
              refine lv_iload hx hb dX0_addLine_115 (lv_at hl 1 rfl) ?_
              refine lv_iload_n hx hb dX0_addLine_117 rfl (lv_at hl 4 rfl) ?_
              refine lv_iload_n hx hb dX0_addLine_118 rfl (lv_at hl 5 rfl) ?_
              refine lv_iload hx hb dX0_addLine_119 (lv_at hl 6 rfl) ?_
              refine xr_callI (As := [.int v32, .int a2, .int a3, .int a4]) (rest := [.ref v38, .ref v37]) h hX hI (fun _ _ h => w_X5_init h) 4 q1313 q952 q106 q951 rfl xd_X5_init ⟨rfl, rfl⟩ rfl hl.1 (Nat.le_of_ble_eq_true rfl) dX0_addLine_121 (fun _ H locs σ cells slots h hI => ?_)
              refine xr_callV (iv := (fun b => some (.ref b))) (As := [.ref v38]) (rest := []) h hX hI (fun _ _ h => w_X2_add h) (fun _ _ h => o_X2_add h) rfl 1 (lw_V q1181 q1097 q1098 q76 q1099) ⟨rfl, xd_X2_add⟩ ⟨rfl, rfl⟩ rfl hl.1 (Nat.le_of_ble_eq_true rfl) dX0_addLine_124 (fun v39 H locs σ cells slots h hI => ?_)
              refine W.eq (g2 := F0 m 127 ls [.ref v39]) rfl ?_
              refine lv_pop hx hb dX0_addLine_127 rfl ?_
              refine lv_aload_n hx hb dX0_addLine_128 rfl (lv_at hl 2 rfl) ?_
              refine lv_aload hx hb dX0_addLine_129 (lv_at hl 0 rfl) ?_
              refine lv_iload hx hb dX0_addLine_131 (lv_at hl 1 rfl) ?_
              refine xr_callV (iv := (fun b => some (.int b))) (As := [.ref v34, .int v32]) (rest := []) h hX hI (fun _ _ h => w_X0_become h) (fun _ _ h => o_X0_become h) rfl 2 (lw_V q1182 q1184 qs9 q74 q1185) ⟨rfl, xd_X0_become⟩ ⟨rfl, rfl⟩ rfl hl.1 (Nat.le_of_ble_eq_true rfl) dX0_addLine_133 (fun v40 H locs σ cells slots h hI => ?_)
              refine W.eq (g2 := F0 m 136 ls [.int v40]) rfl ?_
              exact xr_ireturn h hX hI dX0_addLine_136
            · have h := xif_t h hc
              refine lv_bipush (v := (-3 : Int32)) hx hb dX0_addLine_84 (by decide) ?_
              exact xr_ireturn h hX hI dX0_addLine_86
          · have h := xif_t h hc
            refine lv_bipush (v := (-4 : Int32)) hx hb dX0_addLine_52 (by decide) ?_
            exact xr_ireturn h hX hI dX0_addLine_54
        · have h := xif_t h hc
          refine lv_bipush (v := (-2 : Int32)) hx hb dX0_addLine_41 (by decide) ?_
          exact xr_ireturn h hX hI dX0_addLine_43
  · have h := xif_t h hc
    refine lv_iconst (v := (-1 : Int32)) hx hb dX0_addLine_14 (by decide) ?_
    exact xr_ireturn h hX hI dX0_addLine_15
/-! PayMatchModel.isOrder(I)Z  -/
theorem o_X3_isOrder {a0 : Nat} {a1 : Int32} {r : Int32} {σ σ9 : xS} (h : (f_X3_isOrder a0 a1).1 σ = some (r, σ9)) : ∃ fs, σ.1 a0 = some (.inl (3, fs)) := xck_of h
theorem w_X3_isOrder {E : xE} {l : Launch} {a0 : Nat} {a1 : Int32} {r : Int32} {σ σ9 : xS} (h : (f_X3_isOrder a0 a1).1 σ = some (r, σ9)) : xMet E l yX3_isOrder (ws_ yX3_isOrder cX3_isOrder 2 (some .boolean)) 1 22 [.ref a0, .int a1] σ σ9 (some (.int r)) := by
  refine xstart (by decide +kernel) ((f_X3_isOrder a0 a1).2 _ _ _ h) (Nat.le_of_ble_eq_true rfl) ?_
  intro p e s m args below meth c H locs cells slots ls R hX hI hl
  have hx := hX.1.1
  have hb := hX.1.2.1
  have hl : lv_has ls 2 [(0, .ref a0), (1, .int a1)] := hl
  generalize hσ0 : σ = σ0 at hX hI ⊢
  have h : (f_X3_isOrder a0 a1).1 σ0 = some (r, σ9) := by rw [← hσ0]; exact h
  clear hσ0
  delta f_X3_isOrder at h
  have h := (xck_bd h).2
  refine lv_iload_n hx hb dX3_isOrder_0 rfl (lv_at hl 1 rfl) ?_
  refine lv_iconst (v := (0 : Int32)) hx hb dX3_isOrder_1 (by decide) ?_
  refine lv_aload_n hx hb dX3_isOrder_2 rfl (lv_at hl 0 rfl) ?_
  refine lv_iconst (v := (2 : Int32)) hx hb dX3_isOrder_3 (by decide) ?_
  refine xr_callV (iv := (fun b => some (.int b))) (As := [.int (2 : Int32)]) (rest := [.int (0 : Int32), .int a1]) h hX hI (fun _ _ h => w_X3_at h) (fun _ _ h => o_X3_at h) rfl 1 (lw_V q2022 q2024 qs31 q87 q2025) ⟨rfl, xd_X3_at⟩ ⟨rfl, rfl⟩ rfl hl.1 (Nat.le_of_ble_eq_true rfl) dX3_isOrder_4 (fun v3 H locs σ cells slots h hI => ?_)
  refine W.eq (g2 := F0 m 7 ls [.int v3, .int (0 : Int32), .int a1]) rfl ?_
  refine lv_iconst (v := (1 : Int32)) hx hb dX3_isOrder_7 (by decide) ?_
  refine lv_isub hx hb dX3_isOrder_8 ?_
  refine xr_callS (iv := (fun b => some (.int b))) (As := [.int a1, .int (0 : Int32), .int (v3 - (1 : Int32))]) (rest := []) h hX hI (fun _ _ h => w_X3_in h) 3 (lw_S q2043 q2044 q87 q2045) xd_X3_in ⟨rfl, rfl⟩ rfl hl.1 (Nat.le_of_ble_eq_true rfl) dX3_isOrder_9 (fun v4 H locs σ cells slots h hI => ?_)
  refine W.eq (g2 := F0 m 12 ls [.int v4]) rfl ?_
  exact xr_zreturn h hX hI dX3_isOrder_12
/-! PayMatchModel.isOpen(I)Z  -/
theorem o_X3_isOpen {a0 : Nat} {a1 : Int32} {r : Int32} {σ σ9 : xS} (h : (f_X3_isOpen a0 a1).1 σ = some (r, σ9)) : ∃ fs, σ.1 a0 = some (.inl (3, fs)) := xck_of h
theorem w_X3_isOpen {E : xE} {l : Launch} {a0 : Nat} {a1 : Int32} {r : Int32} {σ σ9 : xS} (h : (f_X3_isOpen a0 a1).1 σ = some (r, σ9)) : xMet E l yX3_isOpen (ws_ yX3_isOpen cX3_isOpen 2 (some .boolean)) 1 21 [.ref a0, .int a1] σ σ9 (some (.int r)) := by
  refine xstart (by decide +kernel) ((f_X3_isOpen a0 a1).2 _ _ _ h) (Nat.le_of_ble_eq_true rfl) ?_
  intro p e s m args below meth c H locs cells slots ls R hX hI hl
  have hx := hX.1.1
  have hb := hX.1.2.1
  have hl : lv_has ls 2 [(0, .ref a0), (1, .int a1)] := hl
  generalize hσ0 : σ = σ0 at hX hI ⊢
  have h : (f_X3_isOpen a0 a1).1 σ0 = some (r, σ9) := by rw [← hσ0]; exact h
  clear hσ0
  delta f_X3_isOpen at h
  have h := (xck_bd h).2
  refine lv_aload_n hx hb dX3_isOpen_0 rfl (lv_at hl 0 rfl) ?_
  refine lv_iload_n hx hb dX3_isOpen_1 rfl (lv_at hl 1 rfl) ?_
  refine lv_iconst (v := (2 : Int32)) hx hb dX3_isOpen_2 (by decide) ?_
  refine xr_callS (iv := (fun b => some (.int b))) (As := [.int a1, .int (2 : Int32)]) (rest := [.ref a0]) h hX hI (fun _ _ h => w_X3_ofOrder h) 2 (lw_S q2075 q2076 q87 q2077) xd_X3_ofOrder ⟨rfl, rfl⟩ rfl hl.1 (Nat.le_of_ble_eq_true rfl) dX3_isOpen_3 (fun v3 H locs σ cells slots h hI => ?_)
  refine W.eq (g2 := F0 m 6 ls [.int v3, .ref a0]) rfl ?_
  refine xr_callV (iv := (fun b => some (.int b))) (As := [.int v3]) (rest := []) h hX hI (fun _ _ h => w_X3_at h) (fun _ _ h => o_X3_at h) rfl 1 (lw_V q2022 q2024 qs31 q87 q2025) ⟨rfl, xd_X3_at⟩ ⟨rfl, rfl⟩ rfl hl.1 (Nat.le_of_ble_eq_true rfl) dX3_isOpen_6 (fun v4 H locs σ cells slots h hI => ?_)
  refine W.eq (g2 := F0 m 9 ls [.int v4]) rfl ?_
  refine lv_if_ne (tgt := 16) hx hb dX3_isOpen_9 (by decide) (fun hc => ?_) (fun hc => ?_)
  · have h := xif_f h hc
    refine lv_iconst (v := (0 : Int32)) hx hb dX3_isOpen_16 (by decide) ?_
    exact xr_zreturn h hX hI dX3_isOpen_17
  · have h := xif_t h hc
    refine lv_iconst (v := (1 : Int32)) hx hb dX3_isOpen_12 (by decide) ?_
    refine lv_goto (tgt := 17) hx hb dX3_isOpen_13 (by decide) ?_
    exact xr_zreturn h hX hI dX3_isOpen_17
/-! PayMatchModel.ofLine(III)I  -/
theorem w_X3_ofLine {E : xE} {l : Launch} {a0 : Int32} {a1 : Int32} {a2 : Int32} {r : Int32} {σ σ9 : xS} (h : (f_X3_ofLine a0 a1 a2).1 σ = some (r, σ9)) : xMet E l yX3_ofLine (ws_ yX3_ofLine cX3_ofLine 3 (some .int)) 0 0 [.int a0, .int a1, .int a2] σ σ9 (some (.int r)) := by
  refine xstart (by decide +kernel) ((f_X3_ofLine a0 a1 a2).2 _ _ _ h) (Nat.le_of_ble_eq_true rfl) ?_
  intro p e s m args below meth c H locs cells slots ls R hX hI hl
  have hx := hX.1.1
  have hb := hX.1.2.1
  have hl : lv_has ls 3 [(0, .int a0), (1, .int a1), (2, .int a2)] := hl
  generalize hσ0 : σ = σ0 at hX hI ⊢
  have h : (f_X3_ofLine a0 a1 a2).1 σ0 = some (r, σ9) := by rw [← hσ0]; exact h
  clear hσ0
  delta f_X3_ofLine at h
  refine lv_bipush (v := (99 : Int32)) hx hb dX3_ofLine_0 (by decide) ?_
  refine lv_bipush (v := (48 : Int32)) hx hb dX3_ofLine_2 (by decide) ?_
  refine lv_iload_n hx hb dX3_ofLine_4 rfl (lv_at hl 0 rfl) ?_
  refine lv_imul hx hb dX3_ofLine_5 ?_
  refine lv_iadd hx hb dX3_ofLine_6 ?_
  refine lv_bipush (v := (8 : Int32)) hx hb dX3_ofLine_7 (by decide) ?_
  refine lv_iload_n hx hb dX3_ofLine_9 rfl (lv_at hl 1 rfl) ?_
  refine lv_imul hx hb dX3_ofLine_10 ?_
  refine lv_iadd hx hb dX3_ofLine_11 ?_
  refine lv_iload_n hx hb dX3_ofLine_12 rfl (lv_at hl 2 rfl) ?_
  refine lv_iadd hx hb dX3_ofLine_13 ?_
  exact xr_ireturn h hX hI dX3_ofLine_14
/-! PayMatchModel.addLine(IIII)I  -/
theorem w_X3_addLine_b112 {a0 : Nat} {a1 : Int32} {a2 : Int32} {a3 : Int32} {a4 : Int32} {a5 : Int32} {r : Int32} (hX : xX E R p m c cX3_addLine 7 s args RX3 "addLine" meth (some .int) 2 43 σ0 σ9)
    (h : (f_X3_addLine_b112 a0 a1 a2 a3 a4 a5).1 σ = some (r, σ9)) (hI : xI E σ0 σ s H locs cells slots) (hl : lv_has ls 7 [(0, .ref a0), (1, .int a1), (2, .int a2), (3, .int a3), (4, .int a4), (5, .int a5)]) : W p l e R s m args below meth c H locs cells slots (xMQ E below args s σ0 σ9 (some (.int r))) (F0 m 112 ls []) := by
  have hx := hX.1.1
  have hb := hX.1.2.1
  delta f_X3_addLine_b112 at h
  refine lv_aload_n hx hb dX3_addLine_112 rfl (lv_at hl 0 rfl) ?_
  refine xr_gN h hX hI xl_X3_13_3.g dX3_addLine_113 (fun v22 h => ?_)
  refine lv_iload_n hx hb dX3_addLine_116 rfl (lv_at hl 1 rfl) ?_
  refine lv_iload hx hb dX3_addLine_117 (lv_at hl 5 rfl) ?_
  refine lv_iconst (v := (0 : Int32)) hx hb dX3_addLine_119 (by decide) ?_
  refine xr_callS (iv := (fun b => some (.int b))) (As := [.int a1, .int a5, .int (0 : Int32)]) (rest := [.ref v22]) h hX hI (fun _ _ h => w_X3_ofLine h) 3 (lw_S q2103 q2104 q87 q2105) xd_X3_ofLine ⟨rfl, rfl⟩ rfl hl.1 (Nat.le_of_ble_eq_true rfl) dX3_addLine_120 (fun v23 H locs σ cells slots h hI => ?_)
  refine W.eq (g2 := F0 m 123 ls [.int v23, .ref v22]) rfl ?_
  refine lv_iload_n hx hb dX3_addLine_123 rfl (lv_at hl 2 rfl) ?_
  refine lv_i2l hx hb dX3_addLine_124 rfl ?_
  refine xr_stL h hX hI dX3_addLine_125 (fun H locs σ h hI => ?_)
  refine lv_aload_n hx hb dX3_addLine_126 rfl (lv_at hl 0 rfl) ?_
  refine xr_gN h hX hI xl_X3_13_3.g dX3_addLine_127 (fun v24 h => ?_)
  refine lv_iload_n hx hb dX3_addLine_130 rfl (lv_at hl 1 rfl) ?_
  refine lv_iload hx hb dX3_addLine_131 (lv_at hl 5 rfl) ?_
  refine lv_iconst (v := (1 : Int32)) hx hb dX3_addLine_133 (by decide) ?_
  refine xr_callS (iv := (fun b => some (.int b))) (As := [.int a1, .int a5, .int (1 : Int32)]) (rest := [.ref v24]) h hX hI (fun _ _ h => w_X3_ofLine h) 3 (lw_S q2103 q2104 q87 q2105) xd_X3_ofLine ⟨rfl, rfl⟩ rfl hl.1 (Nat.le_of_ble_eq_true rfl) dX3_addLine_134 (fun v25 H locs σ cells slots h hI => ?_)
  refine W.eq (g2 := F0 m 137 ls [.int v25, .ref v24]) rfl ?_
  refine lv_iload_n hx hb dX3_addLine_137 rfl (lv_at hl 3 rfl) ?_
  refine lv_i2l hx hb dX3_addLine_138 rfl ?_
  refine xr_stL h hX hI dX3_addLine_139 (fun H locs σ h hI => ?_)
  refine lv_aload_n hx hb dX3_addLine_140 rfl (lv_at hl 0 rfl) ?_
  refine xr_gN h hX hI xl_X3_13_3.g dX3_addLine_141 (fun v26 h => ?_)
  refine lv_iload_n hx hb dX3_addLine_144 rfl (lv_at hl 1 rfl) ?_
  refine lv_iload hx hb dX3_addLine_145 (lv_at hl 5 rfl) ?_
  refine lv_iconst (v := (2 : Int32)) hx hb dX3_addLine_147 (by decide) ?_
  refine xr_callS (iv := (fun b => some (.int b))) (As := [.int a1, .int a5, .int (2 : Int32)]) (rest := [.ref v26]) h hX hI (fun _ _ h => w_X3_ofLine h) 3 (lw_S q2103 q2104 q87 q2105) xd_X3_ofLine ⟨rfl, rfl⟩ rfl hl.1 (Nat.le_of_ble_eq_true rfl) dX3_addLine_148 (fun v27 H locs σ cells slots h hI => ?_)
  refine W.eq (g2 := F0 m 151 ls [.int v27, .ref v26]) rfl ?_
  refine lv_iload hx hb dX3_addLine_151 (lv_at hl 4 rfl) ?_
  refine lv_i2l hx hb dX3_addLine_153 rfl ?_
  refine xr_stL h hX hI dX3_addLine_154 (fun H locs σ h hI => ?_)
  refine lv_aload_n hx hb dX3_addLine_155 rfl (lv_at hl 0 rfl) ?_
  refine xr_gN h hX hI xl_X3_13_3.g dX3_addLine_156 (fun v28 h => ?_)
  refine lv_iload_n hx hb dX3_addLine_159 rfl (lv_at hl 1 rfl) ?_
  refine lv_iconst (v := (1 : Int32)) hx hb dX3_addLine_160 (by decide) ?_
  refine xr_callS (iv := (fun b => some (.int b))) (As := [.int a1, .int (1 : Int32)]) (rest := [.ref v28]) h hX hI (fun _ _ h => w_X3_ofOrder h) 2 (lw_S q2075 q2076 q87 q2077) xd_X3_ofOrder ⟨rfl, rfl⟩ rfl hl.1 (Nat.le_of_ble_eq_true rfl) dX3_addLine_161 (fun v29 H locs σ cells slots h hI => ?_)
  refine W.eq (g2 := F0 m 164 ls [.int v29, .ref v28]) rfl ?_
  refine lv_dup2_11 hx hb dX3_addLine_164 rfl rfl ?_
  refine xr_ldL h hX hI dX3_addLine_165 (fun v30 h => ?_)
  refine lv_lconst (v := (1 : Int64)) hx hb dX3_addLine_166 (by decide) ?_
  refine lv_ladd hx hb dX3_addLine_167 ?_
  refine xr_stL h hX hI dX3_addLine_168 (fun H locs σ h hI => ?_)
  refine lv_aload_n hx hb dX3_addLine_169 rfl (lv_at hl 0 rfl) ?_
  refine lv_iload hx hb dX3_addLine_170 (lv_at hl 5 rfl) ?_
  refine xr_callV (iv := (fun b => some (.int b))) (As := [.int a5]) (rest := []) h hX hI (fun _ _ h => w_X3_acted h) (fun _ _ h => o_X3_acted h) rfl 1 (lw_V q2031 q2033 qs32 q87 q2034) ⟨rfl, xd_X3_acted⟩ ⟨rfl, rfl⟩ rfl hl.1 (Nat.le_of_ble_eq_true rfl) dX3_addLine_172 (fun v31 H locs σ cells slots h hI => ?_)
  refine W.eq (g2 := F0 m 175 ls [.int v31]) rfl ?_
  exact xr_ireturn h hX hI dX3_addLine_175
theorem w_X3_addLine_b85 {rec85 : Nat → Int32 → Int32 → Int32 → Int32 → Int32 → Int32 → xM Int32} {a0 : Nat} {a1 : Int32} {a2 : Int32} {a3 : Int32} {a4 : Int32} {a5 : Int32} {a6 : Int32} {r : Int32} (hX : xX E R p m c cX3_addLine 7 s args RX3 "addLine" meth (some .int) 2 43 σ0 σ9) (hrec85 : ∀ (a0 : Nat) (a1 : Int32) (a2 : Int32) (a3 : Int32) (a4 : Int32) (a5 : Int32) (a6 : Int32) (σ : xS) (H : Heap) (locs : List Loc) (cells slots : Nat) (ls : Array Slot), (rec85 a0 a1 a2 a3 a4 a5 a6).1 σ = some (r, σ9) → xI E σ0 σ s H locs cells slots → lv_has ls 7 [(0, .ref a0), (1, .int a1), (2, .int a2), (3, .int a3), (4, .int a4), (5, .int a5), (6, .int a6)] → W p l e R s m args below meth c H locs cells slots (xMQ E below args s σ0 σ9 (some (.int r))) (F0 m 85 ls []))
    (h : (f_X3_addLine_b85 rec85 a0 a1 a2 a3 a4 a5 a6).1 σ = some (r, σ9)) (hI : xI E σ0 σ s H locs cells slots) (hl : lv_has ls 7 [(0, .ref a0), (1, .int a1), (2, .int a2), (3, .int a3), (4, .int a4), (5, .int a5), (6, .int a6)]) : W p l e R s m args below meth c H locs cells slots (xMQ E below args s σ0 σ9 (some (.int r))) (F0 m 85 ls []) := by
  have hx := hX.1.1
  have hb := hX.1.2.1
  delta f_X3_addLine_b85 at h
  refine lv_iload hx hb dX3_addLine_85 (lv_at hl 6 rfl) ?_
  refine lv_bipush (v := (8 : Int32)) hx hb dX3_addLine_87 (by decide) ?_
  refine lv_icmp_ge (tgt := 112) hx hb dX3_addLine_89 (by decide) (fun hc => ?_) (fun hc => ?_)
  · have h := xif_t h hc
    exact w_X3_addLine_b112 hX h hI (lv_sub hl [0, 1, 2, 3, 4, 5] rfl)
  · have h := xif_f h hc
    refine lv_aload_n hx hb dX3_addLine_92 rfl (lv_at hl 0 rfl) ?_
    refine xr_gN h hX hI xl_X3_13_3.g dX3_addLine_93 (fun v20 h => ?_)
    refine lv_iload_n hx hb dX3_addLine_96 rfl (lv_at hl 1 rfl) ?_
    refine lv_iload hx hb dX3_addLine_97 (lv_at hl 5 rfl) ?_
    refine lv_iload hx hb dX3_addLine_99 (lv_at hl 6 rfl) ?_
    refine xr_callS (iv := (fun b => some (.int b))) (As := [.int a1, .int a5, .int a6]) (rest := [.ref v20]) h hX hI (fun _ _ h => w_X3_ofLine h) 3 (lw_S q2103 q2104 q87 q2105) xd_X3_ofLine ⟨rfl, rfl⟩ rfl hl.1 (Nat.le_of_ble_eq_true rfl) dX3_addLine_101 (fun v21 H locs σ cells slots h hI => ?_)
    refine W.eq (g2 := F0 m 104 ls [.int v21, .ref v20]) rfl ?_
    refine lv_lconst (v := (0 : Int64)) hx hb dX3_addLine_104 (by decide) ?_
    refine xr_stL h hX hI dX3_addLine_105 (fun H locs σ h hI => ?_)
    refine lv_iinc (k := 6) (lv' := [(6, .int (a6 + (1 : Int32))), (0, .ref a0), (1, .int a1), (2, .int a2), (3, .int a3), (4, .int a4), (5, .int a5)]) hx hb dX3_addLine_106 hl rfl (xiinc (by decide)) (Nat.le_of_ble_eq_true rfl) rfl (fun ls hl => ?_)
    refine lv_goto (tgt := 85) hx hb dX3_addLine_109 (by decide) ?_
    exact hrec85 a0 a1 a2 a3 a4 a5 (a6 + (1 : Int32)) _ _ _ _ _ _ h hI (lv_sub hl [1, 2, 3, 4, 5, 6, 0] rfl)
theorem w_X3_addLine_L85 {r : Int32} (hX : xX E R p m c cX3_addLine 7 s args RX3 "addLine" meth (some .int) 2 43 σ0 σ9) : ∀ (n : Nat) (a0 : Nat) (a1 : Int32) (a2 : Int32) (a3 : Int32) (a4 : Int32) (a5 : Int32) (a6 : Int32) (σ : xS) (H : Heap) (locs : List Loc) (cells slots : Nat) (ls : Array Slot), (f_X3_addLine_L85 n a0 a1 a2 a3 a4 a5 a6).1 σ = some (r, σ9) → xI E σ0 σ s H locs cells slots → lv_has ls 7 [(0, .ref a0), (1, .int a1), (2, .int a2), (3, .int a3), (4, .int a4), (5, .int a5), (6, .int a6)] → W p l e R s m args below meth c H locs cells slots (xMQ E below args s σ0 σ9 (some (.int r))) (F0 m 85 ls []) := by
  intro n
  induction n with
  | zero =>
    intro a0 a1 a2 a3 a4 a5 a6 σ H locs cells slots ls h
    exact xr_no h
  | succ n ih =>
    intro a0 a1 a2 a3 a4 a5 a6 σ H locs cells slots ls h hI hl
    exact w_X3_addLine_b85 hX ih h hI hl
theorem o_X3_addLine {a0 : Nat} {a1 : Int32} {a2 : Int32} {a3 : Int32} {a4 : Int32} {r : Int32} {σ σ9 : xS} (h : (f_X3_addLine a0 a1 a2 a3 a4).1 σ = some (r, σ9)) : ∃ fs, σ.1 a0 = some (.inl (3, fs)) := xck_of h
theorem w_X3_addLine {E : xE} {l : Launch} {a0 : Nat} {a1 : Int32} {a2 : Int32} {a3 : Int32} {a4 : Int32} {r : Int32} {σ σ9 : xS} (h : (f_X3_addLine a0 a1 a2 a3 a4).1 σ = some (r, σ9)) : xMet E l yX3_addLine (ws_ yX3_addLine cX3_addLine 7 (some .int)) 2 43 [.ref a0, .int a1, .int a2, .int a3, .int a4] σ σ9 (some (.int r)) := by
  refine xstart (by decide +kernel) ((f_X3_addLine a0 a1 a2 a3 a4).2 _ _ _ h) (Nat.le_of_ble_eq_true rfl) ?_
  intro p e s m args below meth c H locs cells slots ls R hX hI hl
  have hx := hX.1.1
  have hb := hX.1.2.1
  have hl : lv_has ls 7 [(0, .ref a0), (1, .int a1), (2, .int a2), (3, .int a3), (4, .int a4)] := hl
  generalize hσ0 : σ = σ0 at hX hI ⊢
  have h : (f_X3_addLine a0 a1 a2 a3 a4).1 σ0 = some (r, σ9) := by rw [← hσ0]; exact h
  clear hσ0
  delta f_X3_addLine at h
  have h := (xck_bd h).2
  refine lv_aload_n hx hb dX3_addLine_0 rfl (lv_at hl 0 rfl) ?_
  refine xr_callV (iv := (fun _ => none)) (As := []) (rest := []) h hX hI (fun _ _ h => w_X3_aside h) (fun _ _ h => o_X3_aside h) rfl 0 (lw_V q2018 q2020 qs30 q87 q2021) ⟨rfl, xd_X3_aside⟩ ⟨rfl, rfl⟩ rfl hl.1 (Nat.le_of_ble_eq_true rfl) dX3_addLine_1 (fun _ H locs σ cells slots h hI => ?_)
  refine lv_aload_n hx hb dX3_addLine_4 rfl (lv_at hl 0 rfl) ?_
  refine lv_iload_n hx hb dX3_addLine_5 rfl (lv_at hl 1 rfl) ?_
  refine xr_callV (iv := (fun b => some (.int b))) (As := [.int a1]) (rest := []) h hX hI (fun _ _ h => w_X3_isOrder h) (fun _ _ h => o_X3_isOrder h) rfl 1 (lw_V q2095 q2097 qs37 q87 q2098) ⟨rfl, xd_X3_isOrder⟩ ⟨rfl, rfl⟩ rfl hl.1 (Nat.le_of_ble_eq_true rfl) dX3_addLine_6 (fun v32 H locs σ cells slots h hI => ?_)
  refine W.eq (g2 := F0 m 9 ls [.int v32]) rfl ?_
  refine lv_if_ne (tgt := 14) hx hb dX3_addLine_9 (by decide) (fun hc => ?_) (fun hc => ?_)
  · have h := xif_f h hc
    refine lv_iload_n hx hb dX3_addLine_14 rfl (lv_at hl 2 rfl) ?_
    refine lv_iconst (v := (0 : Int32)) hx hb dX3_addLine_15 (by decide) ?_
    refine lv_bipush (v := (99 : Int32)) hx hb dX3_addLine_16 (by decide) ?_
    refine xr_callS (iv := (fun b => some (.int b))) (As := [.int a2, .int (0 : Int32), .int (99 : Int32)]) (rest := []) h hX hI (fun _ _ h => w_X3_in h) 3 (lw_S q2043 q2044 q87 q2045) xd_X3_in ⟨rfl, rfl⟩ rfl hl.1 (Nat.le_of_ble_eq_true rfl) dX3_addLine_18 (fun v33 H locs σ cells slots h hI => ?_)
    refine W.eq (g2 := F0 m 21 ls [.int v33]) rfl ?_
    refine lv_if_eq (tgt := 47) hx hb dX3_addLine_21 (by decide) (fun hc => ?_) (fun hc => ?_)
    · have h := xif_t h hc
      refine lv_bipush (v := (-2 : Int32)) hx hb dX3_addLine_47 (by decide) ?_
      exact xr_ireturn h hX hI dX3_addLine_49
    · have h := xif_f h hc
      refine lv_iload_n hx hb dX3_addLine_24 rfl (lv_at hl 3 rfl) ?_
      refine lv_iconst (v := (1 : Int32)) hx hb dX3_addLine_25 (by decide) ?_
      refine lv_sipush (v := (999 : Int32)) hx hb dX3_addLine_26 (by decide) ?_
      refine xr_callS (iv := (fun b => some (.int b))) (As := [.int a3, .int (1 : Int32), .int (999 : Int32)]) (rest := []) h hX hI (fun _ _ h => w_X3_in h) 3 (lw_S q2043 q2044 q87 q2045) xd_X3_in ⟨rfl, rfl⟩ rfl hl.1 (Nat.le_of_ble_eq_true rfl) dX3_addLine_29 (fun v34 H locs σ cells slots h hI => ?_)
      refine W.eq (g2 := F0 m 32 ls [.int v34]) rfl ?_
      refine lv_if_eq (tgt := 47) hx hb dX3_addLine_32 (by decide) (fun hc => ?_) (fun hc => ?_)
      · have h := xif_t h hc
        refine lv_bipush (v := (-2 : Int32)) hx hb dX3_addLine_47 (by decide) ?_
        exact xr_ireturn h hX hI dX3_addLine_49
      · have h := xif_f h hc
        refine lv_iload hx hb dX3_addLine_35 (lv_at hl 4 rfl) ?_
        refine lv_iconst (v := (1 : Int32)) hx hb dX3_addLine_37 (by decide) ?_
        refine lv_sipush (v := (9999 : Int32)) hx hb dX3_addLine_38 (by decide) ?_
        refine xr_callS (iv := (fun b => some (.int b))) (As := [.int a4, .int (1 : Int32), .int (9999 : Int32)]) (rest := []) h hX hI (fun _ _ h => w_X3_in h) 3 (lw_S q2043 q2044 q87 q2045) xd_X3_in ⟨rfl, rfl⟩ rfl hl.1 (Nat.le_of_ble_eq_true rfl) dX3_addLine_41 (fun v35 H locs σ cells slots h hI => ?_)
        refine W.eq (g2 := F0 m 44 ls [.int v35]) rfl ?_
        refine lv_if_ne (tgt := 50) hx hb dX3_addLine_44 (by decide) (fun hc => ?_) (fun hc => ?_)
        · have h := xif_f h hc
          refine lv_aload_n hx hb dX3_addLine_50 rfl (lv_at hl 0 rfl) ?_
          refine lv_iload_n hx hb dX3_addLine_51 rfl (lv_at hl 1 rfl) ?_
          refine xr_callV (iv := (fun b => some (.int b))) (As := [.int a1]) (rest := []) h hX hI (fun _ _ h => w_X3_isOpen h) (fun _ _ h => o_X3_isOpen h) rfl 1 (lw_V q2099 q2101 qs38 q87 q2102) ⟨rfl, xd_X3_isOpen⟩ ⟨rfl, rfl⟩ rfl hl.1 (Nat.le_of_ble_eq_true rfl) dX3_addLine_52 (fun v36 H locs σ cells slots h hI => ?_)
          refine W.eq (g2 := F0 m 55 ls [.int v36]) rfl ?_
          refine lv_if_ne (tgt := 61) hx hb dX3_addLine_55 (by decide) (fun hc => ?_) (fun hc => ?_)
          · have h := xif_f h hc
            refine lv_aload_n hx hb dX3_addLine_61 rfl (lv_at hl 0 rfl) ?_
            refine lv_iload_n hx hb dX3_addLine_62 rfl (lv_at hl 1 rfl) ?_
            refine lv_iconst (v := (1 : Int32)) hx hb dX3_addLine_63 (by decide) ?_
            refine xr_callS (iv := (fun b => some (.int b))) (As := [.int a1, .int (1 : Int32)]) (rest := [.ref a0]) h hX hI (fun _ _ h => w_X3_ofOrder h) 2 (lw_S q2075 q2076 q87 q2077) xd_X3_ofOrder ⟨rfl, rfl⟩ rfl hl.1 (Nat.le_of_ble_eq_true rfl) dX3_addLine_64 (fun v37 H locs σ cells slots h hI => ?_)
            refine W.eq (g2 := F0 m 67 ls [.int v37, .ref a0]) rfl ?_
            refine xr_callV (iv := (fun b => some (.int b))) (As := [.int v37]) (rest := []) h hX hI (fun _ _ h => w_X3_at h) (fun _ _ h => o_X3_at h) rfl 1 (lw_V q2022 q2024 qs31 q87 q2025) ⟨rfl, xd_X3_at⟩ ⟨rfl, rfl⟩ rfl hl.1 (Nat.le_of_ble_eq_true rfl) dX3_addLine_67 (fun v38 H locs σ cells slots h hI => ?_)
            refine W.eq (g2 := F0 m 70 ls [.int v38]) rfl ?_
            refine lv_istore (lv' := [(5, .int v38), (0, .ref a0), (1, .int a1), (2, .int a2), (3, .int a3), (4, .int a4)]) hx hb dX3_addLine_70 hl (Nat.le_of_ble_eq_true rfl) rfl (fun ls hl => ?_)
            refine lv_iload hx hb dX3_addLine_72 (lv_at hl 0 rfl) ?_
            refine lv_bipush (v := (6 : Int32)) hx hb dX3_addLine_74 (by decide) ?_
            refine lv_icmp_ne (tgt := 82) hx hb dX3_addLine_76 (by decide) (fun hc => ?_) (fun hc => ?_)
            · have h := xif_f h hc
              refine lv_iconst (v := (0 : Int32)) hx hb dX3_addLine_82 (by decide) ?_
              refine lv_istore (lv' := [(6, .int (0 : Int32)), (5, .int v38), (0, .ref a0), (1, .int a1), (2, .int a2), (3, .int a3), (4, .int a4)]) hx hb dX3_addLine_83 hl (Nat.le_of_ble_eq_true rfl) rfl (fun ls hl => ?_)
              exact w_X3_addLine_L85 hX xFU a0 a1 a2 a3 a4 v38 (0 : Int32) _ _ _ _ _ _ h hI (lv_sub hl [2, 3, 4, 5, 6, 1, 0] rfl)
            · have h := xif_t h hc
              refine lv_bipush (v := (-3 : Int32)) hx hb dX3_addLine_79 (by decide) ?_
              exact xr_ireturn h hX hI dX3_addLine_81
          · have h := xif_t h hc
            refine lv_bipush (v := (-4 : Int32)) hx hb dX3_addLine_58 (by decide) ?_
            exact xr_ireturn h hX hI dX3_addLine_60
        · have h := xif_t h hc
          refine lv_bipush (v := (-2 : Int32)) hx hb dX3_addLine_47 (by decide) ?_
          exact xr_ireturn h hX hI dX3_addLine_49
  · have h := xif_t h hc
    refine lv_iconst (v := (-1 : Int32)) hx hb dX3_addLine_12 (by decide) ?_
    exact xr_ireturn h hX hI dX3_addLine_13
/-! PayMatch$State.hasLine(II)Z  -/
theorem o_X1_hasLine {a0 : Nat} {a1 : Int32} {a2 : Int32} {r : Int32} {σ σ9 : xS} (h : (f_X1_hasLine a0 a1 a2).1 σ = some (r, σ9)) : ∃ fs, σ.1 a0 = some (.inl (1, fs)) := xck_of h
theorem w_X1_hasLine {E : xE} {l : Launch} {a0 : Nat} {a1 : Int32} {a2 : Int32} {r : Int32} {σ σ9 : xS} (h : (f_X1_hasLine a0 a1 a2).1 σ = some (r, σ9)) : xMet E l yX1_hasLine (ws_ yX1_hasLine cX1_hasLine 3 (some .boolean)) 4 85 [.ref a0, .int a1, .int a2] σ σ9 (some (.int r)) := by
  refine xstart (by decide +kernel) ((f_X1_hasLine a0 a1 a2).2 _ _ _ h) (Nat.le_of_ble_eq_true rfl) ?_
  intro p e s m args below meth c H locs cells slots ls R hX hI hl
  have hx := hX.1.1
  have hb := hX.1.2.1
  have hl : lv_has ls 3 [(0, .ref a0), (1, .int a1), (2, .int a2)] := hl
  generalize hσ0 : σ = σ0 at hX hI ⊢
  have h : (f_X1_hasLine a0 a1 a2).1 σ0 = some (r, σ9) := by rw [← hσ0]; exact h
  clear hσ0
  delta f_X1_hasLine at h
  have h := (xck_bd h).2
  refine lv_aload_n hx hb dX1_hasLine_0 rfl (lv_at hl 0 rfl) ?_
  refine xr_gN h hX hI xl_X1_18_1.g dX1_hasLine_1 (fun v7 h => ?_)
  refine lv_iload_n hx hb dX1_hasLine_4 rfl (lv_at hl 1 rfl) ?_
  refine xr_callV (iv := (fun b => some (.int b))) (As := [.int a1]) (rest := []) h hX hI (fun _ _ h => w_X2_has h) (fun _ _ h => o_X2_has h) rfl 1 (lw_V q1322 q1226 q1227 q76 q1228) ⟨rfl, xd_X2_has⟩ ⟨rfl, rfl⟩ rfl hl.1 (Nat.le_of_ble_eq_true rfl) dX1_hasLine_5 (fun v8 H locs σ cells slots h hI => ?_)
  refine W.eq (g2 := F0 m 8 ls [.int v8]) rfl ?_
  refine lv_if_eq (tgt := 36) hx hb dX1_hasLine_8 (by decide) (fun hc => ?_) (fun hc => ?_)
  · have h := xif_t h hc
    refine lv_iconst (v := (0 : Int32)) hx hb dX1_hasLine_36 (by decide) ?_
    exact xr_zreturn h hX hI dX1_hasLine_37
  · have h := xif_f h hc
    refine lv_aload_n hx hb dX1_hasLine_11 rfl (lv_at hl 0 rfl) ?_
    refine xr_gN h hX hI xl_X1_18_1.g dX1_hasLine_12 (fun v9 h => ?_)
    refine lv_iload_n hx hb dX1_hasLine_15 rfl (lv_at hl 1 rfl) ?_
    refine xr_callV (iv := (fun b => some (.ref b))) (As := [.int a1]) (rest := []) h hX hI (fun _ _ h => w_X2_get h) (fun _ _ h => o_X2_get h) rfl 1 (lw_V q1281 q1250 q1251 q76 q1252) ⟨rfl, xd_X2_get⟩ ⟨rfl, rfl⟩ rfl hl.1 (Nat.le_of_ble_eq_true rfl) dX1_hasLine_16 (fun v10 H locs σ cells slots h hI => ?_)
    refine W.eq (g2 := F0 m 19 ls [.ref v10]) rfl ?_
    refine xr_cks h hX hI xc_X1_92 dX1_hasLine_19 (fun h => ?_)
    refine xr_gN h hX hI xl_X1_103_6.g dX1_hasLine_22 (fun v11 h => ?_)
    refine lv_iload_n hx hb dX1_hasLine_25 rfl (lv_at hl 2 rfl) ?_
    refine xr_callV (iv := (fun b => some (.int b))) (As := [.int a2]) (rest := []) h hX hI (fun _ _ h => w_X2_has h) (fun _ _ h => o_X2_has h) rfl 1 (lw_V q1322 q1226 q1227 q76 q1228) ⟨rfl, xd_X2_has⟩ ⟨rfl, rfl⟩ rfl hl.1 (Nat.le_of_ble_eq_true rfl) dX1_hasLine_26 (fun v12 H locs σ cells slots h hI => ?_)
    refine W.eq (g2 := F0 m 29 ls [.int v12]) rfl ?_
    refine lv_if_eq (tgt := 36) hx hb dX1_hasLine_29 (by decide) (fun hc => ?_) (fun hc => ?_)
    · have h := xif_t h hc
      refine lv_iconst (v := (0 : Int32)) hx hb dX1_hasLine_36 (by decide) ?_
      exact xr_zreturn h hX hI dX1_hasLine_37
    · have h := xif_f h hc
      refine lv_iconst (v := (1 : Int32)) hx hb dX1_hasLine_32 (by decide) ?_
      refine lv_goto (tgt := 37) hx hb dX1_hasLine_33 (by decide) ?_
      exact xr_zreturn h hX hI dX1_hasLine_37
/-! PayMatch$State.line(II)LPayMatch$Line;  -/
theorem o_X1_line {a0 : Nat} {a1 : Int32} {a2 : Int32} {r : Nat} {σ σ9 : xS} (h : (f_X1_line a0 a1 a2).1 σ = some (r, σ9)) : ∃ fs, σ.1 a0 = some (.inl (1, fs)) := xck_of h
theorem w_X1_line {E : xE} {l : Launch} {a0 : Nat} {a1 : Int32} {a2 : Int32} {r : Nat} {σ σ9 : xS} (h : (f_X1_line a0 a1 a2).1 σ = some (r, σ9)) : xMet E l yX1_line (ws_ yX1_line cX1_line 3 (some (.object "PayMatch$Line"))) 4 85 [.ref a0, .int a1, .int a2] σ σ9 (some (.ref r)) := by
  refine xstart (by decide +kernel) ((f_X1_line a0 a1 a2).2 _ _ _ h) (Nat.le_of_ble_eq_true rfl) ?_
  intro p e s m args below meth c H locs cells slots ls R hX hI hl
  have hx := hX.1.1
  have hb := hX.1.2.1
  have hl : lv_has ls 3 [(0, .ref a0), (1, .int a1), (2, .int a2)] := hl
  generalize hσ0 : σ = σ0 at hX hI ⊢
  have h : (f_X1_line a0 a1 a2).1 σ0 = some (r, σ9) := by rw [← hσ0]; exact h
  clear hσ0
  delta f_X1_line at h
  have h := (xck_bd h).2
  refine lv_aload_n hx hb dX1_line_0 rfl (lv_at hl 0 rfl) ?_
  refine xr_gN h hX hI xl_X1_18_1.g dX1_line_1 (fun v5 h => ?_)
  refine lv_iload_n hx hb dX1_line_4 rfl (lv_at hl 1 rfl) ?_
  refine xr_callV (iv := (fun b => some (.ref b))) (As := [.int a1]) (rest := []) h hX hI (fun _ _ h => w_X2_get h) (fun _ _ h => o_X2_get h) rfl 1 (lw_V q1281 q1250 q1251 q76 q1252) ⟨rfl, xd_X2_get⟩ ⟨rfl, rfl⟩ rfl hl.1 (Nat.le_of_ble_eq_true rfl) dX1_line_5 (fun v6 H locs σ cells slots h hI => ?_)
  refine W.eq (g2 := F0 m 8 ls [.ref v6]) rfl ?_
  refine xr_cks h hX hI xc_X1_92 dX1_line_8 (fun h => ?_)
  refine xr_gN h hX hI xl_X1_103_6.g dX1_line_11 (fun v7 h => ?_)
  refine lv_iload_n hx hb dX1_line_14 rfl (lv_at hl 2 rfl) ?_
  refine xr_callV (iv := (fun b => some (.ref b))) (As := [.int a2]) (rest := []) h hX hI (fun _ _ h => w_X2_get h) (fun _ _ h => o_X2_get h) rfl 1 (lw_V q1281 q1250 q1251 q76 q1252) ⟨rfl, xd_X2_get⟩ ⟨rfl, rfl⟩ rfl hl.1 (Nat.le_of_ble_eq_true rfl) dX1_line_15 (fun v8 H locs σ cells slots h hI => ?_)
  refine W.eq (g2 := F0 m 18 ls [.ref v8]) rfl ?_
  refine xr_cks h hX hI xc_X1_106 dX1_line_18 (fun h => ?_)
  exact xr_areturn h hX hI (Or.inl ⟨_, rfl⟩) dX1_line_21
/-! PayMatch.changeLine(IIII)I  -/
theorem w_X0_changeLine_b94 {a0 : Nat} {a1 : Int32} {a2 : Int32} {a3 : Int32} {a4 : Int32} {r : Int32} (hX : xX E R p m c cX0_changeLine 7 s args RX0 "changeLine" meth (some .int) 14 438 σ0 σ9)
    (h : (f_X0_changeLine_b94 a0 a1 a2 a3 a4).1 σ = some (r, σ9)) (hI : xI E σ0 σ s H locs cells slots) (hl : lv_has ls 7 [(0, .ref a0), (1, .int a1), (2, .int a2), (3, .int a3), (4, .int a4)]) : W p l e R s m args below meth c H locs cells slots (xMQ E below args s σ0 σ9 (some (.int r))) (F0 m 94 ls []) := by
  have hx := hX.1.1
  have hb := hX.1.2.1
  delta f_X0_changeLine_b94 at h
  refine lv_aload_n hx hb dX0_changeLine_94 rfl (lv_at hl 0 rfl) ?_
  refine xr_gN h hX hI xl_X0_22_0.g dX0_changeLine_95 (fun v23 h => ?_)
  refine xr_callV (iv := (fun b => some (.ref b))) (As := []) (rest := []) h hX hI (fun _ _ h => w_X1_copy h) (fun _ _ h => o_X1_copy h) rfl 0 (lw_V q323 q324 q325 q75 q326) ⟨rfl, xd_X1_copy⟩ ⟨rfl, rfl⟩ rfl hl.1 (Nat.le_of_ble_eq_true rfl) dX0_changeLine_98 (fun v24 H locs σ cells slots h hI => ?_)
  refine W.eq (g2 := F0 m 101 ls [.ref v24]) rfl ?_
  refine lv_astore (lv' := [(6, .ref v24), (0, .ref a0), (1, .int a1), (2, .int a2), (3, .int a3), (4, .int a4)]) hx hb dX0_changeLine_101 hl (Nat.le_of_ble_eq_true rfl) rfl (fun ls hl => ?_)
  refine lv_aload hx hb dX0_changeLine_103 (lv_at hl 0 rfl) ?_
  refine lv_iload_n hx hb dX0_changeLine_105 rfl (lv_at hl 2 rfl) ?_
  refine lv_iload_n hx hb dX0_changeLine_106 rfl (lv_at hl 3 rfl) ?_
  refine xr_callV (iv := (fun b => some (.ref b))) (As := [.int a1, .int a2]) (rest := []) h hX hI (fun _ _ h => w_X1_line h) (fun _ _ h => o_X1_line h) rfl 2 (lw_V q1323 q1324 q1325 q75 q1326) ⟨rfl, xd_X1_line⟩ ⟨rfl, rfl⟩ rfl hl.1 (Nat.le_of_ble_eq_true rfl) dX0_changeLine_107 (fun v25 H locs σ cells slots h hI => ?_)
  refine W.eq (g2 := F0 m 110 ls [.ref v25]) rfl ?_
  refine lv_iload_n hx hb dX0_changeLine_110 rfl (lv_at hl 4 rfl) ?_
  refine xr_pt h hX hI xl_X0_172_5 (Or.inl rfl) rfl rfl dX0_changeLine_111 (fun H locs σ h hI => ?_)
  refine lv_aload hx hb dX0_changeLine_114 (lv_at hl 0 rfl) ?_
  refine lv_iload_n hx hb dX0_changeLine_116 rfl (lv_at hl 2 rfl) ?_
  refine lv_iload_n hx hb dX0_changeLine_117 rfl (lv_at hl 3 rfl) ?_
  refine xr_callV (iv := (fun b => some (.ref b))) (As := [.int a1, .int a2]) (rest := []) h hX hI (fun _ _ h => w_X1_line h) (fun _ _ h => o_X1_line h) rfl 2 (lw_V q1323 q1324 q1325 q75 q1326) ⟨rfl, xd_X1_line⟩ ⟨rfl, rfl⟩ rfl hl.1 (Nat.le_of_ble_eq_true rfl) dX0_changeLine_118 (fun v26 H locs σ cells slots h hI => ?_)
  refine W.eq (g2 := F0 m 121 ls [.ref v26]) rfl ?_
  refine lv_iload hx hb dX0_changeLine_121 (lv_at hl 5 rfl) ?_
  refine xr_pt h hX hI xl_X0_175_5 (Or.inl rfl) rfl rfl dX0_changeLine_123 (fun H locs σ h hI => ?_)
  refine lv_aload hx hb dX0_changeLine_126 (lv_at hl 0 rfl) ?_
  refine xr_gN h hX hI xl_X0_130_1.g dX0_changeLine_128 (fun v27 h => ?_)
  refine lv_iload_n hx hb dX0_changeLine_131 rfl (lv_at hl 2 rfl) ?_
  refine xr_callV (iv := (fun b => some (.ref b))) (As := [.int a1]) (rest := []) h hX hI (fun _ _ h => w_X2_get h) (fun _ _ h => o_X2_get h) rfl 1 (lw_V q1249 q1250 q1251 q76 q1252) ⟨rfl, xd_X2_get⟩ ⟨rfl, rfl⟩ rfl hl.1 (Nat.le_of_ble_eq_true rfl) dX0_changeLine_132 (fun v28 H locs σ cells slots h hI => ?_)
  refine W.eq (g2 := F0 m 135 ls [.ref v28]) rfl ?_
  refine xr_cks h hX hI xc_X0_133 dX0_changeLine_135 (fun h => ?_)
  refine lv_dup hx hb dX0_changeLine_138 rfl ?_
  refine xr_gI h hX hI xl_X0_178_6.g dX0_changeLine_139 (fun v29 h => ?_)
  refine lv_iconst (v := (1 : Int32)) hx hb dX0_changeLine_142 (by decide) ?_
  refine lv_iadd hx hb dX0_changeLine_143 ?_
  refine xr_pt h hX hI xl_X0_178_6 (Or.inl rfl) rfl rfl dX0_changeLine_144 (fun H locs σ h hI => ?_)
  refine lv_aload_n hx hb dX0_changeLine_147 rfl (lv_at hl 1 rfl) ?_
  refine lv_aload hx hb dX0_changeLine_148 (lv_at hl 0 rfl) ?_
  refine lv_aload hx hb dX0_changeLine_150 (lv_at hl 0 rfl) ?_
  refine xr_gN h hX hI xl_X0_130_1.g dX0_changeLine_152 (fun v30 h => ?_)
  refine lv_iload_n hx hb dX0_changeLine_155 rfl (lv_at hl 2 rfl) ?_
  refine xr_callV (iv := (fun b => some (.ref b))) (As := [.int a1]) (rest := [.ref v24, .ref a0]) h hX hI (fun _ _ h => w_X2_get h) (fun _ _ h => o_X2_get h) rfl 1 (lw_V q1249 q1250 q1251 q76 q1252) ⟨rfl, xd_X2_get⟩ ⟨rfl, rfl⟩ rfl hl.1 (Nat.le_of_ble_eq_true rfl) dX0_changeLine_156 (fun v31 H locs σ cells slots h hI => ?_)
  refine W.eq (g2 := F0 m 159 ls [.ref v31, .ref v24, .ref a0]) rfl ?_
  refine xr_cks h hX hI xc_X0_133 dX0_changeLine_159 (fun h => ?_)
  refine xr_gI h hX hI xl_X0_178_6.g dX0_changeLine_162 (fun v32 h => ?_)
  refine xr_callV (iv := (fun b => some (.int b))) (As := [.ref v24, .int v32]) (rest := []) h hX hI (fun _ _ h => w_X0_become h) (fun _ _ h => o_X0_become h) rfl 2 (lw_V q1182 q1184 qs9 q74 q1185) ⟨rfl, xd_X0_become⟩ ⟨rfl, rfl⟩ rfl hl.1 (Nat.le_of_ble_eq_true rfl) dX0_changeLine_165 (fun v33 H locs σ cells slots h hI => ?_)
  refine W.eq (g2 := F0 m 168 ls [.int v33]) rfl ?_
  exact xr_ireturn h hX hI dX0_changeLine_168
theorem o_X0_changeLine {a0 : Nat} {a1 : Int32} {a2 : Int32} {a3 : Int32} {a4 : Int32} {r : Int32} {σ σ9 : xS} (h : (f_X0_changeLine a0 a1 a2 a3 a4).1 σ = some (r, σ9)) : ∃ fs, σ.1 a0 = some (.inl (0, fs)) := xck_of h
theorem w_X0_changeLine {E : xE} {l : Launch} {a0 : Nat} {a1 : Int32} {a2 : Int32} {a3 : Int32} {a4 : Int32} {r : Int32} {σ σ9 : xS} (h : (f_X0_changeLine a0 a1 a2 a3 a4).1 σ = some (r, σ9)) : xMet E l yX0_changeLine (ws_ yX0_changeLine cX0_changeLine 7 (some .int)) 14 438 [.ref a0, .int a1, .int a2, .int a3, .int a4] σ σ9 (some (.int r)) := by
  refine xstart (by decide +kernel) ((f_X0_changeLine a0 a1 a2 a3 a4).2 _ _ _ h) (Nat.le_of_ble_eq_true rfl) ?_
  intro p e s m args below meth c H locs cells slots ls R hX hI hl
  have hx := hX.1.1
  have hb := hX.1.2.1
  have hl : lv_has ls 7 [(0, .ref a0), (1, .int a1), (2, .int a2), (3, .int a3), (4, .int a4)] := hl
  generalize hσ0 : σ = σ0 at hX hI ⊢
  have h : (f_X0_changeLine a0 a1 a2 a3 a4).1 σ0 = some (r, σ9) := by rw [← hσ0]; exact h
  clear hσ0
  delta f_X0_changeLine at h
  have h := (xck_bd h).2
  refine lv_aload_n hx hb dX0_changeLine_0 rfl (lv_at hl 0 rfl) ?_
  refine xr_gN h hX hI xl_X0_22_0.g dX0_changeLine_1 (fun v34 h => ?_)
  refine lv_iload_n hx hb dX0_changeLine_4 rfl (lv_at hl 1 rfl) ?_
  refine lv_iload_n hx hb dX0_changeLine_5 rfl (lv_at hl 2 rfl) ?_
  refine xr_callV (iv := (fun b => some (.int b))) (As := [.int a1, .int a2]) (rest := []) h hX hI (fun _ _ h => w_X1_hasLine h) (fun _ _ h => o_X1_hasLine h) rfl 2 (lw_V q1318 q1319 q1320 q75 q1321) ⟨rfl, xd_X1_hasLine⟩ ⟨rfl, rfl⟩ rfl hl.1 (Nat.le_of_ble_eq_true rfl) dX0_changeLine_6 (fun v35 H locs σ cells slots h hI => ?_)
  refine W.eq (g2 := F0 m 9 ls [.int v35]) rfl ?_
  refine lv_if_ne (tgt := 14) hx hb dX0_changeLine_9 (by decide) (fun hc => ?_) (fun hc => ?_)
  · have h := xif_f h hc
    refine lv_iload_n hx hb dX0_changeLine_14 rfl (lv_at hl 3 rfl) ?_
    refine xr_callS (iv := (fun b => some (.int b))) (As := [.int a3]) (rest := []) h hX hI (fun _ _ h => w_X0_areUnits h) 1 (lw_S q1302 q1303 q74 q1304) xd_X0_areUnits ⟨rfl, rfl⟩ rfl hl.1 (Nat.le_of_ble_eq_true rfl) dX0_changeLine_15 (fun v36 H locs σ cells slots h hI => ?_)
    refine W.eq (g2 := F0 m 18 ls [.int v36]) rfl ?_
    refine lv_if_eq (tgt := 29) hx hb dX0_changeLine_18 (by decide) (fun hc => ?_) (fun hc => ?_)
    · have h := xif_t h hc
      refine lv_bipush (v := (-2 : Int32)) hx hb dX0_changeLine_29 (by decide) ?_
      exact xr_ireturn h hX hI dX0_changeLine_31
    · have h := xif_f h hc
      refine lv_iload hx hb dX0_changeLine_21 (lv_at hl 4 rfl) ?_
      refine xr_callS (iv := (fun b => some (.int b))) (As := [.int a4]) (rest := []) h hX hI (fun _ _ h => w_X0_isPrice h) 1 (lw_S q1305 q1306 q74 q1307) xd_X0_isPrice ⟨rfl, rfl⟩ rfl hl.1 (Nat.le_of_ble_eq_true rfl) dX0_changeLine_23 (fun v37 H locs σ cells slots h hI => ?_)
      refine W.eq (g2 := F0 m 26 ls [.int v37]) rfl ?_
      refine lv_if_ne (tgt := 32) hx hb dX0_changeLine_26 (by decide) (fun hc => ?_) (fun hc => ?_)
      · have h := xif_f h hc
        refine lv_aload_n hx hb dX0_changeLine_32 rfl (lv_at hl 0 rfl) ?_
        refine xr_gN h hX hI xl_X0_22_0.g dX0_changeLine_33 (fun v38 h => ?_)
        refine lv_iload_n hx hb dX0_changeLine_36 rfl (lv_at hl 1 rfl) ?_
        refine lv_iload_n hx hb dX0_changeLine_37 rfl (lv_at hl 2 rfl) ?_
        refine xr_callV (iv := (fun b => some (.ref b))) (As := [.int a1, .int a2]) (rest := []) h hX hI (fun _ _ h => w_X1_line h) (fun _ _ h => o_X1_line h) rfl 2 (lw_V q1323 q1324 q1325 q75 q1326) ⟨rfl, xd_X1_line⟩ ⟨rfl, rfl⟩ rfl hl.1 (Nat.le_of_ble_eq_true rfl) dX0_changeLine_38 (fun v39 H locs σ cells slots h hI => ?_)
        refine W.eq (g2 := F0 m 41 ls [.ref v39]) rfl ?_
        refine lv_astore (lv' := [(5, .ref v39), (0, .ref a0), (1, .int a1), (2, .int a2), (3, .int a3), (4, .int a4)]) hx hb dX0_changeLine_41 hl (Nat.le_of_ble_eq_true rfl) rfl (fun ls hl => ?_)
        refine lv_aload_n hx hb dX0_changeLine_43 rfl (lv_at hl 1 rfl) ?_
        refine lv_iload_n hx hb dX0_changeLine_44 rfl (lv_at hl 2 rfl) ?_
        refine xr_callV (iv := (fun b => some (.int b))) (As := [.int a1]) (rest := []) h hX hI (fun _ _ h => w_X0_isOpen h) (fun _ _ h => o_X0_isOpen h) rfl 1 (lw_V q1308 q1310 qs12 q74 q1311) ⟨rfl, xd_X0_isOpen⟩ ⟨rfl, rfl⟩ rfl hl.1 (Nat.le_of_ble_eq_true rfl) dX0_changeLine_45 (fun v40 H locs σ cells slots h hI => ?_)
        refine W.eq (g2 := F0 m 48 ls [.int v40]) rfl ?_
        refine lv_if_eq (tgt := 69) hx hb dX0_changeLine_48 (by decide) (fun hc => ?_) (fun hc => ?_)
        · have h := xif_t h hc
          refine lv_bipush (v := (-4 : Int32)) hx hb dX0_changeLine_69 (by decide) ?_
          exact xr_ireturn h hX hI dX0_changeLine_71
        · have h := xif_f h hc
          refine lv_iload_n hx hb dX0_changeLine_51 rfl (lv_at hl 4 rfl) ?_
          refine lv_aload hx hb dX0_changeLine_52 (lv_at hl 0 rfl) ?_
          refine xr_gI h hX hI xl_X0_166_5.g dX0_changeLine_54 (fun v41 h => ?_)
          refine lv_icmp_lt (tgt := 69) hx hb dX0_changeLine_57 (by decide) (fun hc => ?_) (fun hc => ?_)
          · have h := xif_t h hc
            refine lv_bipush (v := (-4 : Int32)) hx hb dX0_changeLine_69 (by decide) ?_
            exact xr_ireturn h hX hI dX0_changeLine_71
          · have h := xif_f h hc
            refine lv_iload_n hx hb dX0_changeLine_60 rfl (lv_at hl 4 rfl) ?_
            refine lv_aload hx hb dX0_changeLine_61 (lv_at hl 0 rfl) ?_
            refine xr_gI h hX hI xl_X0_169_5.g dX0_changeLine_63 (fun v42 h => ?_)
            refine lv_icmp_ge (tgt := 72) hx hb dX0_changeLine_66 (by decide) (fun hc => ?_) (fun hc => ?_)
            · have h := xif_t h hc
              refine lv_aload hx hb dX0_changeLine_72 (lv_at hl 0 rfl) ?_
              refine xr_gI h hX hI xl_X0_172_5.g dX0_changeLine_74 (fun v43 h => ?_)
              refine lv_iload_n hx hb dX0_changeLine_77 rfl (lv_at hl 4 rfl) ?_
              refine lv_icmp_ne (tgt := 94) hx hb dX0_changeLine_78 (by decide) (fun hc => ?_) (fun hc => ?_)
              · have h := xif_f h hc
                exact w_X0_changeLine_b94 hX h hI (lv_sub hl [1, 2, 3, 4, 5] rfl)
              · have h := xif_t h hc
                refine lv_aload hx hb dX0_changeLine_81 (lv_at hl 0 rfl) ?_
                refine xr_gI h hX hI xl_X0_175_5.g dX0_changeLine_83 (fun v44 h => ?_)
                refine lv_iload hx hb dX0_changeLine_86 (lv_at hl 5 rfl) ?_
                refine lv_icmp_ne (tgt := 94) hx hb dX0_changeLine_88 (by decide) (fun hc => ?_) (fun hc => ?_)
                · have h := xif_f h hc
                  exact w_X0_changeLine_b94 hX h hI (lv_sub hl [1, 2, 3, 4, 5] rfl)
                · have h := xif_t h hc
                  refine lv_bipush (v := (-5 : Int32)) hx hb dX0_changeLine_91 (by decide) ?_
                  exact xr_ireturn h hX hI dX0_changeLine_93
            · have h := xif_f h hc
              refine lv_bipush (v := (-4 : Int32)) hx hb dX0_changeLine_69 (by decide) ?_
              exact xr_ireturn h hX hI dX0_changeLine_71
      · have h := xif_t h hc
        refine lv_bipush (v := (-2 : Int32)) hx hb dX0_changeLine_29 (by decide) ?_
        exact xr_ireturn h hX hI dX0_changeLine_31
  · have h := xif_t h hc
    refine lv_iconst (v := (-1 : Int32)) hx hb dX0_changeLine_12 (by decide) ?_
    exact xr_ireturn h hX hI dX0_changeLine_13
/-! PayMatchModel.isLine(II)Z  -/
theorem o_X3_isLine {a0 : Nat} {a1 : Int32} {a2 : Int32} {r : Int32} {σ σ9 : xS} (h : (f_X3_isLine a0 a1 a2).1 σ = some (r, σ9)) : ∃ fs, σ.1 a0 = some (.inl (3, fs)) := xck_of h
theorem w_X3_isLine {E : xE} {l : Launch} {a0 : Nat} {a1 : Int32} {a2 : Int32} {r : Int32} {σ σ9 : xS} (h : (f_X3_isLine a0 a1 a2).1 σ = some (r, σ9)) : xMet E l yX3_isLine (ws_ yX3_isLine cX3_isLine 3 (some .boolean)) 2 43 [.ref a0, .int a1, .int a2] σ σ9 (some (.int r)) := by
  refine xstart (by decide +kernel) ((f_X3_isLine a0 a1 a2).2 _ _ _ h) (Nat.le_of_ble_eq_true rfl) ?_
  intro p e s m args below meth c H locs cells slots ls R hX hI hl
  have hx := hX.1.1
  have hb := hX.1.2.1
  have hl : lv_has ls 3 [(0, .ref a0), (1, .int a1), (2, .int a2)] := hl
  generalize hσ0 : σ = σ0 at hX hI ⊢
  have h : (f_X3_isLine a0 a1 a2).1 σ0 = some (r, σ9) := by rw [← hσ0]; exact h
  clear hσ0
  delta f_X3_isLine at h
  have h := (xck_bd h).2
  refine lv_aload_n hx hb dX3_isLine_0 rfl (lv_at hl 0 rfl) ?_
  refine lv_iload_n hx hb dX3_isLine_1 rfl (lv_at hl 1 rfl) ?_
  refine xr_callV (iv := (fun b => some (.int b))) (As := [.int a1]) (rest := []) h hX hI (fun _ _ h => w_X3_isOrder h) (fun _ _ h => o_X3_isOrder h) rfl 1 (lw_V q2095 q2097 qs37 q87 q2098) ⟨rfl, xd_X3_isOrder⟩ ⟨rfl, rfl⟩ rfl hl.1 (Nat.le_of_ble_eq_true rfl) dX3_isLine_2 (fun v5 H locs σ cells slots h hI => ?_)
  refine W.eq (g2 := F0 m 5 ls [.int v5]) rfl ?_
  refine lv_if_eq (tgt := 31) hx hb dX3_isLine_5 (by decide) (fun hc => ?_) (fun hc => ?_)
  · have h := xif_t h hc
    refine lv_iconst (v := (0 : Int32)) hx hb dX3_isLine_31 (by decide) ?_
    exact xr_zreturn h hX hI dX3_isLine_32
  · have h := xif_f h hc
    refine lv_iload_n hx hb dX3_isLine_8 rfl (lv_at hl 2 rfl) ?_
    refine lv_iconst (v := (0 : Int32)) hx hb dX3_isLine_9 (by decide) ?_
    refine lv_aload_n hx hb dX3_isLine_10 rfl (lv_at hl 0 rfl) ?_
    refine lv_iload_n hx hb dX3_isLine_11 rfl (lv_at hl 1 rfl) ?_
    refine lv_iconst (v := (1 : Int32)) hx hb dX3_isLine_12 (by decide) ?_
    refine xr_callS (iv := (fun b => some (.int b))) (As := [.int a1, .int (1 : Int32)]) (rest := [.ref a0, .int (0 : Int32), .int a2]) h hX hI (fun _ _ h => w_X3_ofOrder h) 2 (lw_S q2075 q2076 q87 q2077) xd_X3_ofOrder ⟨rfl, rfl⟩ rfl hl.1 (Nat.le_of_ble_eq_true rfl) dX3_isLine_13 (fun v6 H locs σ cells slots h hI => ?_)
    refine W.eq (g2 := F0 m 16 ls [.int v6, .ref a0, .int (0 : Int32), .int a2]) rfl ?_
    refine xr_callV (iv := (fun b => some (.int b))) (As := [.int v6]) (rest := [.int (0 : Int32), .int a2]) h hX hI (fun _ _ h => w_X3_at h) (fun _ _ h => o_X3_at h) rfl 1 (lw_V q2022 q2024 qs31 q87 q2025) ⟨rfl, xd_X3_at⟩ ⟨rfl, rfl⟩ rfl hl.1 (Nat.le_of_ble_eq_true rfl) dX3_isLine_16 (fun v7 H locs σ cells slots h hI => ?_)
    refine W.eq (g2 := F0 m 19 ls [.int v7, .int (0 : Int32), .int a2]) rfl ?_
    refine lv_iconst (v := (1 : Int32)) hx hb dX3_isLine_19 (by decide) ?_
    refine lv_isub hx hb dX3_isLine_20 ?_
    refine xr_callS (iv := (fun b => some (.int b))) (As := [.int a2, .int (0 : Int32), .int (v7 - (1 : Int32))]) (rest := []) h hX hI (fun _ _ h => w_X3_in h) 3 (lw_S q2043 q2044 q87 q2045) xd_X3_in ⟨rfl, rfl⟩ rfl hl.1 (Nat.le_of_ble_eq_true rfl) dX3_isLine_21 (fun v8 H locs σ cells slots h hI => ?_)
    refine W.eq (g2 := F0 m 24 ls [.int v8]) rfl ?_
    refine lv_if_eq (tgt := 31) hx hb dX3_isLine_24 (by decide) (fun hc => ?_) (fun hc => ?_)
    · have h := xif_t h hc
      refine lv_iconst (v := (0 : Int32)) hx hb dX3_isLine_31 (by decide) ?_
      exact xr_zreturn h hX hI dX3_isLine_32
    · have h := xif_f h hc
      refine lv_iconst (v := (1 : Int32)) hx hb dX3_isLine_27 (by decide) ?_
      refine lv_goto (tgt := 32) hx hb dX3_isLine_28 (by decide) ?_
      exact xr_zreturn h hX hI dX3_isLine_32
/-! PayMatchModel.changeLine(IIII)I  -/
theorem w_X3_changeLine_b112 {a0 : Nat} {a1 : Int32} {a2 : Int32} {a3 : Int32} {a4 : Int32} {r : Int32} (hX : xX E R p m c cX3_changeLine 5 s args RX3 "changeLine" meth (some .int) 3 65 σ0 σ9)
    (h : (f_X3_changeLine_b112 a0 a1 a2 a3 a4).1 σ = some (r, σ9)) (hI : xI E σ0 σ s H locs cells slots) (hl : lv_has ls 5 [(0, .ref a0), (1, .int a1), (2, .int a2), (3, .int a3), (4, .int a4)]) : W p l e R s m args below meth c H locs cells slots (xMQ E below args s σ0 σ9 (some (.int r))) (F0 m 112 ls []) := by
  have hx := hX.1.1
  have hb := hX.1.2.1
  delta f_X3_changeLine_b112 at h
  refine lv_aload_n hx hb dX3_changeLine_112 rfl (lv_at hl 0 rfl) ?_
  refine xr_gN h hX hI xl_X3_13_3.g dX3_changeLine_113 (fun v23 h => ?_)
  refine lv_iload_n hx hb dX3_changeLine_116 rfl (lv_at hl 1 rfl) ?_
  refine lv_iload_n hx hb dX3_changeLine_117 rfl (lv_at hl 2 rfl) ?_
  refine lv_iconst (v := (1 : Int32)) hx hb dX3_changeLine_118 (by decide) ?_
  refine xr_callS (iv := (fun b => some (.int b))) (As := [.int a1, .int a2, .int (1 : Int32)]) (rest := [.ref v23]) h hX hI (fun _ _ h => w_X3_ofLine h) 3 (lw_S q2103 q2104 q87 q2105) xd_X3_ofLine ⟨rfl, rfl⟩ rfl hl.1 (Nat.le_of_ble_eq_true rfl) dX3_changeLine_119 (fun v24 H locs σ cells slots h hI => ?_)
  refine W.eq (g2 := F0 m 122 ls [.int v24, .ref v23]) rfl ?_
  refine lv_iload_n hx hb dX3_changeLine_122 rfl (lv_at hl 3 rfl) ?_
  refine lv_i2l hx hb dX3_changeLine_123 rfl ?_
  refine xr_stL h hX hI dX3_changeLine_124 (fun H locs σ h hI => ?_)
  refine lv_aload_n hx hb dX3_changeLine_125 rfl (lv_at hl 0 rfl) ?_
  refine xr_gN h hX hI xl_X3_13_3.g dX3_changeLine_126 (fun v25 h => ?_)
  refine lv_iload_n hx hb dX3_changeLine_129 rfl (lv_at hl 1 rfl) ?_
  refine lv_iload_n hx hb dX3_changeLine_130 rfl (lv_at hl 2 rfl) ?_
  refine lv_iconst (v := (2 : Int32)) hx hb dX3_changeLine_131 (by decide) ?_
  refine xr_callS (iv := (fun b => some (.int b))) (As := [.int a1, .int a2, .int (2 : Int32)]) (rest := [.ref v25]) h hX hI (fun _ _ h => w_X3_ofLine h) 3 (lw_S q2103 q2104 q87 q2105) xd_X3_ofLine ⟨rfl, rfl⟩ rfl hl.1 (Nat.le_of_ble_eq_true rfl) dX3_changeLine_132 (fun v26 H locs σ cells slots h hI => ?_)
  refine W.eq (g2 := F0 m 135 ls [.int v26, .ref v25]) rfl ?_
  refine lv_iload hx hb dX3_changeLine_135 (lv_at hl 4 rfl) ?_
  refine lv_i2l hx hb dX3_changeLine_137 rfl ?_
  refine xr_stL h hX hI dX3_changeLine_138 (fun H locs σ h hI => ?_)
  refine lv_aload_n hx hb dX3_changeLine_139 rfl (lv_at hl 0 rfl) ?_
  refine xr_gN h hX hI xl_X3_13_3.g dX3_changeLine_140 (fun v27 h => ?_)
  refine lv_iload_n hx hb dX3_changeLine_143 rfl (lv_at hl 1 rfl) ?_
  refine lv_iconst (v := (3 : Int32)) hx hb dX3_changeLine_144 (by decide) ?_
  refine xr_callS (iv := (fun b => some (.int b))) (As := [.int a1, .int (3 : Int32)]) (rest := [.ref v27]) h hX hI (fun _ _ h => w_X3_ofOrder h) 2 (lw_S q2075 q2076 q87 q2077) xd_X3_ofOrder ⟨rfl, rfl⟩ rfl hl.1 (Nat.le_of_ble_eq_true rfl) dX3_changeLine_145 (fun v28 H locs σ cells slots h hI => ?_)
  refine W.eq (g2 := F0 m 148 ls [.int v28, .ref v27]) rfl ?_
  refine lv_dup2_11 hx hb dX3_changeLine_148 rfl rfl ?_
  refine xr_ldL h hX hI dX3_changeLine_149 (fun v29 h => ?_)
  refine lv_lconst (v := (1 : Int64)) hx hb dX3_changeLine_150 (by decide) ?_
  refine lv_ladd hx hb dX3_changeLine_151 ?_
  refine xr_stL h hX hI dX3_changeLine_152 (fun H locs σ h hI => ?_)
  refine lv_aload_n hx hb dX3_changeLine_153 rfl (lv_at hl 0 rfl) ?_
  refine lv_aload_n hx hb dX3_changeLine_154 rfl (lv_at hl 0 rfl) ?_
  refine lv_iload_n hx hb dX3_changeLine_155 rfl (lv_at hl 1 rfl) ?_
  refine lv_iconst (v := (3 : Int32)) hx hb dX3_changeLine_156 (by decide) ?_
  refine xr_callS (iv := (fun b => some (.int b))) (As := [.int a1, .int (3 : Int32)]) (rest := [.ref a0, .ref a0]) h hX hI (fun _ _ h => w_X3_ofOrder h) 2 (lw_S q2075 q2076 q87 q2077) xd_X3_ofOrder ⟨rfl, rfl⟩ rfl hl.1 (Nat.le_of_ble_eq_true rfl) dX3_changeLine_157 (fun v30 H locs σ cells slots h hI => ?_)
  refine W.eq (g2 := F0 m 160 ls [.int v30, .ref a0, .ref a0]) rfl ?_
  refine xr_callV (iv := (fun b => some (.int b))) (As := [.int v30]) (rest := [.ref a0]) h hX hI (fun _ _ h => w_X3_at h) (fun _ _ h => o_X3_at h) rfl 1 (lw_V q2022 q2024 qs31 q87 q2025) ⟨rfl, xd_X3_at⟩ ⟨rfl, rfl⟩ rfl hl.1 (Nat.le_of_ble_eq_true rfl) dX3_changeLine_160 (fun v31 H locs σ cells slots h hI => ?_)
  refine W.eq (g2 := F0 m 163 ls [.int v31, .ref a0]) rfl ?_
  refine xr_callV (iv := (fun b => some (.int b))) (As := [.int v31]) (rest := []) h hX hI (fun _ _ h => w_X3_acted h) (fun _ _ h => o_X3_acted h) rfl 1 (lw_V q2031 q2033 qs32 q87 q2034) ⟨rfl, xd_X3_acted⟩ ⟨rfl, rfl⟩ rfl hl.1 (Nat.le_of_ble_eq_true rfl) dX3_changeLine_163 (fun v32 H locs σ cells slots h hI => ?_)
  refine W.eq (g2 := F0 m 166 ls [.int v32]) rfl ?_
  exact xr_ireturn h hX hI dX3_changeLine_166
theorem o_X3_changeLine {a0 : Nat} {a1 : Int32} {a2 : Int32} {a3 : Int32} {a4 : Int32} {r : Int32} {σ σ9 : xS} (h : (f_X3_changeLine a0 a1 a2 a3 a4).1 σ = some (r, σ9)) : ∃ fs, σ.1 a0 = some (.inl (3, fs)) := xck_of h
theorem w_X3_changeLine {E : xE} {l : Launch} {a0 : Nat} {a1 : Int32} {a2 : Int32} {a3 : Int32} {a4 : Int32} {r : Int32} {σ σ9 : xS} (h : (f_X3_changeLine a0 a1 a2 a3 a4).1 σ = some (r, σ9)) : xMet E l yX3_changeLine (ws_ yX3_changeLine cX3_changeLine 5 (some .int)) 3 65 [.ref a0, .int a1, .int a2, .int a3, .int a4] σ σ9 (some (.int r)) := by
  refine xstart (by decide +kernel) ((f_X3_changeLine a0 a1 a2 a3 a4).2 _ _ _ h) (Nat.le_of_ble_eq_true rfl) ?_
  intro p e s m args below meth c H locs cells slots ls R hX hI hl
  have hx := hX.1.1
  have hb := hX.1.2.1
  have hl : lv_has ls 5 [(0, .ref a0), (1, .int a1), (2, .int a2), (3, .int a3), (4, .int a4)] := hl
  generalize hσ0 : σ = σ0 at hX hI ⊢
  have h : (f_X3_changeLine a0 a1 a2 a3 a4).1 σ0 = some (r, σ9) := by rw [← hσ0]; exact h
  clear hσ0
  delta f_X3_changeLine at h
  have h := (xck_bd h).2
  refine lv_aload_n hx hb dX3_changeLine_0 rfl (lv_at hl 0 rfl) ?_
  refine xr_callV (iv := (fun _ => none)) (As := []) (rest := []) h hX hI (fun _ _ h => w_X3_aside h) (fun _ _ h => o_X3_aside h) rfl 0 (lw_V q2018 q2020 qs30 q87 q2021) ⟨rfl, xd_X3_aside⟩ ⟨rfl, rfl⟩ rfl hl.1 (Nat.le_of_ble_eq_true rfl) dX3_changeLine_1 (fun _ H locs σ cells slots h hI => ?_)
  refine lv_aload_n hx hb dX3_changeLine_4 rfl (lv_at hl 0 rfl) ?_
  refine lv_iload_n hx hb dX3_changeLine_5 rfl (lv_at hl 1 rfl) ?_
  refine lv_iload_n hx hb dX3_changeLine_6 rfl (lv_at hl 2 rfl) ?_
  refine xr_callV (iv := (fun b => some (.int b))) (As := [.int a1, .int a2]) (rest := []) h hX hI (fun _ _ h => w_X3_isLine h) (fun _ _ h => o_X3_isLine h) rfl 2 (lw_V q2110 q2112 qs39 q87 q2113) ⟨rfl, xd_X3_isLine⟩ ⟨rfl, rfl⟩ rfl hl.1 (Nat.le_of_ble_eq_true rfl) dX3_changeLine_7 (fun v33 H locs σ cells slots h hI => ?_)
  refine W.eq (g2 := F0 m 10 ls [.int v33]) rfl ?_
  refine lv_if_ne (tgt := 15) hx hb dX3_changeLine_10 (by decide) (fun hc => ?_) (fun hc => ?_)
  · have h := xif_f h hc
    refine lv_iload_n hx hb dX3_changeLine_15 rfl (lv_at hl 3 rfl) ?_
    refine lv_iconst (v := (1 : Int32)) hx hb dX3_changeLine_16 (by decide) ?_
    refine lv_sipush (v := (999 : Int32)) hx hb dX3_changeLine_17 (by decide) ?_
    refine xr_callS (iv := (fun b => some (.int b))) (As := [.int a3, .int (1 : Int32), .int (999 : Int32)]) (rest := []) h hX hI (fun _ _ h => w_X3_in h) 3 (lw_S q2043 q2044 q87 q2045) xd_X3_in ⟨rfl, rfl⟩ rfl hl.1 (Nat.le_of_ble_eq_true rfl) dX3_changeLine_20 (fun v34 H locs σ cells slots h hI => ?_)
    refine W.eq (g2 := F0 m 23 ls [.int v34]) rfl ?_
    refine lv_if_eq (tgt := 38) hx hb dX3_changeLine_23 (by decide) (fun hc => ?_) (fun hc => ?_)
    · have h := xif_t h hc
      refine lv_bipush (v := (-2 : Int32)) hx hb dX3_changeLine_38 (by decide) ?_
      exact xr_ireturn h hX hI dX3_changeLine_40
    · have h := xif_f h hc
      refine lv_iload hx hb dX3_changeLine_26 (lv_at hl 4 rfl) ?_
      refine lv_iconst (v := (1 : Int32)) hx hb dX3_changeLine_28 (by decide) ?_
      refine lv_sipush (v := (9999 : Int32)) hx hb dX3_changeLine_29 (by decide) ?_
      refine xr_callS (iv := (fun b => some (.int b))) (As := [.int a4, .int (1 : Int32), .int (9999 : Int32)]) (rest := []) h hX hI (fun _ _ h => w_X3_in h) 3 (lw_S q2043 q2044 q87 q2045) xd_X3_in ⟨rfl, rfl⟩ rfl hl.1 (Nat.le_of_ble_eq_true rfl) dX3_changeLine_32 (fun v35 H locs σ cells slots h hI => ?_)
      refine W.eq (g2 := F0 m 35 ls [.int v35]) rfl ?_
      refine lv_if_ne (tgt := 41) hx hb dX3_changeLine_35 (by decide) (fun hc => ?_) (fun hc => ?_)
      · have h := xif_f h hc
        refine lv_aload_n hx hb dX3_changeLine_41 rfl (lv_at hl 0 rfl) ?_
        refine lv_iload_n hx hb dX3_changeLine_42 rfl (lv_at hl 1 rfl) ?_
        refine xr_callV (iv := (fun b => some (.int b))) (As := [.int a1]) (rest := []) h hX hI (fun _ _ h => w_X3_isOpen h) (fun _ _ h => o_X3_isOpen h) rfl 1 (lw_V q2099 q2101 qs38 q87 q2102) ⟨rfl, xd_X3_isOpen⟩ ⟨rfl, rfl⟩ rfl hl.1 (Nat.le_of_ble_eq_true rfl) dX3_changeLine_43 (fun v36 H locs σ cells slots h hI => ?_)
        refine W.eq (g2 := F0 m 46 ls [.int v36]) rfl ?_
        refine lv_if_eq (tgt := 77) hx hb dX3_changeLine_46 (by decide) (fun hc => ?_) (fun hc => ?_)
        · have h := xif_t h hc
          refine lv_bipush (v := (-4 : Int32)) hx hb dX3_changeLine_77 (by decide) ?_
          exact xr_ireturn h hX hI dX3_changeLine_79
        · have h := xif_f h hc
          refine lv_iload_n hx hb dX3_changeLine_49 rfl (lv_at hl 3 rfl) ?_
          refine lv_aload_n hx hb dX3_changeLine_50 rfl (lv_at hl 0 rfl) ?_
          refine lv_iload_n hx hb dX3_changeLine_51 rfl (lv_at hl 1 rfl) ?_
          refine lv_iload_n hx hb dX3_changeLine_52 rfl (lv_at hl 2 rfl) ?_
          refine lv_iconst (v := (3 : Int32)) hx hb dX3_changeLine_53 (by decide) ?_
          refine xr_callS (iv := (fun b => some (.int b))) (As := [.int a1, .int a2, .int (3 : Int32)]) (rest := [.ref a0, .int a3]) h hX hI (fun _ _ h => w_X3_ofLine h) 3 (lw_S q2103 q2104 q87 q2105) xd_X3_ofLine ⟨rfl, rfl⟩ rfl hl.1 (Nat.le_of_ble_eq_true rfl) dX3_changeLine_54 (fun v37 H locs σ cells slots h hI => ?_)
          refine W.eq (g2 := F0 m 57 ls [.int v37, .ref a0, .int a3]) rfl ?_
          refine xr_callV (iv := (fun b => some (.int b))) (As := [.int v37]) (rest := [.int a3]) h hX hI (fun _ _ h => w_X3_at h) (fun _ _ h => o_X3_at h) rfl 1 (lw_V q2022 q2024 qs31 q87 q2025) ⟨rfl, xd_X3_at⟩ ⟨rfl, rfl⟩ rfl hl.1 (Nat.le_of_ble_eq_true rfl) dX3_changeLine_57 (fun v38 H locs σ cells slots h hI => ?_)
          refine W.eq (g2 := F0 m 60 ls [.int v38, .int a3]) rfl ?_
          refine lv_icmp_lt (tgt := 77) hx hb dX3_changeLine_60 (by decide) (fun hc => ?_) (fun hc => ?_)
          · have h := xif_t h hc
            refine lv_bipush (v := (-4 : Int32)) hx hb dX3_changeLine_77 (by decide) ?_
            exact xr_ireturn h hX hI dX3_changeLine_79
          · have h := xif_f h hc
            refine lv_iload_n hx hb dX3_changeLine_63 rfl (lv_at hl 3 rfl) ?_
            refine lv_aload_n hx hb dX3_changeLine_64 rfl (lv_at hl 0 rfl) ?_
            refine lv_iload_n hx hb dX3_changeLine_65 rfl (lv_at hl 1 rfl) ?_
            refine lv_iload_n hx hb dX3_changeLine_66 rfl (lv_at hl 2 rfl) ?_
            refine lv_iconst (v := (5 : Int32)) hx hb dX3_changeLine_67 (by decide) ?_
            refine xr_callS (iv := (fun b => some (.int b))) (As := [.int a1, .int a2, .int (5 : Int32)]) (rest := [.ref a0, .int a3]) h hX hI (fun _ _ h => w_X3_ofLine h) 3 (lw_S q2103 q2104 q87 q2105) xd_X3_ofLine ⟨rfl, rfl⟩ rfl hl.1 (Nat.le_of_ble_eq_true rfl) dX3_changeLine_68 (fun v39 H locs σ cells slots h hI => ?_)
            refine W.eq (g2 := F0 m 71 ls [.int v39, .ref a0, .int a3]) rfl ?_
            refine xr_callV (iv := (fun b => some (.int b))) (As := [.int v39]) (rest := [.int a3]) h hX hI (fun _ _ h => w_X3_at h) (fun _ _ h => o_X3_at h) rfl 1 (lw_V q2022 q2024 qs31 q87 q2025) ⟨rfl, xd_X3_at⟩ ⟨rfl, rfl⟩ rfl hl.1 (Nat.le_of_ble_eq_true rfl) dX3_changeLine_71 (fun v40 H locs σ cells slots h hI => ?_)
            refine W.eq (g2 := F0 m 74 ls [.int v40, .int a3]) rfl ?_
            refine lv_icmp_ge (tgt := 80) hx hb dX3_changeLine_74 (by decide) (fun hc => ?_) (fun hc => ?_)
            · have h := xif_t h hc
              refine lv_aload_n hx hb dX3_changeLine_80 rfl (lv_at hl 0 rfl) ?_
              refine lv_iload_n hx hb dX3_changeLine_81 rfl (lv_at hl 1 rfl) ?_
              refine lv_iload_n hx hb dX3_changeLine_82 rfl (lv_at hl 2 rfl) ?_
              refine lv_iconst (v := (1 : Int32)) hx hb dX3_changeLine_83 (by decide) ?_
              refine xr_callS (iv := (fun b => some (.int b))) (As := [.int a1, .int a2, .int (1 : Int32)]) (rest := [.ref a0]) h hX hI (fun _ _ h => w_X3_ofLine h) 3 (lw_S q2103 q2104 q87 q2105) xd_X3_ofLine ⟨rfl, rfl⟩ rfl hl.1 (Nat.le_of_ble_eq_true rfl) dX3_changeLine_84 (fun v41 H locs σ cells slots h hI => ?_)
              refine W.eq (g2 := F0 m 87 ls [.int v41, .ref a0]) rfl ?_
              refine xr_callV (iv := (fun b => some (.int b))) (As := [.int v41]) (rest := []) h hX hI (fun _ _ h => w_X3_at h) (fun _ _ h => o_X3_at h) rfl 1 (lw_V q2022 q2024 qs31 q87 q2025) ⟨rfl, xd_X3_at⟩ ⟨rfl, rfl⟩ rfl hl.1 (Nat.le_of_ble_eq_true rfl) dX3_changeLine_87 (fun v42 H locs σ cells slots h hI => ?_)
              refine W.eq (g2 := F0 m 90 ls [.int v42]) rfl ?_
              refine lv_iload_n hx hb dX3_changeLine_90 rfl (lv_at hl 3 rfl) ?_
              refine lv_icmp_ne (tgt := 112) hx hb dX3_changeLine_91 (by decide) (fun hc => ?_) (fun hc => ?_)
              · have h := xif_f h hc
                exact w_X3_changeLine_b112 hX h hI (lv_sub hl [0, 1, 2, 3, 4] rfl)
              · have h := xif_t h hc
                refine lv_aload_n hx hb dX3_changeLine_94 rfl (lv_at hl 0 rfl) ?_
                refine lv_iload_n hx hb dX3_changeLine_95 rfl (lv_at hl 1 rfl) ?_
                refine lv_iload_n hx hb dX3_changeLine_96 rfl (lv_at hl 2 rfl) ?_
                refine lv_iconst (v := (2 : Int32)) hx hb dX3_changeLine_97 (by decide) ?_
                refine xr_callS (iv := (fun b => some (.int b))) (As := [.int a1, .int a2, .int (2 : Int32)]) (rest := [.ref a0]) h hX hI (fun _ _ h => w_X3_ofLine h) 3 (lw_S q2103 q2104 q87 q2105) xd_X3_ofLine ⟨rfl, rfl⟩ rfl hl.1 (Nat.le_of_ble_eq_true rfl) dX3_changeLine_98 (fun v43 H locs σ cells slots h hI => ?_)
                refine W.eq (g2 := F0 m 101 ls [.int v43, .ref a0]) rfl ?_
                refine xr_callV (iv := (fun b => some (.int b))) (As := [.int v43]) (rest := []) h hX hI (fun _ _ h => w_X3_at h) (fun _ _ h => o_X3_at h) rfl 1 (lw_V q2022 q2024 qs31 q87 q2025) ⟨rfl, xd_X3_at⟩ ⟨rfl, rfl⟩ rfl hl.1 (Nat.le_of_ble_eq_true rfl) dX3_changeLine_101 (fun v44 H locs σ cells slots h hI => ?_)
                refine W.eq (g2 := F0 m 104 ls [.int v44]) rfl ?_
                refine lv_iload hx hb dX3_changeLine_104 (lv_at hl 4 rfl) ?_
                refine lv_icmp_ne (tgt := 112) hx hb dX3_changeLine_106 (by decide) (fun hc => ?_) (fun hc => ?_)
                · have h := xif_f h hc
                  exact w_X3_changeLine_b112 hX h hI (lv_sub hl [0, 1, 2, 3, 4] rfl)
                · have h := xif_t h hc
                  refine lv_bipush (v := (-5 : Int32)) hx hb dX3_changeLine_109 (by decide) ?_
                  exact xr_ireturn h hX hI dX3_changeLine_111
            · have h := xif_f h hc
              refine lv_bipush (v := (-4 : Int32)) hx hb dX3_changeLine_77 (by decide) ?_
              exact xr_ireturn h hX hI dX3_changeLine_79
      · have h := xif_t h hc
        refine lv_bipush (v := (-2 : Int32)) hx hb dX3_changeLine_38 (by decide) ?_
        exact xr_ireturn h hX hI dX3_changeLine_40
  · have h := xif_t h hc
    refine lv_iconst (v := (-1 : Int32)) hx hb dX3_changeLine_13 (by decide) ?_
    exact xr_ireturn h hX hI dX3_changeLine_14
end
