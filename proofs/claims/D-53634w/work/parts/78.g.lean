/-! walks, printed by gen.py -/
set_option maxRecDepth 100000
section
variable {E : xE} {p : Program} {l : Launch} {e : Env} {R : Room} {s : State} {m : MethodId} {args : Array Value} {below : List Frame} {meth : Method} {c : Code} {H : Heap} {locs : List Loc} {cells slots : Nat} {ls : Array Slot} {σ0 σ σ9 : xS}
/-! PayMatch.reject(I)I  -/
theorem o_X0_reject {a0 : Nat} {a1 : Int32} {r : Int32} {σ σ9 : xS} (h : (f_X0_reject a0 a1).1 σ = some (r, σ9)) : ∃ fs, σ.1 a0 = some (.inl (0, fs)) := xck_of h
theorem w_X0_reject {E : xE} {l : Launch} {a0 : Nat} {a1 : Int32} {r : Int32} {σ σ9 : xS} (h : (f_X0_reject a0 a1).1 σ = some (r, σ9)) : xMet E l yX0_reject (ws_ yX0_reject cX0_reject 4 (some .int)) 14 438 [.ref a0, .int a1] σ σ9 (some (.int r)) := by
  refine xstart (by decide +kernel) ((f_X0_reject a0 a1).2 _ _ _ h) (Nat.le_of_ble_eq_true rfl) ?_
  intro p e s m args below meth c H locs cells slots ls R hX hI hl
  have hx := hX.1.1
  have hb := hX.1.2.1
  have hl : lv_has ls 4 [(0, .ref a0), (1, .int a1)] := hl
  generalize hσ0 : σ = σ0 at hX hI ⊢
  have h : (f_X0_reject a0 a1).1 σ0 = some (r, σ9) := by rw [← hσ0]; exact h
  clear hσ0
  delta f_X0_reject at h
  have h := (xck_bd h).2
  refine lv_aload_n hx hb dX0_reject_0 rfl (lv_at hl 0 rfl) ?_
  refine xr_gN h hX hI xl_X0_22_0.g dX0_reject_1 (fun v15 h => ?_)
  refine xr_gN h hX hI xl_X0_211_1.g dX0_reject_4 (fun v16 h => ?_)
  refine lv_iload_n hx hb dX0_reject_7 rfl (lv_at hl 1 rfl) ?_
  refine xr_callV (iv := (fun b => some (.int b))) (As := [.int a1]) (rest := []) h hX hI (fun _ _ h => w_X2_has h) (fun _ _ h => o_X2_has h) rfl 1 (lw_V q1225 q1226 q1227 q76 q1228) ⟨rfl, xd_X2_has⟩ ⟨rfl, rfl⟩ rfl hl.1 (Nat.le_of_ble_eq_true rfl) dX0_reject_8 (fun v17 H locs σ cells slots h hI => ?_)
  refine W.eq (g2 := F0 m 11 ls [.int v17]) rfl ?_
  refine lv_if_ne (tgt := 16) hx hb dX0_reject_11 (by decide) (fun hc => ?_) (fun hc => ?_)
  · have h := xif_f h hc
    refine lv_aload_n hx hb dX0_reject_16 rfl (lv_at hl 0 rfl) ?_
    refine xr_gN h hX hI xl_X0_22_0.g dX0_reject_17 (fun v18 h => ?_)
    refine xr_gN h hX hI xl_X0_211_1.g dX0_reject_20 (fun v19 h => ?_)
    refine lv_iload_n hx hb dX0_reject_23 rfl (lv_at hl 1 rfl) ?_
    refine xr_callV (iv := (fun b => some (.ref b))) (As := [.int a1]) (rest := []) h hX hI (fun _ _ h => w_X2_get h) (fun _ _ h => o_X2_get h) rfl 1 (lw_V q1249 q1250 q1251 q76 q1252) ⟨rfl, xd_X2_get⟩ ⟨rfl, rfl⟩ rfl hl.1 (Nat.le_of_ble_eq_true rfl) dX0_reject_24 (fun v20 H locs σ cells slots h hI => ?_)
    refine W.eq (g2 := F0 m 27 ls [.ref v20]) rfl ?_
    refine xr_cks h hX hI xc_X0_261 dX0_reject_27 (fun h => ?_)
    refine xr_callV (iv := (fun b => some (.int b))) (As := []) (rest := []) h hX hI (fun _ _ h => w_X4_isWaiting h) (fun _ _ h => o_X4_isWaiting h) rfl 0 (lw_V q1699 q1700 q1701 q105 q1702) ⟨rfl, xd_X4_isWaiting⟩ ⟨rfl, rfl⟩ rfl hl.1 (Nat.le_of_ble_eq_true rfl) dX0_reject_30 (fun v21 H locs σ cells slots h hI => ?_)
    refine W.eq (g2 := F0 m 33 ls [.int v21]) rfl ?_
    refine lv_if_ne (tgt := 39) hx hb dX0_reject_33 (by decide) (fun hc => ?_) (fun hc => ?_)
    · have h := xif_f h hc
      refine lv_aload_n hx hb dX0_reject_39 rfl (lv_at hl 0 rfl) ?_
      refine xr_gN h hX hI xl_X0_22_0.g dX0_reject_40 (fun v22 h => ?_)
      refine xr_callV (iv := (fun b => some (.ref b))) (As := []) (rest := []) h hX hI (fun _ _ h => w_X1_copy h) (fun _ _ h => o_X1_copy h) rfl 0 (lw_V q323 q324 q325 q75 q326) ⟨rfl, xd_X1_copy⟩ ⟨rfl, rfl⟩ rfl hl.1 (Nat.le_of_ble_eq_true rfl) dX0_reject_43 (fun v23 H locs σ cells slots h hI => ?_)
      refine W.eq (g2 := F0 m 46 ls [.ref v23]) rfl ?_
      refine lv_astore_n (lv' := [(2, .ref v23), (0, .ref a0), (1, .int a1)]) hx hb dX0_reject_46 rfl hl (Nat.le_of_ble_eq_true rfl) rfl (fun ls hl => ?_)
      refine lv_aload_n hx hb dX0_reject_47 rfl (lv_at hl 0 rfl) ?_
      refine xr_gN h hX hI xl_X0_211_1.g dX0_reject_48 (fun v24 h => ?_)
      refine lv_iload_n hx hb dX0_reject_51 rfl (lv_at hl 2 rfl) ?_
      refine xr_callV (iv := (fun b => some (.ref b))) (As := [.int a1]) (rest := []) h hX hI (fun _ _ h => w_X2_get h) (fun _ _ h => o_X2_get h) rfl 1 (lw_V q1249 q1250 q1251 q76 q1252) ⟨rfl, xd_X2_get⟩ ⟨rfl, rfl⟩ rfl hl.1 (Nat.le_of_ble_eq_true rfl) dX0_reject_52 (fun v25 H locs σ cells slots h hI => ?_)
      refine W.eq (g2 := F0 m 55 ls [.ref v25]) rfl ?_
      refine xr_cks h hX hI xc_X0_261 dX0_reject_55 (fun h => ?_)
      refine lv_astore_n (lv' := [(3, .ref v25), (2, .ref v23), (0, .ref a0), (1, .int a1)]) hx hb dX0_reject_58 rfl hl (Nat.le_of_ble_eq_true rfl) rfl (fun ls hl => ?_)
      refine lv_aload_n hx hb dX0_reject_59 rfl (lv_at hl 0 rfl) ?_
      refine lv_iconst (v := (4 : Int32)) hx hb dX0_reject_60 (by decide) ?_
      refine xr_pt h hX hI xl_X0_266_4 (Or.inl rfl) rfl rfl dX0_reject_61 (fun H locs σ h hI => ?_)
      refine lv_aload_n hx hb dX0_reject_64 rfl (lv_at hl 1 rfl) ?_
      refine lv_bipush (v := (7 : Int32)) hx hb dX0_reject_65 (by decide) ?_
      refine lv_iload_n hx hb dX0_reject_67 rfl (lv_at hl 3 rfl) ?_
      refine lv_aload_n hx hb dX0_reject_68 rfl (lv_at hl 0 rfl) ?_
      refine xr_callV (iv := (fun b => some (.int b))) (As := []) (rest := [.int a1, .int (7 : Int32), .ref v23]) h hX hI (fun _ _ h => w_X4_total h) (fun _ _ h => o_X4_total h) rfl 0 (lw_V q1760 q1544 q1545 q105 q1546) ⟨rfl, xd_X4_total⟩ ⟨rfl, rfl⟩ rfl hl.1 (Nat.le_of_ble_eq_true rfl) dX0_reject_69 (fun v26 H locs σ cells slots h hI => ?_)
      refine W.eq (g2 := F0 m 72 ls [.int v26, .int a1, .int (7 : Int32), .ref v23]) rfl ?_
      refine xr_callV (iv := (fun _ => none)) (As := [.int (7 : Int32), .int a1, .int v26]) (rest := []) h hX hI (fun _ _ h => w_X1_tell h) (fun _ _ h => o_X1_tell h) rfl 3 (lw_V q1761 q1450 q1451 q75 q1452) ⟨rfl, xd_X1_tell⟩ ⟨rfl, rfl⟩ rfl hl.1 (Nat.le_of_ble_eq_true rfl) dX0_reject_72 (fun _ H locs σ cells slots h hI => ?_)
      refine lv_aload_n hx hb dX0_reject_75 rfl (lv_at hl 2 rfl) ?_
      refine lv_aload_n hx hb dX0_reject_76 rfl (lv_at hl 1 rfl) ?_
      refine lv_aload_n hx hb dX0_reject_77 rfl (lv_at hl 0 rfl) ?_
      refine xr_callV (iv := (fun b => some (.int b))) (As := []) (rest := [.ref v23, .ref a0]) h hX hI (fun _ _ h => w_X4_total h) (fun _ _ h => o_X4_total h) rfl 0 (lw_V q1760 q1544 q1545 q105 q1546) ⟨rfl, xd_X4_total⟩ ⟨rfl, rfl⟩ rfl hl.1 (Nat.le_of_ble_eq_true rfl) dX0_reject_78 (fun v27 H locs σ cells slots h hI => ?_)
      refine W.eq (g2 := F0 m 81 ls [.int v27, .ref v23, .ref a0]) rfl ?_
      refine xr_callV (iv := (fun b => some (.int b))) (As := [.ref v23, .int v27]) (rest := []) h hX hI (fun _ _ h => w_X0_become h) (fun _ _ h => o_X0_become h) rfl 2 (lw_V q1182 q1184 qs9 q74 q1185) ⟨rfl, xd_X0_become⟩ ⟨rfl, rfl⟩ rfl hl.1 (Nat.le_of_ble_eq_true rfl) dX0_reject_81 (fun v28 H locs σ cells slots h hI => ?_)
      refine W.eq (g2 := F0 m 84 ls [.int v28]) rfl ?_
      exact xr_ireturn h hX hI dX0_reject_84
    · have h := xif_t h hc
      refine lv_bipush (v := (-4 : Int32)) hx hb dX0_reject_36 (by decide) ?_
      exact xr_ireturn h hX hI dX0_reject_38
  · have h := xif_t h hc
    refine lv_iconst (v := (-1 : Int32)) hx hb dX0_reject_14 (by decide) ?_
    exact xr_ireturn h hX hI dX0_reject_15
/-! PayMatchModel.reject(I)I  -/
theorem o_X3_reject {a0 : Nat} {a1 : Int32} {r : Int32} {σ σ9 : xS} (h : (f_X3_reject a0 a1).1 σ = some (r, σ9)) : ∃ fs, σ.1 a0 = some (.inl (3, fs)) := xck_of h
theorem w_X3_reject {E : xE} {l : Launch} {a0 : Nat} {a1 : Int32} {r : Int32} {σ σ9 : xS} (h : (f_X3_reject a0 a1).1 σ = some (r, σ9)) : xMet E l yX3_reject (ws_ yX3_reject cX3_reject 2 (some .int)) 3 67 [.ref a0, .int a1] σ σ9 (some (.int r)) := by
  refine xstart (by decide +kernel) ((f_X3_reject a0 a1).2 _ _ _ h) (Nat.le_of_ble_eq_true rfl) ?_
  intro p e s m args below meth c H locs cells slots ls R hX hI hl
  have hx := hX.1.1
  have hb := hX.1.2.1
  have hl : lv_has ls 2 [(0, .ref a0), (1, .int a1)] := hl
  generalize hσ0 : σ = σ0 at hX hI ⊢
  have h : (f_X3_reject a0 a1).1 σ0 = some (r, σ9) := by rw [← hσ0]; exact h
  clear hσ0
  delta f_X3_reject at h
  have h := (xck_bd h).2
  refine lv_aload_n hx hb dX3_reject_0 rfl (lv_at hl 0 rfl) ?_
  refine xr_callV (iv := (fun _ => none)) (As := []) (rest := []) h hX hI (fun _ _ h => w_X3_aside h) (fun _ _ h => o_X3_aside h) rfl 0 (lw_V q2018 q2020 qs30 q87 q2021) ⟨rfl, xd_X3_aside⟩ ⟨rfl, rfl⟩ rfl hl.1 (Nat.le_of_ble_eq_true rfl) dX3_reject_1 (fun _ H locs σ cells slots h hI => ?_)
  refine lv_aload_n hx hb dX3_reject_4 rfl (lv_at hl 0 rfl) ?_
  refine lv_iload_n hx hb dX3_reject_5 rfl (lv_at hl 1 rfl) ?_
  refine xr_callV (iv := (fun b => some (.int b))) (As := [.int a1]) (rest := []) h hX hI (fun _ _ h => w_X3_isInvoice h) (fun _ _ h => o_X3_isInvoice h) rfl 1 (lw_V q2185 q2187 qs51 q87 q2188) ⟨rfl, xd_X3_isInvoice⟩ ⟨rfl, rfl⟩ rfl hl.1 (Nat.le_of_ble_eq_true rfl) dX3_reject_6 (fun v8 H locs σ cells slots h hI => ?_)
  refine W.eq (g2 := F0 m 9 ls [.int v8]) rfl ?_
  refine lv_if_ne (tgt := 14) hx hb dX3_reject_9 (by decide) (fun hc => ?_) (fun hc => ?_)
  · have h := xif_f h hc
    refine lv_aload_n hx hb dX3_reject_14 rfl (lv_at hl 0 rfl) ?_
    refine lv_iload_n hx hb dX3_reject_15 rfl (lv_at hl 1 rfl) ?_
    refine xr_callV (iv := (fun b => some (.int b))) (As := [.int a1]) (rest := []) h hX hI (fun _ _ h => w_X3_isWaiting h) (fun _ _ h => o_X3_isWaiting h) rfl 1 (lw_V q2189 q2191 qs52 q87 q2192) ⟨rfl, xd_X3_isWaiting⟩ ⟨rfl, rfl⟩ rfl hl.1 (Nat.le_of_ble_eq_true rfl) dX3_reject_16 (fun v9 H locs σ cells slots h hI => ?_)
    refine W.eq (g2 := F0 m 19 ls [.int v9]) rfl ?_
    refine lv_if_ne (tgt := 25) hx hb dX3_reject_19 (by decide) (fun hc => ?_) (fun hc => ?_)
    · have h := xif_f h hc
      refine lv_aload_n hx hb dX3_reject_25 rfl (lv_at hl 0 rfl) ?_
      refine xr_gN h hX hI xl_X3_13_3.g dX3_reject_26 (fun v10 h => ?_)
      refine lv_iload_n hx hb dX3_reject_29 rfl (lv_at hl 1 rfl) ?_
      refine lv_iconst (v := (4 : Int32)) hx hb dX3_reject_30 (by decide) ?_
      refine xr_callS (iv := (fun b => some (.int b))) (As := [.int a1, .int (4 : Int32)]) (rest := [.ref v10]) h hX hI (fun _ _ h => w_X3_ofInvoice h) 2 (lw_S q2068 q2069 q87 q2070) xd_X3_ofInvoice ⟨rfl, rfl⟩ rfl hl.1 (Nat.le_of_ble_eq_true rfl) dX3_reject_31 (fun v11 H locs σ cells slots h hI => ?_)
      refine W.eq (g2 := F0 m 34 ls [.int v11, .ref v10]) rfl ?_
      refine lv_ldc2 (v := (4 : Int64)) hx hb hX.1.2.2.2.1 (hX.1.2.2.2.2 _ q2229) dX3_reject_34 ?_
      refine xr_stL h hX hI dX3_reject_37 (fun H locs σ h hI => ?_)
      refine lv_aload_n hx hb dX3_reject_38 rfl (lv_at hl 0 rfl) ?_
      refine lv_bipush (v := (7 : Int32)) hx hb dX3_reject_39 (by decide) ?_
      refine lv_iload_n hx hb dX3_reject_41 rfl (lv_at hl 1 rfl) ?_
      refine lv_aload_n hx hb dX3_reject_42 rfl (lv_at hl 0 rfl) ?_
      refine lv_iload_n hx hb dX3_reject_43 rfl (lv_at hl 1 rfl) ?_
      refine xr_callV (iv := (fun b => some (.int b))) (As := [.int a1]) (rest := [.int a1, .int (7 : Int32), .ref a0]) h hX hI (fun _ _ h => w_X3_total h) (fun _ _ h => o_X3_total h) rfl 1 (lw_V q2173 q2175 qs49 q87 q2176) ⟨rfl, xd_X3_total⟩ ⟨rfl, rfl⟩ rfl hl.1 (Nat.le_of_ble_eq_true rfl) dX3_reject_44 (fun v12 H locs σ cells slots h hI => ?_)
      refine W.eq (g2 := F0 m 47 ls [.int v12, .int a1, .int (7 : Int32), .ref a0]) rfl ?_
      refine xr_callV (iv := (fun _ => none)) (As := [.int (7 : Int32), .int a1, .int v12]) (rest := []) h hX hI (fun _ _ h => w_X3_log h) (fun _ _ h => o_X3_log h) rfl 3 (lw_V q2140 q2142 qs43 q87 q2143) ⟨rfl, xd_X3_log⟩ ⟨rfl, rfl⟩ rfl hl.1 (Nat.le_of_ble_eq_true rfl) dX3_reject_47 (fun _ H locs σ cells slots h hI => ?_)
      refine lv_aload_n hx hb dX3_reject_50 rfl (lv_at hl 0 rfl) ?_
      refine lv_aload_n hx hb dX3_reject_51 rfl (lv_at hl 0 rfl) ?_
      refine lv_iload_n hx hb dX3_reject_52 rfl (lv_at hl 1 rfl) ?_
      refine xr_callV (iv := (fun b => some (.int b))) (As := [.int a1]) (rest := [.ref a0]) h hX hI (fun _ _ h => w_X3_total h) (fun _ _ h => o_X3_total h) rfl 1 (lw_V q2173 q2175 qs49 q87 q2176) ⟨rfl, xd_X3_total⟩ ⟨rfl, rfl⟩ rfl hl.1 (Nat.le_of_ble_eq_true rfl) dX3_reject_53 (fun v13 H locs σ cells slots h hI => ?_)
      refine W.eq (g2 := F0 m 56 ls [.int v13, .ref a0]) rfl ?_
      refine xr_callV (iv := (fun b => some (.int b))) (As := [.int v13]) (rest := []) h hX hI (fun _ _ h => w_X3_acted h) (fun _ _ h => o_X3_acted h) rfl 1 (lw_V q2031 q2033 qs32 q87 q2034) ⟨rfl, xd_X3_acted⟩ ⟨rfl, rfl⟩ rfl hl.1 (Nat.le_of_ble_eq_true rfl) dX3_reject_56 (fun v14 H locs σ cells slots h hI => ?_)
      refine W.eq (g2 := F0 m 59 ls [.int v14]) rfl ?_
      exact xr_ireturn h hX hI dX3_reject_59
    · have h := xif_t h hc
      refine lv_bipush (v := (-4 : Int32)) hx hb dX3_reject_22 (by decide) ?_
      exact xr_ireturn h hX hI dX3_reject_24
  · have h := xif_t h hc
    refine lv_iconst (v := (-1 : Int32)) hx hb dX3_reject_12 (by decide) ?_
    exact xr_ireturn h hX hI dX3_reject_13
/-! PayMatch$State.pay(LPayMatch$Invoice;)I  -/
theorem w_X1_pay_b192 {a0 : Nat} {a1 : Nat} {r : Int32} (hX : xX E R p m c cX1_pay 10 s args RX1 "pay" meth (some .int) 6 150 σ0 σ9)
    (h : (f_X1_pay_b192 a0 a1).1 σ = some (r, σ9)) (hI : xI E σ0 σ s H locs cells slots) (hl : lv_has ls 10 [(0, .ref a0), (1, .ref a1)]) : W p l e R s m args below meth c H locs cells slots (xMQ E below args s σ0 σ9 (some (.int r))) (F0 m 192 ls []) := by
  have hx := hX.1.1
  have hb := hX.1.2.1
  delta f_X1_pay_b192 at h
  refine lv_aload_n hx hb dX1_pay_192 rfl (lv_at hl 0 rfl) ?_
  refine lv_bipush (v := (6 : Int32)) hx hb dX1_pay_193 (by decide) ?_
  refine lv_aload_n hx hb dX1_pay_195 rfl (lv_at hl 1 rfl) ?_
  refine xr_gI h hX hI xl_X1_159_4 dX1_pay_196 (fun v45 h => ?_)
  refine lv_aload_n hx hb dX1_pay_199 rfl (lv_at hl 1 rfl) ?_
  refine xr_gI h hX hI xl_X1_250_4.g dX1_pay_200 (fun v46 h => ?_)
  refine xr_callV (iv := (fun _ => none)) (As := [.int (6 : Int32), .int v45, .int v46]) (rest := []) h hX hI (fun _ _ h => w_X1_tell h) (fun _ _ h => o_X1_tell h) rfl 3 (lw_V q1449 q1450 q1451 q75 q1452) ⟨rfl, xd_X1_tell⟩ ⟨rfl, rfl⟩ rfl hl.1 (Nat.le_of_ble_eq_true rfl) dX1_pay_203 (fun _ H locs σ cells slots h hI => ?_)
  refine lv_aload_n hx hb dX1_pay_206 rfl (lv_at hl 1 rfl) ?_
  refine xr_gI h hX hI xl_X1_250_4.g dX1_pay_207 (fun v47 h => ?_)
  exact xr_ireturn h hX hI dX1_pay_210
theorem w_X1_pay_b140 {rec140 : Nat → Nat → Nat → Nat → Int32 → Int32 → xM Int32} {a0 : Nat} {a1 : Nat} {a2 : Nat} {a5 : Nat} {a6 : Int32} {a7 : Int32} {r : Int32} (hX : xX E R p m c cX1_pay 10 s args RX1 "pay" meth (some .int) 6 150 σ0 σ9) (hrec140 : ∀ (a0 : Nat) (a1 : Nat) (a2 : Nat) (a5 : Nat) (a6 : Int32) (a7 : Int32) (σ : xS) (H : Heap) (locs : List Loc) (cells slots : Nat) (ls : Array Slot), (rec140 a0 a1 a2 a5 a6 a7).1 σ = some (r, σ9) → xI E σ0 σ s H locs cells slots → lv_has ls 10 [(0, .ref a0), (1, .ref a1), (2, .ref a2), (5, .ref a5), (6, .int a6), (7, .int a7)] → W p l e R s m args below meth c H locs cells slots (xMQ E below args s σ0 σ9 (some (.int r))) (F0 m 140 ls []))
    (h : (f_X1_pay_b140 rec140 a0 a1 a2 a5 a6 a7).1 σ = some (r, σ9)) (hI : xI E σ0 σ s H locs cells slots) (hl : lv_has ls 10 [(0, .ref a0), (1, .ref a1), (2, .ref a2), (5, .ref a5), (6, .int a6), (7, .int a7)]) : W p l e R s m args below meth c H locs cells slots (xMQ E below args s σ0 σ9 (some (.int r))) (F0 m 140 ls []) := by
  have hx := hX.1.1
  have hb := hX.1.2.1
  delta f_X1_pay_b140 at h
  refine lv_iload hx hb dX1_pay_140 (lv_at hl 5 rfl) ?_
  refine lv_iload hx hb dX1_pay_142 (lv_at hl 4 rfl) ?_
  refine lv_icmp_ge (tgt := 192) hx hb dX1_pay_144 (by decide) (fun hc => ?_) (fun hc => ?_)
  · have h := xif_t h hc
    exact w_X1_pay_b192 hX h hI (lv_sub hl [0, 1] rfl)
  · have h := xif_f h hc
    refine lv_aload hx hb dX1_pay_147 (lv_at hl 3 rfl) ?_
    refine lv_iload hx hb dX1_pay_149 (lv_at hl 5 rfl) ?_
    refine xr_ldN h hX hI (by decide) dX1_pay_151 (fun v40 h => ?_)
    refine lv_astore (lv' := [(8, .ref v40), (0, .ref a0), (1, .ref a1), (2, .ref a2), (5, .ref a5), (6, .int a6), (7, .int a7)]) hx hb dX1_pay_152 hl (Nat.le_of_ble_eq_true rfl) rfl (fun ls hl => ?_)
    refine lv_aload_n hx hb dX1_pay_154 rfl (lv_at hl 1 rfl) ?_
    refine lv_aload_n hx hb dX1_pay_155 rfl (lv_at hl 2 rfl) ?_
    refine lv_aload hx hb dX1_pay_156 (lv_at hl 0 rfl) ?_
    refine xr_callV (iv := (fun b => some (.ref b))) (As := [.ref a1, .ref v40]) (rest := []) h hX hI (fun _ _ h => w_X1_lineOf h) (fun _ _ h => o_X1_lineOf h) rfl 2 (lw_V q1711 q1712 q1713 q75 q1714) ⟨rfl, xd_X1_lineOf⟩ ⟨rfl, rfl⟩ rfl hl.1 (Nat.le_of_ble_eq_true rfl) dX1_pay_158 (fun v41 H locs σ cells slots h hI => ?_)
    refine W.eq (g2 := F0 m 161 ls [.ref v41]) rfl ?_
    refine lv_astore (lv' := [(9, .ref v41), (8, .ref v40), (0, .ref a0), (1, .ref a1), (2, .ref a2), (5, .ref a5), (6, .int a6), (7, .int a7)]) hx hb dX1_pay_161 hl (Nat.le_of_ble_eq_true rfl) rfl (fun ls hl => ?_)
    refine lv_aload hx hb dX1_pay_163 (lv_at hl 0 rfl) ?_
    refine lv_dup hx hb dX1_pay_165 rfl ?_
    refine xr_gI h hX hI xl_X1_257_5.g dX1_pay_166 (fun v42 h => ?_)
    refine lv_aload hx hb dX1_pay_169 (lv_at hl 1 rfl) ?_
    refine xr_gI h hX hI xl_X1_178_9 dX1_pay_171 (fun v43 h => ?_)
    refine lv_iadd hx hb dX1_pay_174 ?_
    refine xr_pt h hX hI xl_X1_257_5 (Or.inl rfl) rfl rfl dX1_pay_175 (fun H locs σ h hI => ?_)
    refine lv_aload_n hx hb dX1_pay_178 rfl (lv_at hl 2 rfl) ?_
    refine lv_aload_n hx hb dX1_pay_179 rfl (lv_at hl 4 rfl) ?_
    refine lv_aload hx hb dX1_pay_180 (lv_at hl 0 rfl) ?_
    refine xr_callV (iv := (fun b => some (.int b))) (As := [.ref a2, .ref v41]) (rest := []) h hX hI (fun _ _ h => w_X1_claim h) (fun _ _ h => o_X1_claim h) rfl 2 (lw_V q1497 q1499 qs17 q75 q1500) ⟨rfl, xd_X1_claim⟩ ⟨rfl, rfl⟩ rfl hl.1 (Nat.le_of_ble_eq_true rfl) dX1_pay_182 (fun v44 H locs σ cells slots h hI => ?_)
    refine W.eq (g2 := F0 m 185 ls [.int v44]) rfl ?_
    refine lv_pop hx hb dX1_pay_185 rfl ?_
    refine lv_iinc (k := 7) (lv' := [(7, .int (a7 + (1 : Int32))), (9, .ref v41), (8, .ref v40), (0, .ref a0), (1, .ref a1), (2, .ref a2), (5, .ref a5), (6, .int a6)]) hx hb dX1_pay_186 hl rfl (xiinc (by decide)) (Nat.le_of_ble_eq_true rfl) rfl (fun ls hl => ?_)
    refine lv_goto (tgt := 140) hx hb dX1_pay_189 (by decide) ?_
    exact hrec140 a0 a1 a2 a5 a6 (a7 + (1 : Int32)) _ _ _ _ _ _ h hI (lv_sub hl [3, 4, 5, 6, 7, 0] rfl)
theorem w_X1_pay_L140 {r : Int32} (hX : xX E R p m c cX1_pay 10 s args RX1 "pay" meth (some .int) 6 150 σ0 σ9) : ∀ (n : Nat) (a0 : Nat) (a1 : Nat) (a2 : Nat) (a5 : Nat) (a6 : Int32) (a7 : Int32) (σ : xS) (H : Heap) (locs : List Loc) (cells slots : Nat) (ls : Array Slot), (f_X1_pay_L140 n a0 a1 a2 a5 a6 a7).1 σ = some (r, σ9) → xI E σ0 σ s H locs cells slots → lv_has ls 10 [(0, .ref a0), (1, .ref a1), (2, .ref a2), (5, .ref a5), (6, .int a6), (7, .int a7)] → W p l e R s m args below meth c H locs cells slots (xMQ E below args s σ0 σ9 (some (.int r))) (F0 m 140 ls []) := by
  intro n
  induction n with
  | zero =>
    intro a0 a1 a2 a5 a6 a7 σ H locs cells slots ls h
    exact xr_no h
  | succ n ih =>
    intro a0 a1 a2 a5 a6 a7 σ H locs cells slots ls h hI hl
    exact w_X1_pay_b140 hX ih h hI hl
theorem w_X1_pay_b47 {t0 : Nat} {t1 : Int32} {a0 : Nat} {a1 : Nat} {a2 : Nat} {a3 : Int32} {r : Int32} (hX : xX E R p m c cX1_pay 10 s args RX1 "pay" meth (some .int) 6 150 σ0 σ9)
    (h : (f_X1_pay_b47 t0 t1 a0 a1 a2 a3).1 σ = some (r, σ9)) (hI : xI E σ0 σ s H locs cells slots) (hl : lv_has ls 10 [(0, .ref a0), (1, .ref a1), (2, .ref a2), (3, .int a3)]) : W p l e R s m args below meth c H locs cells slots (xMQ E below args s σ0 σ9 (some (.int r))) (F0 m 47 ls [.int t1, .ref t0]) := by
  have hx := hX.1.1
  have hb := hX.1.2.1
  delta f_X1_pay_b47 at h
  refine xr_pt h hX hI xl_X1_247_4 (Or.inl rfl) rfl rfl dX1_pay_47 (fun H locs σ h hI => ?_)
  refine lv_iload_n hx hb dX1_pay_50 rfl (lv_at hl 3 rfl) ?_
  refine lv_aload_n hx hb dX1_pay_51 rfl (lv_at hl 1 rfl) ?_
  refine xr_gI h hX hI xl_X1_247_4.g dX1_pay_52 (fun v28 h => ?_)
  refine lv_isub hx hb dX1_pay_55 ?_
  refine lv_istore (lv' := [(4, .int (a3 - v28)), (0, .ref a0), (1, .ref a1), (2, .ref a2), (3, .int a3)]) hx hb dX1_pay_56 hl (Nat.le_of_ble_eq_true rfl) rfl (fun ls hl => ?_)
  refine lv_aload_n hx hb dX1_pay_58 rfl (lv_at hl 2 rfl) ?_
  refine lv_iload hx hb dX1_pay_59 (lv_at hl 0 rfl) ?_
  refine lv_aload_n hx hb dX1_pay_61 rfl (lv_at hl 3 rfl) ?_
  refine xr_gI h hX hI xl_X1_145_7.g dX1_pay_62 (fun v29 h => ?_)
  refine xr_callS (iv := (fun b => some (.int b))) (As := [.int (a3 - v28), .int v29]) (rest := [.ref a1]) h hX hI (fun _ _ h => w_J21_min h) 2 (lw_S q1753 q664 q101 q665) xd_J21_min ⟨rfl, rfl⟩ rfl hl.1 (Nat.le_of_ble_eq_true rfl) dX1_pay_65 (fun v30 H locs σ cells slots h hI => ?_)
  refine W.eq (g2 := F0 m 68 ls [.int v30, .ref a1]) rfl ?_
  refine xr_pt h hX hI xl_X1_249_4 (Or.inl rfl) rfl rfl dX1_pay_68 (fun H locs σ h hI => ?_)
  refine lv_aload_n hx hb dX1_pay_71 rfl (lv_at hl 2 rfl) ?_
  refine lv_iload hx hb dX1_pay_72 (lv_at hl 0 rfl) ?_
  refine lv_aload_n hx hb dX1_pay_74 rfl (lv_at hl 2 rfl) ?_
  refine xr_gI h hX hI xl_X1_249_4.g dX1_pay_75 (fun v31 h => ?_)
  refine lv_isub hx hb dX1_pay_78 ?_
  refine xr_pt h hX hI xl_X1_250_4 (Or.inl rfl) rfl rfl dX1_pay_79 (fun H locs σ h hI => ?_)
  refine lv_aload_n hx hb dX1_pay_82 rfl (lv_at hl 3 rfl) ?_
  refine lv_dup hx hb dX1_pay_83 rfl ?_
  refine xr_gI h hX hI xl_X1_145_7.g dX1_pay_84 (fun v32 h => ?_)
  refine lv_aload_n hx hb dX1_pay_87 rfl (lv_at hl 2 rfl) ?_
  refine xr_gI h hX hI xl_X1_249_4.g dX1_pay_88 (fun v33 h => ?_)
  refine lv_isub hx hb dX1_pay_91 ?_
  refine xr_pt h hX hI xl_X1_145_7 (Or.inl rfl) rfl rfl dX1_pay_92 (fun H locs σ h hI => ?_)
  refine lv_aload_n hx hb dX1_pay_95 rfl (lv_at hl 3 rfl) ?_
  refine lv_dup hx hb dX1_pay_96 rfl ?_
  refine xr_gI h hX hI xl_X1_253_7.g dX1_pay_97 (fun v34 h => ?_)
  refine lv_aload_n hx hb dX1_pay_100 rfl (lv_at hl 2 rfl) ?_
  refine xr_gI h hX hI xl_X1_250_4.g dX1_pay_101 (fun v35 h => ?_)
  refine lv_iadd hx hb dX1_pay_104 ?_
  refine xr_pt h hX hI xl_X1_253_7 (Or.inl rfl) rfl rfl dX1_pay_105 (fun H locs σ h hI => ?_)
  refine lv_aload_n hx hb dX1_pay_108 rfl (lv_at hl 3 rfl) ?_
  refine lv_dup hx hb dX1_pay_109 rfl ?_
  refine xr_gI h hX hI xl_X1_254_7.g dX1_pay_110 (fun v36 h => ?_)
  refine lv_aload_n hx hb dX1_pay_113 rfl (lv_at hl 2 rfl) ?_
  refine xr_gI h hX hI xl_X1_247_4.g dX1_pay_114 (fun v37 h => ?_)
  refine lv_iadd hx hb dX1_pay_117 ?_
  refine xr_pt h hX hI xl_X1_254_7 (Or.inl rfl) rfl rfl dX1_pay_118 (fun H locs σ h hI => ?_)
  refine lv_aload_n hx hb dX1_pay_121 rfl (lv_at hl 2 rfl) ?_
  refine lv_iconst (v := (3 : Int32)) hx hb dX1_pay_122 (by decide) ?_
  refine xr_pt h hX hI xl_X1_168_4 (Or.inl rfl) rfl rfl dX1_pay_123 (fun H locs σ h hI => ?_)
  refine lv_aload_n hx hb dX1_pay_126 rfl (lv_at hl 2 rfl) ?_
  refine xr_gN h hX hI xl_X1_190_4.g dX1_pay_127 (fun v38 h => ?_)
  refine lv_astore (lv' := [(5, .ref v38), (4, .int (a3 - v28)), (0, .ref a0), (1, .ref a1), (2, .ref a2), (3, .int a3)]) hx hb dX1_pay_130 hl (Nat.le_of_ble_eq_true rfl) rfl (fun ls hl => ?_)
  refine lv_aload hx hb dX1_pay_132 (lv_at hl 0 rfl) ?_
  refine xr_ln h hX hI dX1_pay_134 (fun v39 h => ?_)
  refine lv_istore (lv' := [(6, .int v39), (5, .ref v38), (4, .int (a3 - v28)), (0, .ref a0), (1, .ref a1), (2, .ref a2), (3, .int a3)]) hx hb dX1_pay_135 hl (Nat.le_of_ble_eq_true rfl) rfl (fun ls hl => ?_)
  refine lv_iconst (v := (0 : Int32)) hx hb dX1_pay_137 (by decide) ?_
  refine lv_istore (lv' := [(7, .int (0 : Int32)), (6, .int v39), (5, .ref v38), (4, .int (a3 - v28)), (0, .ref a0), (1, .ref a1), (2, .ref a2), (3, .int a3)]) hx hb dX1_pay_138 hl (Nat.le_of_ble_eq_true rfl) rfl (fun ls hl => ?_)
  exact w_X1_pay_L140 hX xFU a0 a1 a2 v38 v39 (0 : Int32) _ _ _ _ _ _ h hI (lv_sub hl [4, 5, 6, 2, 1, 0] rfl)
theorem o_X1_pay {a0 : Nat} {a1 : Nat} {r : Int32} {σ σ9 : xS} (h : (f_X1_pay a0 a1).1 σ = some (r, σ9)) : ∃ fs, σ.1 a0 = some (.inl (1, fs)) := xck_of h
theorem w_X1_pay {E : xE} {l : Launch} {a0 : Nat} {a1 : Nat} {r : Int32} {σ σ9 : xS} (h : (f_X1_pay a0 a1).1 σ = some (r, σ9)) : xMet E l yX1_pay (ws_ yX1_pay cX1_pay 10 (some .int)) 6 150 [.ref a0, .ref a1] σ σ9 (some (.int r)) := by
  refine xstart (by decide +kernel) ((f_X1_pay a0 a1).2 _ _ _ h) (Nat.le_of_ble_eq_true rfl) ?_
  intro p e s m args below meth c H locs cells slots ls R hX hI hl
  have hx := hX.1.1
  have hb := hX.1.2.1
  have hl : lv_has ls 10 [(0, .ref a0), (1, .ref a1)] := hl
  generalize hσ0 : σ = σ0 at hX hI ⊢
  have h : (f_X1_pay a0 a1).1 σ0 = some (r, σ9) := by rw [← hσ0]; exact h
  clear hσ0
  delta f_X1_pay at h
  have h := (xck_bd h).2
  refine lv_aload_n hx hb dX1_pay_0 rfl (lv_at hl 0 rfl) ?_
  refine lv_aload_n hx hb dX1_pay_1 rfl (lv_at hl 1 rfl) ?_
  refine xr_gI h hX hI xl_X1_108_4 dX1_pay_2 (fun v48 h => ?_)
  refine xr_callV (iv := (fun b => some (.ref b))) (As := [.int v48]) (rest := []) h hX hI (fun _ _ h => w_X1_supplierOf h) (fun _ _ h => o_X1_supplierOf h) rfl 1 (lw_V q1496 q1435 q1436 q75 q1437) ⟨rfl, xd_X1_supplierOf⟩ ⟨rfl, rfl⟩ rfl hl.1 (Nat.le_of_ble_eq_true rfl) dX1_pay_5 (fun v49 H locs σ cells slots h hI => ?_)
  refine W.eq (g2 := F0 m 8 ls [.ref v49]) rfl ?_
  refine lv_astore_n (lv' := [(2, .ref v49), (0, .ref a0), (1, .ref a1)]) hx hb dX1_pay_8 rfl hl (Nat.le_of_ble_eq_true rfl) rfl (fun ls hl => ?_)
  refine lv_aload_n hx hb dX1_pay_9 rfl (lv_at hl 2 rfl) ?_
  refine xr_callV (iv := (fun b => some (.int b))) (As := []) (rest := []) h hX hI (fun _ _ h => w_X4_total h) (fun _ _ h => o_X4_total h) rfl 0 (lw_V q1543 q1544 q1545 q105 q1546) ⟨rfl, xd_X4_total⟩ ⟨rfl, rfl⟩ rfl hl.1 (Nat.le_of_ble_eq_true rfl) dX1_pay_10 (fun v50 H locs σ cells slots h hI => ?_)
  refine W.eq (g2 := F0 m 13 ls [.int v50]) rfl ?_
  refine lv_istore_n (lv' := [(3, .int v50), (2, .ref v49), (0, .ref a0), (1, .ref a1)]) hx hb dX1_pay_13 rfl hl (Nat.le_of_ble_eq_true rfl) rfl (fun ls hl => ?_)
  refine lv_aload_n hx hb dX1_pay_14 rfl (lv_at hl 3 rfl) ?_
  refine lv_aload_n hx hb dX1_pay_15 rfl (lv_at hl 2 rfl) ?_
  refine xr_gI h hX hI xl_X1_69_1.g dX1_pay_16 (fun v51 h => ?_)
  refine lv_aload_n hx hb dX1_pay_19 rfl (lv_at hl 3 rfl) ?_
  refine xr_gI h hX hI xl_X1_244_4 dX1_pay_20 (fun v52 h => ?_)
  refine lv_aload_n hx hb dX1_pay_23 rfl (lv_at hl 2 rfl) ?_
  refine xr_gI h hX hI xl_X1_37_1.g dX1_pay_24 (fun v53 h => ?_)
  refine lv_iadd hx hb dX1_pay_27 ?_
  refine lv_icmp_gt (tgt := 46) hx hb dX1_pay_28 (by decide) (fun hc => ?_) (fun hc => ?_)
  · have h := xif_t h hc
    refine lv_iconst (v := (0 : Int32)) hx hb dX1_pay_46 (by decide) ?_
    exact w_X1_pay_b47 hX h hI (lv_sub hl [2, 3, 1, 0] rfl)
  · have h := xif_f h hc
    refine lv_iload_n hx hb dX1_pay_31 rfl (lv_at hl 0 rfl) ?_
    refine lv_i2d hx hb dX1_pay_32 ?_
    refine lv_aload_n hx hb dX1_pay_33 rfl (lv_at hl 2 rfl) ?_
    refine xr_gD h hX hI xl_X1_33_1.g dX1_pay_34 (fun v54 h => ?_)
    refine xr_dmul h hx hb dX1_pay_37 (fun h => ?_)
    refine lv_ldc2d (v := (4636737291354636288 : UInt64)) hx hb hX.1.2.2.2.1 (hX.1.2.2.2.2 _ q1770) dX1_pay_38 ?_
    refine xr_ddiv h hx hb dX1_pay_41 (fun h => ?_)
    refine lv_d2i hx hb dX1_pay_42 ?_
    refine lv_goto (tgt := 47) hx hb dX1_pay_43 (by decide) ?_
    exact w_X1_pay_b47 hX h hI (lv_sub hl [2, 3, 1, 0] rfl)
/-! PayMatch.pay(I)I  -/
theorem o_X0_pay {a0 : Nat} {a1 : Int32} {r : Int32} {σ σ9 : xS} (h : (f_X0_pay a0 a1).1 σ = some (r, σ9)) : ∃ fs, σ.1 a0 = some (.inl (0, fs)) := xck_of h
theorem w_X0_pay {E : xE} {l : Launch} {a0 : Nat} {a1 : Int32} {r : Int32} {σ σ9 : xS} (h : (f_X0_pay a0 a1).1 σ = some (r, σ9)) : xMet E l yX0_pay (ws_ yX0_pay cX0_pay 5 (some .int)) 14 438 [.ref a0, .int a1] σ σ9 (some (.int r)) := by
  refine xstart (by decide +kernel) ((f_X0_pay a0 a1).2 _ _ _ h) (Nat.le_of_ble_eq_true rfl) ?_
  intro p e s m args below meth c H locs cells slots ls R hX hI hl
  have hx := hX.1.1
  have hb := hX.1.2.1
  have hl : lv_has ls 5 [(0, .ref a0), (1, .int a1)] := hl
  generalize hσ0 : σ = σ0 at hX hI ⊢
  have h : (f_X0_pay a0 a1).1 σ0 = some (r, σ9) := by rw [← hσ0]; exact h
  clear hσ0
  delta f_X0_pay at h
  have h := (xck_bd h).2
  refine lv_aload_n hx hb dX0_pay_0 rfl (lv_at hl 0 rfl) ?_
  refine xr_gN h hX hI xl_X0_22_0.g dX0_pay_1 (fun v18 h => ?_)
  refine xr_gN h hX hI xl_X0_211_1.g dX0_pay_4 (fun v19 h => ?_)
  refine lv_iload_n hx hb dX0_pay_7 rfl (lv_at hl 1 rfl) ?_
  refine xr_callV (iv := (fun b => some (.int b))) (As := [.int a1]) (rest := []) h hX hI (fun _ _ h => w_X2_has h) (fun _ _ h => o_X2_has h) rfl 1 (lw_V q1225 q1226 q1227 q76 q1228) ⟨rfl, xd_X2_has⟩ ⟨rfl, rfl⟩ rfl hl.1 (Nat.le_of_ble_eq_true rfl) dX0_pay_8 (fun v20 H locs σ cells slots h hI => ?_)
  refine W.eq (g2 := F0 m 11 ls [.int v20]) rfl ?_
  refine lv_if_ne (tgt := 16) hx hb dX0_pay_11 (by decide) (fun hc => ?_) (fun hc => ?_)
  · have h := xif_f h hc
    refine lv_aload_n hx hb dX0_pay_16 rfl (lv_at hl 0 rfl) ?_
    refine xr_gN h hX hI xl_X0_22_0.g dX0_pay_17 (fun v21 h => ?_)
    refine xr_gN h hX hI xl_X0_211_1.g dX0_pay_20 (fun v22 h => ?_)
    refine lv_iload_n hx hb dX0_pay_23 rfl (lv_at hl 1 rfl) ?_
    refine xr_callV (iv := (fun b => some (.ref b))) (As := [.int a1]) (rest := []) h hX hI (fun _ _ h => w_X2_get h) (fun _ _ h => o_X2_get h) rfl 1 (lw_V q1249 q1250 q1251 q76 q1252) ⟨rfl, xd_X2_get⟩ ⟨rfl, rfl⟩ rfl hl.1 (Nat.le_of_ble_eq_true rfl) dX0_pay_24 (fun v23 H locs σ cells slots h hI => ?_)
    refine W.eq (g2 := F0 m 27 ls [.ref v23]) rfl ?_
    refine xr_cks h hX hI xc_X0_261 dX0_pay_27 (fun h => ?_)
    refine lv_astore_n (lv' := [(2, .ref v23), (0, .ref a0), (1, .int a1)]) hx hb dX0_pay_30 rfl hl (Nat.le_of_ble_eq_true rfl) rfl (fun ls hl => ?_)
    refine lv_aload_n hx hb dX0_pay_31 rfl (lv_at hl 0 rfl) ?_
    refine xr_gI h hX hI xl_X0_266_4.g dX0_pay_32 (fun v24 h => ?_)
    refine lv_iconst (v := (1 : Int32)) hx hb dX0_pay_35 (by decide) ?_
    refine lv_icmp_ne (tgt := 56) hx hb dX0_pay_36 (by decide) (fun hc => ?_) (fun hc => ?_)
    · have h := xif_f h hc
      refine lv_bipush (v := (-4 : Int32)) hx hb dX0_pay_56 (by decide) ?_
      exact xr_ireturn h hX hI dX0_pay_58
    · have h := xif_t h hc
      refine lv_aload_n hx hb dX0_pay_39 rfl (lv_at hl 1 rfl) ?_
      refine xr_gN h hX hI xl_X0_22_0.g dX0_pay_40 (fun v25 h => ?_)
      refine lv_aload_n hx hb dX0_pay_43 rfl (lv_at hl 0 rfl) ?_
      refine xr_gI h hX hI xl_X0_286_4 dX0_pay_44 (fun v26 h => ?_)
      refine xr_callV (iv := (fun b => some (.ref b))) (As := [.int v26]) (rest := []) h hX hI (fun _ _ h => w_X1_supplierOf h) (fun _ _ h => o_X1_supplierOf h) rfl 1 (lw_V q1434 q1435 q1436 q75 q1437) ⟨rfl, xd_X1_supplierOf⟩ ⟨rfl, rfl⟩ rfl hl.1 (Nat.le_of_ble_eq_true rfl) dX0_pay_47 (fun v27 H locs σ cells slots h hI => ?_)
      refine W.eq (g2 := F0 m 50 ls [.ref v27]) rfl ?_
      refine xr_gI h hX hI xl_X0_111_7.g dX0_pay_50 (fun v28 h => ?_)
      refine lv_if_eq (tgt := 59) hx hb dX0_pay_53 (by decide) (fun hc => ?_) (fun hc => ?_)
      · have h := xif_t h hc
        refine lv_aload_n hx hb dX0_pay_59 rfl (lv_at hl 1 rfl) ?_
        refine xr_gN h hX hI xl_X0_22_0.g dX0_pay_60 (fun v29 h => ?_)
        refine xr_callV (iv := (fun b => some (.ref b))) (As := []) (rest := []) h hX hI (fun _ _ h => w_X1_copy h) (fun _ _ h => o_X1_copy h) rfl 0 (lw_V q323 q324 q325 q75 q326) ⟨rfl, xd_X1_copy⟩ ⟨rfl, rfl⟩ rfl hl.1 (Nat.le_of_ble_eq_true rfl) dX0_pay_63 (fun v30 H locs σ cells slots h hI => ?_)
        refine W.eq (g2 := F0 m 66 ls [.ref v30]) rfl ?_
        refine lv_astore_n (lv' := [(3, .ref v30), (2, .ref v23), (0, .ref a0), (1, .int a1)]) hx hb dX0_pay_66 rfl hl (Nat.le_of_ble_eq_true rfl) rfl (fun ls hl => ?_)
        refine lv_aload_n hx hb dX0_pay_67 rfl (lv_at hl 0 rfl) ?_
        refine lv_aload_n hx hb dX0_pay_68 rfl (lv_at hl 0 rfl) ?_
        refine xr_gN h hX hI xl_X0_211_1.g dX0_pay_69 (fun v31 h => ?_)
        refine lv_iload_n hx hb dX0_pay_72 rfl (lv_at hl 3 rfl) ?_
        refine xr_callV (iv := (fun b => some (.ref b))) (As := [.int a1]) (rest := [.ref v30]) h hX hI (fun _ _ h => w_X2_get h) (fun _ _ h => o_X2_get h) rfl 1 (lw_V q1249 q1250 q1251 q76 q1252) ⟨rfl, xd_X2_get⟩ ⟨rfl, rfl⟩ rfl hl.1 (Nat.le_of_ble_eq_true rfl) dX0_pay_73 (fun v32 H locs σ cells slots h hI => ?_)
        refine W.eq (g2 := F0 m 76 ls [.ref v32, .ref v30]) rfl ?_
        refine xr_cks h hX hI xc_X0_261 dX0_pay_76 (fun h => ?_)
        refine xr_callV (iv := (fun b => some (.int b))) (As := [.ref v32]) (rest := []) h hX hI (fun _ _ h => w_X1_pay h) (fun _ _ h => o_X1_pay h) rfl 1 (lw_V q1766 q1767 q1768 q75 q1769) ⟨rfl, xd_X1_pay⟩ ⟨rfl, rfl⟩ rfl hl.1 (Nat.le_of_ble_eq_true rfl) dX0_pay_79 (fun v33 H locs σ cells slots h hI => ?_)
        refine W.eq (g2 := F0 m 82 ls [.int v33]) rfl ?_
        refine lv_istore (lv' := [(4, .int v33), (3, .ref v30), (2, .ref v23), (0, .ref a0), (1, .int a1)]) hx hb dX0_pay_82 hl (Nat.le_of_ble_eq_true rfl) rfl (fun ls hl => ?_)
        refine lv_aload_n hx hb dX0_pay_84 rfl (lv_at hl 3 rfl) ?_
        refine lv_aload_n hx hb dX0_pay_85 rfl (lv_at hl 1 rfl) ?_
        refine lv_iload hx hb dX0_pay_86 (lv_at hl 0 rfl) ?_
        refine xr_callV (iv := (fun b => some (.int b))) (As := [.ref v30, .int v33]) (rest := []) h hX hI (fun _ _ h => w_X0_become h) (fun _ _ h => o_X0_become h) rfl 2 (lw_V q1182 q1184 qs9 q74 q1185) ⟨rfl, xd_X0_become⟩ ⟨rfl, rfl⟩ rfl hl.1 (Nat.le_of_ble_eq_true rfl) dX0_pay_88 (fun v34 H locs σ cells slots h hI => ?_)
        refine W.eq (g2 := F0 m 91 ls [.int v34]) rfl ?_
        exact xr_ireturn h hX hI dX0_pay_91
      · have h := xif_f h hc
        refine lv_bipush (v := (-4 : Int32)) hx hb dX0_pay_56 (by decide) ?_
        exact xr_ireturn h hX hI dX0_pay_58
  · have h := xif_t h hc
    refine lv_iconst (v := (-1 : Int32)) hx hb dX0_pay_14 (by decide) ?_
    exact xr_ireturn h hX hI dX0_pay_15
/-! PayMatchModel.canBePaid(I)Z  -/
theorem o_X3_canBePaid {a0 : Nat} {a1 : Int32} {r : Int32} {σ σ9 : xS} (h : (f_X3_canBePaid a0 a1).1 σ = some (r, σ9)) : ∃ fs, σ.1 a0 = some (.inl (3, fs)) := xck_of h
theorem w_X3_canBePaid {E : xE} {l : Launch} {a0 : Nat} {a1 : Int32} {r : Int32} {σ σ9 : xS} (h : (f_X3_canBePaid a0 a1).1 σ = some (r, σ9)) : xMet E l yX3_canBePaid (ws_ yX3_canBePaid cX3_canBePaid 2 (some .boolean)) 3 63 [.ref a0, .int a1] σ σ9 (some (.int r)) := by
  refine xstart (by decide +kernel) ((f_X3_canBePaid a0 a1).2 _ _ _ h) (Nat.le_of_ble_eq_true rfl) ?_
  intro p e s m args below meth c H locs cells slots ls R hX hI hl
  have hx := hX.1.1
  have hb := hX.1.2.1
  have hl : lv_has ls 2 [(0, .ref a0), (1, .int a1)] := hl
  generalize hσ0 : σ = σ0 at hX hI ⊢
  have h : (f_X3_canBePaid a0 a1).1 σ0 = some (r, σ9) := by rw [← hσ0]; exact h
  clear hσ0
  delta f_X3_canBePaid at h
  have h := (xck_bd h).2
  refine lv_aload_n hx hb dX3_canBePaid_0 rfl (lv_at hl 0 rfl) ?_
  refine lv_iload_n hx hb dX3_canBePaid_1 rfl (lv_at hl 1 rfl) ?_
  refine lv_iconst (v := (4 : Int32)) hx hb dX3_canBePaid_2 (by decide) ?_
  refine xr_callS (iv := (fun b => some (.int b))) (As := [.int a1, .int (4 : Int32)]) (rest := [.ref a0]) h hX hI (fun _ _ h => w_X3_ofInvoice h) 2 (lw_S q2068 q2069 q87 q2070) xd_X3_ofInvoice ⟨rfl, rfl⟩ rfl hl.1 (Nat.le_of_ble_eq_true rfl) dX3_canBePaid_3 (fun v5 H locs σ cells slots h hI => ?_)
  refine W.eq (g2 := F0 m 6 ls [.int v5, .ref a0]) rfl ?_
  refine xr_callV (iv := (fun b => some (.int b))) (As := [.int v5]) (rest := []) h hX hI (fun _ _ h => w_X3_at h) (fun _ _ h => o_X3_at h) rfl 1 (lw_V q2022 q2024 qs31 q87 q2025) ⟨rfl, xd_X3_at⟩ ⟨rfl, rfl⟩ rfl hl.1 (Nat.le_of_ble_eq_true rfl) dX3_canBePaid_6 (fun v6 H locs σ cells slots h hI => ?_)
  refine W.eq (g2 := F0 m 9 ls [.int v6]) rfl ?_
  refine lv_iconst (v := (1 : Int32)) hx hb dX3_canBePaid_9 (by decide) ?_
  refine lv_icmp_ne (tgt := 29) hx hb dX3_canBePaid_10 (by decide) (fun hc => ?_) (fun hc => ?_)
  · have h := xif_f h hc
    refine lv_iconst (v := (0 : Int32)) hx hb dX3_canBePaid_29 (by decide) ?_
    exact xr_zreturn h hX hI dX3_canBePaid_30
  · have h := xif_t h hc
    refine lv_aload_n hx hb dX3_canBePaid_13 rfl (lv_at hl 0 rfl) ?_
    refine lv_aload_n hx hb dX3_canBePaid_14 rfl (lv_at hl 0 rfl) ?_
    refine lv_iload_n hx hb dX3_canBePaid_15 rfl (lv_at hl 1 rfl) ?_
    refine xr_callV (iv := (fun b => some (.int b))) (As := [.int a1]) (rest := [.ref a0]) h hX hI (fun _ _ h => w_X3_payee h) (fun _ _ h => o_X3_payee h) rfl 1 (lw_V q2064 q2066 qs35 q87 q2067) ⟨rfl, xd_X3_payee⟩ ⟨rfl, rfl⟩ rfl hl.1 (Nat.le_of_ble_eq_true rfl) dX3_canBePaid_16 (fun v7 H locs σ cells slots h hI => ?_)
    refine W.eq (g2 := F0 m 19 ls [.int v7, .ref a0]) rfl ?_
    refine xr_callV (iv := (fun b => some (.int b))) (As := [.int v7]) (rest := []) h hX hI (fun _ _ h => w_X3_isBlocked h) (fun _ _ h => o_X3_isBlocked h) rfl 1 (lw_V q2060 q2062 qs34 q87 q2063) ⟨rfl, xd_X3_isBlocked⟩ ⟨rfl, rfl⟩ rfl hl.1 (Nat.le_of_ble_eq_true rfl) dX3_canBePaid_19 (fun v8 H locs σ cells slots h hI => ?_)
    refine W.eq (g2 := F0 m 22 ls [.int v8]) rfl ?_
    refine lv_if_ne (tgt := 29) hx hb dX3_canBePaid_22 (by decide) (fun hc => ?_) (fun hc => ?_)
    · have h := xif_f h hc
      refine lv_iconst (v := (0 : Int32)) hx hb dX3_canBePaid_29 (by decide) ?_
      exact xr_zreturn h hX hI dX3_canBePaid_30
    · have h := xif_t h hc
      refine lv_iconst (v := (1 : Int32)) hx hb dX3_canBePaid_25 (by decide) ?_
      refine lv_goto (tgt := 30) hx hb dX3_canBePaid_26 (by decide) ?_
      exact xr_zreturn h hX hI dX3_canBePaid_30
/-! PayMatchModel.pays(I)I  -/
theorem w_X3_pays_b281 {a0 : Nat} {a1 : Int32} {a6 : Int32} {a7 : Int32} {r : Int32} (hX : xX E R p m c cX3_pays 9 s args RX3 "pays" meth (some .int) 5 149 σ0 σ9)
    (h : (f_X3_pays_b281 a0 a1 a6 a7).1 σ = some (r, σ9)) (hI : xI E σ0 σ s H locs cells slots) (hl : lv_has ls 9 [(0, .ref a0), (1, .int a1), (6, .int a6), (7, .int a7)]) : W p l e R s m args below meth c H locs cells slots (xMQ E below args s σ0 σ9 (some (.int r))) (F0 m 281 ls []) := by
  have hx := hX.1.1
  have hb := hX.1.2.1
  delta f_X3_pays_b281 at h
  refine lv_aload_n hx hb dX3_pays_281 rfl (lv_at hl 0 rfl) ?_
  refine lv_bipush (v := (6 : Int32)) hx hb dX3_pays_282 (by decide) ?_
  refine lv_iload_n hx hb dX3_pays_284 rfl (lv_at hl 1 rfl) ?_
  refine lv_iload hx hb dX3_pays_285 (lv_at hl 2 rfl) ?_
  refine lv_iload hx hb dX3_pays_287 (lv_at hl 3 rfl) ?_
  refine lv_isub hx hb dX3_pays_289 ?_
  refine xr_callV (iv := (fun _ => none)) (As := [.int (6 : Int32), .int a1, .int (a6 - a7)]) (rest := []) h hX hI (fun _ _ h => w_X3_log h) (fun _ _ h => o_X3_log h) rfl 3 (lw_V q2140 q2142 qs43 q87 q2143) ⟨rfl, xd_X3_log⟩ ⟨rfl, rfl⟩ rfl hl.1 (Nat.le_of_ble_eq_true rfl) dX3_pays_290 (fun _ H locs σ cells slots h hI => ?_)
  refine lv_iload hx hb dX3_pays_293 (lv_at hl 2 rfl) ?_
  refine lv_iload hx hb dX3_pays_295 (lv_at hl 3 rfl) ?_
  refine lv_isub hx hb dX3_pays_297 ?_
  exact xr_ireturn h hX hI dX3_pays_298
theorem w_X3_pays_b216 {rec216 : Nat → Int32 → Int32 → Int32 → Int32 → Int32 → xM Int32} {a0 : Nat} {a1 : Int32} {a2 : Int32} {a6 : Int32} {a7 : Int32} {a8 : Int32} {r : Int32} (hX : xX E R p m c cX3_pays 9 s args RX3 "pays" meth (some .int) 5 149 σ0 σ9) (hrec216 : ∀ (a0 : Nat) (a1 : Int32) (a2 : Int32) (a6 : Int32) (a7 : Int32) (a8 : Int32) (σ : xS) (H : Heap) (locs : List Loc) (cells slots : Nat) (ls : Array Slot), (rec216 a0 a1 a2 a6 a7 a8).1 σ = some (r, σ9) → xI E σ0 σ s H locs cells slots → lv_has ls 9 [(0, .ref a0), (1, .int a1), (2, .int a2), (6, .int a6), (7, .int a7), (8, .int a8)] → W p l e R s m args below meth c H locs cells slots (xMQ E below args s σ0 σ9 (some (.int r))) (F0 m 216 ls []))
    (h : (f_X3_pays_b216 rec216 a0 a1 a2 a6 a7 a8).1 σ = some (r, σ9)) (hI : xI E σ0 σ s H locs cells slots) (hl : lv_has ls 9 [(0, .ref a0), (1, .int a1), (2, .int a2), (6, .int a6), (7, .int a7), (8, .int a8)]) : W p l e R s m args below meth c H locs cells slots (xMQ E below args s σ0 σ9 (some (.int r))) (F0 m 216 ls []) := by
  have hx := hX.1.1
  have hb := hX.1.2.1
  delta f_X3_pays_b216 at h
  refine lv_iload hx hb dX3_pays_216 (lv_at hl 5 rfl) ?_
  refine lv_aload_n hx hb dX3_pays_218 rfl (lv_at hl 0 rfl) ?_
  refine lv_iload_n hx hb dX3_pays_219 rfl (lv_at hl 1 rfl) ?_
  refine lv_iconst (v := (3 : Int32)) hx hb dX3_pays_220 (by decide) ?_
  refine xr_callS (iv := (fun b => some (.int b))) (As := [.int a1, .int (3 : Int32)]) (rest := [.ref a0, .int a8]) h hX hI (fun _ _ h => w_X3_ofInvoice h) 2 (lw_S q2068 q2069 q87 q2070) xd_X3_ofInvoice ⟨rfl, rfl⟩ rfl hl.1 (Nat.le_of_ble_eq_true rfl) dX3_pays_221 (fun v61 H locs σ cells slots h hI => ?_)
  refine W.eq (g2 := F0 m 224 ls [.int v61, .ref a0, .int a8]) rfl ?_
  refine xr_callV (iv := (fun b => some (.int b))) (As := [.int v61]) (rest := [.int a8]) h hX hI (fun _ _ h => w_X3_at h) (fun _ _ h => o_X3_at h) rfl 1 (lw_V q2022 q2024 qs31 q87 q2025) ⟨rfl, xd_X3_at⟩ ⟨rfl, rfl⟩ rfl hl.1 (Nat.le_of_ble_eq_true rfl) dX3_pays_224 (fun v62 H locs σ cells slots h hI => ?_)
  refine W.eq (g2 := F0 m 227 ls [.int v62, .int a8]) rfl ?_
  refine lv_icmp_ge (tgt := 281) hx hb dX3_pays_227 (by decide) (fun hc => ?_) (fun hc => ?_)
  · have h := xif_t h hc
    exact w_X3_pays_b281 hX h hI (lv_sub hl [0, 1, 3, 4] rfl)
  · have h := xif_f h hc
    refine lv_aload_n hx hb dX3_pays_230 rfl (lv_at hl 0 rfl) ?_
    refine xr_gN h hX hI xl_X3_13_3.g dX3_pays_231 (fun v63 h => ?_)
    refine lv_iload_n hx hb dX3_pays_234 rfl (lv_at hl 2 rfl) ?_
    refine lv_aload_n hx hb dX3_pays_235 rfl (lv_at hl 0 rfl) ?_
    refine lv_iload_n hx hb dX3_pays_236 rfl (lv_at hl 1 rfl) ?_
    refine lv_iload hx hb dX3_pays_237 (lv_at hl 5 rfl) ?_
    refine lv_iconst (v := (0 : Int32)) hx hb dX3_pays_239 (by decide) ?_
    refine xr_callV (iv := (fun b => some (.int b))) (As := [.int a1, .int a8, .int (0 : Int32)]) (rest := [.int a2, .ref v63]) h hX hI (fun _ _ h => w_X3_entryOf h) (fun _ _ h => o_X3_entryOf h) rfl 3 (lw_V q2177 q2179 qs50 q87 q2180) ⟨rfl, xd_X3_entryOf⟩ ⟨rfl, rfl⟩ rfl hl.1 (Nat.le_of_ble_eq_true rfl) dX3_pays_240 (fun v64 H locs σ cells slots h hI => ?_)
    refine W.eq (g2 := F0 m 243 ls [.int v64, .int a2, .ref v63]) rfl ?_
    refine lv_bipush (v := (6 : Int32)) hx hb dX3_pays_243 (by decide) ?_
    refine xr_callS (iv := (fun b => some (.int b))) (As := [.int a2, .int v64, .int (6 : Int32)]) (rest := [.ref v63]) h hX hI (fun _ _ h => w_X3_ofLine h) 3 (lw_S q2103 q2104 q87 q2105) xd_X3_ofLine ⟨rfl, rfl⟩ rfl hl.1 (Nat.le_of_ble_eq_true rfl) dX3_pays_245 (fun v65 H locs σ cells slots h hI => ?_)
    refine W.eq (g2 := F0 m 248 ls [.int v65, .ref v63]) rfl ?_
    refine lv_dup2_11 hx hb dX3_pays_248 rfl rfl ?_
    refine xr_ldL h hX hI dX3_pays_249 (fun v66 h => ?_)
    refine lv_aload_n hx hb dX3_pays_250 rfl (lv_at hl 0 rfl) ?_
    refine lv_iload_n hx hb dX3_pays_251 rfl (lv_at hl 1 rfl) ?_
    refine lv_iload hx hb dX3_pays_252 (lv_at hl 5 rfl) ?_
    refine lv_iconst (v := (1 : Int32)) hx hb dX3_pays_254 (by decide) ?_
    refine xr_callV (iv := (fun b => some (.int b))) (As := [.int a1, .int a8, .int (1 : Int32)]) (rest := [.long v66, .int v65, .ref v63]) h hX hI (fun _ _ h => w_X3_entryOf h) (fun _ _ h => o_X3_entryOf h) rfl 3 (lw_V q2177 q2179 qs50 q87 q2180) ⟨rfl, xd_X3_entryOf⟩ ⟨rfl, rfl⟩ rfl hl.1 (Nat.le_of_ble_eq_true rfl) dX3_pays_255 (fun v67 H locs σ cells slots h hI => ?_)
    refine W.eq (g2 := F0 m 258 ls [.int v67, .long v66, .int v65, .ref v63]) rfl ?_
    refine lv_i2l hx hb dX3_pays_258 rfl ?_
    refine lv_ladd hx hb dX3_pays_259 ?_
    refine xr_stL h hX hI dX3_pays_260 (fun H locs σ h hI => ?_)
    refine lv_aload_n hx hb dX3_pays_261 rfl (lv_at hl 0 rfl) ?_
    refine lv_iload_n hx hb dX3_pays_262 rfl (lv_at hl 2 rfl) ?_
    refine lv_aload_n hx hb dX3_pays_263 rfl (lv_at hl 0 rfl) ?_
    refine lv_iload_n hx hb dX3_pays_264 rfl (lv_at hl 1 rfl) ?_
    refine lv_iload hx hb dX3_pays_265 (lv_at hl 5 rfl) ?_
    refine lv_iconst (v := (0 : Int32)) hx hb dX3_pays_267 (by decide) ?_
    refine xr_callV (iv := (fun b => some (.int b))) (As := [.int a1, .int a8, .int (0 : Int32)]) (rest := [.int a2, .ref a0]) h hX hI (fun _ _ h => w_X3_entryOf h) (fun _ _ h => o_X3_entryOf h) rfl 3 (lw_V q2177 q2179 qs50 q87 q2180) ⟨rfl, xd_X3_entryOf⟩ ⟨rfl, rfl⟩ rfl hl.1 (Nat.le_of_ble_eq_true rfl) dX3_pays_268 (fun v68 H locs σ cells slots h hI => ?_)
    refine W.eq (g2 := F0 m 271 ls [.int v68, .int a2, .ref a0]) rfl ?_
    refine xr_callV (iv := (fun b => some (.int b))) (As := [.int a2, .int v68]) (rest := []) h hX hI (fun _ _ h => w_X3_claims h) (fun _ _ h => o_X3_claims h) rfl 2 (lw_V q2148 q2150 qs44 q87 q2151) ⟨rfl, xd_X3_claims⟩ ⟨rfl, rfl⟩ rfl hl.1 (Nat.le_of_ble_eq_true rfl) dX3_pays_271 (fun v69 H locs σ cells slots h hI => ?_)
    refine W.eq (g2 := F0 m 274 ls [.int v69]) rfl ?_
    refine lv_pop hx hb dX3_pays_274 rfl ?_
    refine lv_iinc (k := 5) (lv' := [(8, .int (a8 + (1 : Int32))), (0, .ref a0), (1, .int a1), (2, .int a2), (6, .int a6), (7, .int a7)]) hx hb dX3_pays_275 hl rfl (xiinc (by decide)) (Nat.le_of_ble_eq_true rfl) rfl (fun ls hl => ?_)
    refine lv_goto (tgt := 216) hx hb dX3_pays_278 (by decide) ?_
    exact hrec216 a0 a1 a2 a6 a7 (a8 + (1 : Int32)) _ _ _ _ _ _ h hI (lv_sub hl [1, 2, 3, 4, 5, 0] rfl)
theorem w_X3_pays_L216 {r : Int32} (hX : xX E R p m c cX3_pays 9 s args RX3 "pays" meth (some .int) 5 149 σ0 σ9) : ∀ (n : Nat) (a0 : Nat) (a1 : Int32) (a2 : Int32) (a6 : Int32) (a7 : Int32) (a8 : Int32) (σ : xS) (H : Heap) (locs : List Loc) (cells slots : Nat) (ls : Array Slot), (f_X3_pays_L216 n a0 a1 a2 a6 a7 a8).1 σ = some (r, σ9) → xI E σ0 σ s H locs cells slots → lv_has ls 9 [(0, .ref a0), (1, .int a1), (2, .int a2), (6, .int a6), (7, .int a7), (8, .int a8)] → W p l e R s m args below meth c H locs cells slots (xMQ E below args s σ0 σ9 (some (.int r))) (F0 m 216 ls []) := by
  intro n
  induction n with
  | zero =>
    intro a0 a1 a2 a6 a7 a8 σ H locs cells slots ls h
    exact xr_no h
  | succ n ih =>
    intro a0 a1 a2 a6 a7 a8 σ H locs cells slots ls h hI hl
    exact w_X3_pays_b216 hX ih h hI hl
theorem w_X3_pays_b101 {t0 : Int32} {a0 : Nat} {a1 : Int32} {a2 : Int32} {a3 : Int32} {a5 : Int32} {a6 : Int32} {r : Int32} (hX : xX E R p m c cX3_pays 9 s args RX3 "pays" meth (some .int) 5 149 σ0 σ9)
    (h : (f_X3_pays_b101 t0 a0 a1 a2 a3 a5 a6).1 σ = some (r, σ9)) (hI : xI E σ0 σ s H locs cells slots) (hl : lv_has ls 9 [(0, .ref a0), (1, .int a1), (2, .int a2), (3, .int a3), (5, .int a5), (6, .int a6)]) : W p l e R s m args below meth c H locs cells slots (xMQ E below args s σ0 σ9 (some (.int r))) (F0 m 101 ls [.int t0]) := by
  have hx := hX.1.1
  have hb := hX.1.2.1
  delta f_X3_pays_b101 at h
  refine lv_istore (lv' := [(7, .int t0), (0, .ref a0), (1, .int a1), (2, .int a2), (3, .int a3), (5, .int a5), (6, .int a6)]) hx hb dX3_pays_101 hl (Nat.le_of_ble_eq_true rfl) rfl (fun ls hl => ?_)
  refine lv_aload_n hx hb dX3_pays_103 rfl (lv_at hl 1 rfl) ?_
  refine xr_gN h hX hI xl_X3_13_3.g dX3_pays_104 (fun v44 h => ?_)
  refine lv_iload_n hx hb dX3_pays_107 rfl (lv_at hl 2 rfl) ?_
  refine lv_iconst (v := (4 : Int32)) hx hb dX3_pays_108 (by decide) ?_
  refine xr_callS (iv := (fun b => some (.int b))) (As := [.int a1, .int (4 : Int32)]) (rest := [.ref v44]) h hX hI (fun _ _ h => w_X3_ofInvoice h) 2 (lw_S q2068 q2069 q87 q2070) xd_X3_ofInvoice ⟨rfl, rfl⟩ rfl hl.1 (Nat.le_of_ble_eq_true rfl) dX3_pays_109 (fun v45 H locs σ cells slots h hI => ?_)
  refine W.eq (g2 := F0 m 112 ls [.int v45, .ref v44]) rfl ?_
  refine lv_ldc2 (v := (3 : Int64)) hx hb hX.1.2.2.2.1 (hX.1.2.2.2.2 _ q2242) dX3_pays_112 ?_
  refine xr_stL h hX hI dX3_pays_115 (fun H locs σ h hI => ?_)
  refine lv_aload_n hx hb dX3_pays_116 rfl (lv_at hl 1 rfl) ?_
  refine xr_gN h hX hI xl_X3_13_3.g dX3_pays_117 (fun v46 h => ?_)
  refine lv_iload_n hx hb dX3_pays_120 rfl (lv_at hl 2 rfl) ?_
  refine lv_bipush (v := (7 : Int32)) hx hb dX3_pays_121 (by decide) ?_
  refine xr_callS (iv := (fun b => some (.int b))) (As := [.int a1, .int (7 : Int32)]) (rest := [.ref v46]) h hX hI (fun _ _ h => w_X3_ofInvoice h) 2 (lw_S q2068 q2069 q87 q2070) xd_X3_ofInvoice ⟨rfl, rfl⟩ rfl hl.1 (Nat.le_of_ble_eq_true rfl) dX3_pays_123 (fun v47 H locs σ cells slots h hI => ?_)
  refine W.eq (g2 := F0 m 126 ls [.int v47, .ref v46]) rfl ?_
  refine lv_iload hx hb dX3_pays_126 (lv_at hl 6 rfl) ?_
  refine lv_iload hx hb dX3_pays_128 (lv_at hl 0 rfl) ?_
  refine lv_isub hx hb dX3_pays_130 ?_
  refine lv_i2l hx hb dX3_pays_131 rfl ?_
  refine xr_stL h hX hI dX3_pays_132 (fun H locs σ h hI => ?_)
  refine lv_aload_n hx hb dX3_pays_133 rfl (lv_at hl 1 rfl) ?_
  refine xr_gN h hX hI xl_X3_13_3.g dX3_pays_134 (fun v48 h => ?_)
  refine lv_iload_n hx hb dX3_pays_137 rfl (lv_at hl 2 rfl) ?_
  refine lv_bipush (v := (8 : Int32)) hx hb dX3_pays_138 (by decide) ?_
  refine xr_callS (iv := (fun b => some (.int b))) (As := [.int a1, .int (8 : Int32)]) (rest := [.ref v48]) h hX hI (fun _ _ h => w_X3_ofInvoice h) 2 (lw_S q2068 q2069 q87 q2070) xd_X3_ofInvoice ⟨rfl, rfl⟩ rfl hl.1 (Nat.le_of_ble_eq_true rfl) dX3_pays_140 (fun v49 H locs σ cells slots h hI => ?_)
  refine W.eq (g2 := F0 m 143 ls [.int v49, .ref v48]) rfl ?_
  refine lv_iload hx hb dX3_pays_143 (lv_at hl 5 rfl) ?_
  refine lv_i2l hx hb dX3_pays_145 rfl ?_
  refine xr_stL h hX hI dX3_pays_146 (fun H locs σ h hI => ?_)
  refine lv_aload_n hx hb dX3_pays_147 rfl (lv_at hl 1 rfl) ?_
  refine xr_gN h hX hI xl_X3_13_3.g dX3_pays_148 (fun v50 h => ?_)
  refine lv_iload_n hx hb dX3_pays_151 rfl (lv_at hl 2 rfl) ?_
  refine lv_bipush (v := (9 : Int32)) hx hb dX3_pays_152 (by decide) ?_
  refine xr_callS (iv := (fun b => some (.int b))) (As := [.int a1, .int (9 : Int32)]) (rest := [.ref v50]) h hX hI (fun _ _ h => w_X3_ofInvoice h) 2 (lw_S q2068 q2069 q87 q2070) xd_X3_ofInvoice ⟨rfl, rfl⟩ rfl hl.1 (Nat.le_of_ble_eq_true rfl) dX3_pays_154 (fun v51 H locs σ cells slots h hI => ?_)
  refine W.eq (g2 := F0 m 157 ls [.int v51, .ref v50]) rfl ?_
  refine lv_iload hx hb dX3_pays_157 (lv_at hl 0 rfl) ?_
  refine lv_i2l hx hb dX3_pays_159 rfl ?_
  refine xr_stL h hX hI dX3_pays_160 (fun H locs σ h hI => ?_)
  refine lv_aload_n hx hb dX3_pays_161 rfl (lv_at hl 1 rfl) ?_
  refine xr_gN h hX hI xl_X3_13_3.g dX3_pays_162 (fun v52 h => ?_)
  refine lv_iload_n hx hb dX3_pays_165 rfl (lv_at hl 4 rfl) ?_
  refine lv_iconst (v := (3 : Int32)) hx hb dX3_pays_166 (by decide) ?_
  refine xr_callS (iv := (fun b => some (.int b))) (As := [.int a3, .int (3 : Int32)]) (rest := [.ref v52]) h hX hI (fun _ _ h => w_X3_ofSupplier h) 2 (lw_S q2026 q2027 q87 q2028) xd_X3_ofSupplier ⟨rfl, rfl⟩ rfl hl.1 (Nat.le_of_ble_eq_true rfl) dX3_pays_167 (fun v53 H locs σ cells slots h hI => ?_)
  refine W.eq (g2 := F0 m 170 ls [.int v53, .ref v52]) rfl ?_
  refine lv_dup2_11 hx hb dX3_pays_170 rfl rfl ?_
  refine xr_ldL h hX hI dX3_pays_171 (fun v54 h => ?_)
  refine lv_iload hx hb dX3_pays_172 (lv_at hl 0 rfl) ?_
  refine lv_i2l hx hb dX3_pays_174 rfl ?_
  refine lv_lsub hx hb dX3_pays_175 ?_
  refine xr_stL h hX hI dX3_pays_176 (fun H locs σ h hI => ?_)
  refine lv_aload_n hx hb dX3_pays_177 rfl (lv_at hl 1 rfl) ?_
  refine xr_gN h hX hI xl_X3_13_3.g dX3_pays_178 (fun v55 h => ?_)
  refine lv_iload_n hx hb dX3_pays_181 rfl (lv_at hl 4 rfl) ?_
  refine lv_iconst (v := (5 : Int32)) hx hb dX3_pays_182 (by decide) ?_
  refine xr_callS (iv := (fun b => some (.int b))) (As := [.int a3, .int (5 : Int32)]) (rest := [.ref v55]) h hX hI (fun _ _ h => w_X3_ofSupplier h) 2 (lw_S q2026 q2027 q87 q2028) xd_X3_ofSupplier ⟨rfl, rfl⟩ rfl hl.1 (Nat.le_of_ble_eq_true rfl) dX3_pays_183 (fun v56 H locs σ cells slots h hI => ?_)
  refine W.eq (g2 := F0 m 186 ls [.int v56, .ref v55]) rfl ?_
  refine lv_dup2_11 hx hb dX3_pays_186 rfl rfl ?_
  refine xr_ldL h hX hI dX3_pays_187 (fun v57 h => ?_)
  refine lv_iload hx hb dX3_pays_188 (lv_at hl 6 rfl) ?_
  refine lv_iload hx hb dX3_pays_190 (lv_at hl 0 rfl) ?_
  refine lv_isub hx hb dX3_pays_192 ?_
  refine lv_i2l hx hb dX3_pays_193 rfl ?_
  refine lv_ladd hx hb dX3_pays_194 ?_
  refine xr_stL h hX hI dX3_pays_195 (fun H locs σ h hI => ?_)
  refine lv_aload_n hx hb dX3_pays_196 rfl (lv_at hl 1 rfl) ?_
  refine xr_gN h hX hI xl_X3_13_3.g dX3_pays_197 (fun v58 h => ?_)
  refine lv_iload_n hx hb dX3_pays_200 rfl (lv_at hl 4 rfl) ?_
  refine lv_bipush (v := (7 : Int32)) hx hb dX3_pays_201 (by decide) ?_
  refine xr_callS (iv := (fun b => some (.int b))) (As := [.int a3, .int (7 : Int32)]) (rest := [.ref v58]) h hX hI (fun _ _ h => w_X3_ofSupplier h) 2 (lw_S q2026 q2027 q87 q2028) xd_X3_ofSupplier ⟨rfl, rfl⟩ rfl hl.1 (Nat.le_of_ble_eq_true rfl) dX3_pays_203 (fun v59 H locs σ cells slots h hI => ?_)
  refine W.eq (g2 := F0 m 206 ls [.int v59, .ref v58]) rfl ?_
  refine lv_dup2_11 hx hb dX3_pays_206 rfl rfl ?_
  refine xr_ldL h hX hI dX3_pays_207 (fun v60 h => ?_)
  refine lv_iload hx hb dX3_pays_208 (lv_at hl 5 rfl) ?_
  refine lv_i2l hx hb dX3_pays_210 rfl ?_
  refine lv_ladd hx hb dX3_pays_211 ?_
  refine xr_stL h hX hI dX3_pays_212 (fun H locs σ h hI => ?_)
  refine lv_iconst (v := (0 : Int32)) hx hb dX3_pays_213 (by decide) ?_
  refine lv_istore (lv' := [(8, .int (0 : Int32)), (7, .int t0), (0, .ref a0), (1, .int a1), (2, .int a2), (3, .int a3), (5, .int a5), (6, .int a6)]) hx hb dX3_pays_214 hl (Nat.le_of_ble_eq_true rfl) rfl (fun ls hl => ?_)
  exact w_X3_pays_L216 hX xFU a0 a1 a2 a6 t0 (0 : Int32) _ _ _ _ _ _ h hI (lv_sub hl [2, 3, 4, 7, 1, 0] rfl)
theorem w_X3_pays_b64 {t0 : Int32} {a0 : Nat} {a1 : Int32} {a2 : Int32} {a3 : Int32} {a4 : Int32} {r : Int32} (hX : xX E R p m c cX3_pays 9 s args RX3 "pays" meth (some .int) 5 149 σ0 σ9)
    (h : (f_X3_pays_b64 t0 a0 a1 a2 a3 a4).1 σ = some (r, σ9)) (hI : xI E σ0 σ s H locs cells slots) (hl : lv_has ls 9 [(0, .ref a0), (1, .int a1), (2, .int a2), (3, .int a3), (4, .int a4)]) : W p l e R s m args below meth c H locs cells slots (xMQ E below args s σ0 σ9 (some (.int r))) (F0 m 64 ls [.int t0]) := by
  have hx := hX.1.1
  have hb := hX.1.2.1
  delta f_X3_pays_b64 at h
  refine lv_istore (lv' := [(5, .int t0), (0, .ref a0), (1, .int a1), (2, .int a2), (3, .int a3), (4, .int a4)]) hx hb dX3_pays_64 hl (Nat.le_of_ble_eq_true rfl) rfl (fun ls hl => ?_)
  refine lv_iload hx hb dX3_pays_66 (lv_at hl 5 rfl) ?_
  refine lv_iload hx hb dX3_pays_68 (lv_at hl 0 rfl) ?_
  refine lv_isub hx hb dX3_pays_70 ?_
  refine lv_istore (lv' := [(6, .int (a4 - t0)), (5, .int t0), (0, .ref a0), (1, .int a1), (2, .int a2), (3, .int a3), (4, .int a4)]) hx hb dX3_pays_71 hl (Nat.le_of_ble_eq_true rfl) rfl (fun ls hl => ?_)
  refine lv_aload_n hx hb dX3_pays_73 rfl (lv_at hl 2 rfl) ?_
  refine lv_iload_n hx hb dX3_pays_74 rfl (lv_at hl 5 rfl) ?_
  refine lv_iconst (v := (3 : Int32)) hx hb dX3_pays_75 (by decide) ?_
  refine xr_callS (iv := (fun b => some (.int b))) (As := [.int a3, .int (3 : Int32)]) (rest := [.ref a0]) h hX hI (fun _ _ h => w_X3_ofSupplier h) 2 (lw_S q2026 q2027 q87 q2028) xd_X3_ofSupplier ⟨rfl, rfl⟩ rfl hl.1 (Nat.le_of_ble_eq_true rfl) dX3_pays_76 (fun v40 H locs σ cells slots h hI => ?_)
  refine W.eq (g2 := F0 m 79 ls [.int v40, .ref a0]) rfl ?_
  refine xr_callV (iv := (fun b => some (.int b))) (As := [.int v40]) (rest := []) h hX hI (fun _ _ h => w_X3_at h) (fun _ _ h => o_X3_at h) rfl 1 (lw_V q2022 q2024 qs31 q87 q2025) ⟨rfl, xd_X3_at⟩ ⟨rfl, rfl⟩ rfl hl.1 (Nat.le_of_ble_eq_true rfl) dX3_pays_79 (fun v41 H locs σ cells slots h hI => ?_)
  refine W.eq (g2 := F0 m 82 ls [.int v41]) rfl ?_
  refine lv_iload hx hb dX3_pays_82 (lv_at hl 0 rfl) ?_
  refine lv_icmp_ge (tgt := 99) hx hb dX3_pays_84 (by decide) (fun hc => ?_) (fun hc => ?_)
  · have h := xif_t h hc
    refine lv_iload hx hb dX3_pays_99 (lv_at hl 0 rfl) ?_
    exact w_X3_pays_b101 hX h hI (lv_sub hl [2, 3, 4, 5, 1, 0] rfl)
  · have h := xif_f h hc
    refine lv_aload_n hx hb dX3_pays_87 rfl (lv_at hl 2 rfl) ?_
    refine lv_iload_n hx hb dX3_pays_88 rfl (lv_at hl 5 rfl) ?_
    refine lv_iconst (v := (3 : Int32)) hx hb dX3_pays_89 (by decide) ?_
    refine xr_callS (iv := (fun b => some (.int b))) (As := [.int a3, .int (3 : Int32)]) (rest := [.ref a0]) h hX hI (fun _ _ h => w_X3_ofSupplier h) 2 (lw_S q2026 q2027 q87 q2028) xd_X3_ofSupplier ⟨rfl, rfl⟩ rfl hl.1 (Nat.le_of_ble_eq_true rfl) dX3_pays_90 (fun v42 H locs σ cells slots h hI => ?_)
    refine W.eq (g2 := F0 m 93 ls [.int v42, .ref a0]) rfl ?_
    refine xr_callV (iv := (fun b => some (.int b))) (As := [.int v42]) (rest := []) h hX hI (fun _ _ h => w_X3_at h) (fun _ _ h => o_X3_at h) rfl 1 (lw_V q2022 q2024 qs31 q87 q2025) ⟨rfl, xd_X3_at⟩ ⟨rfl, rfl⟩ rfl hl.1 (Nat.le_of_ble_eq_true rfl) dX3_pays_93 (fun v43 H locs σ cells slots h hI => ?_)
    refine W.eq (g2 := F0 m 96 ls [.int v43]) rfl ?_
    refine lv_goto (tgt := 101) hx hb dX3_pays_96 (by decide) ?_
    exact w_X3_pays_b101 hX h hI (lv_sub hl [2, 3, 4, 5, 1, 0] rfl)
theorem o_X3_pays {a0 : Nat} {a1 : Int32} {r : Int32} {σ σ9 : xS} (h : (f_X3_pays a0 a1).1 σ = some (r, σ9)) : ∃ fs, σ.1 a0 = some (.inl (3, fs)) := xck_of h
theorem w_X3_pays {E : xE} {l : Launch} {a0 : Nat} {a1 : Int32} {r : Int32} {σ σ9 : xS} (h : (f_X3_pays a0 a1).1 σ = some (r, σ9)) : xMet E l yX3_pays (ws_ yX3_pays cX3_pays 9 (some .int)) 5 149 [.ref a0, .int a1] σ σ9 (some (.int r)) := by
  refine xstart (by decide +kernel) ((f_X3_pays a0 a1).2 _ _ _ h) (Nat.le_of_ble_eq_true rfl) ?_
  intro p e s m args below meth c H locs cells slots ls R hX hI hl
  have hx := hX.1.1
  have hb := hX.1.2.1
  have hl : lv_has ls 9 [(0, .ref a0), (1, .int a1)] := hl
  generalize hσ0 : σ = σ0 at hX hI ⊢
  have h : (f_X3_pays a0 a1).1 σ0 = some (r, σ9) := by rw [← hσ0]; exact h
  clear hσ0
  delta f_X3_pays at h
  have h := (xck_bd h).2
  refine lv_aload_n hx hb dX3_pays_0 rfl (lv_at hl 0 rfl) ?_
  refine lv_iload_n hx hb dX3_pays_1 rfl (lv_at hl 1 rfl) ?_
  refine lv_iconst (v := (1 : Int32)) hx hb dX3_pays_2 (by decide) ?_
  refine xr_callS (iv := (fun b => some (.int b))) (As := [.int a1, .int (1 : Int32)]) (rest := [.ref a0]) h hX hI (fun _ _ h => w_X3_ofInvoice h) 2 (lw_S q2068 q2069 q87 q2070) xd_X3_ofInvoice ⟨rfl, rfl⟩ rfl hl.1 (Nat.le_of_ble_eq_true rfl) dX3_pays_3 (fun v70 H locs σ cells slots h hI => ?_)
  refine W.eq (g2 := F0 m 6 ls [.int v70, .ref a0]) rfl ?_
  refine xr_callV (iv := (fun b => some (.int b))) (As := [.int v70]) (rest := []) h hX hI (fun _ _ h => w_X3_at h) (fun _ _ h => o_X3_at h) rfl 1 (lw_V q2022 q2024 qs31 q87 q2025) ⟨rfl, xd_X3_at⟩ ⟨rfl, rfl⟩ rfl hl.1 (Nat.le_of_ble_eq_true rfl) dX3_pays_6 (fun v71 H locs σ cells slots h hI => ?_)
  refine W.eq (g2 := F0 m 9 ls [.int v71]) rfl ?_
  refine lv_istore_n (lv' := [(2, .int v71), (0, .ref a0), (1, .int a1)]) hx hb dX3_pays_9 rfl hl (Nat.le_of_ble_eq_true rfl) rfl (fun ls hl => ?_)
  refine lv_aload_n hx hb dX3_pays_10 rfl (lv_at hl 1 rfl) ?_
  refine lv_iload_n hx hb dX3_pays_11 rfl (lv_at hl 0 rfl) ?_
  refine xr_callV (iv := (fun b => some (.int b))) (As := [.int v71]) (rest := []) h hX hI (fun _ _ h => w_X3_whose h) (fun _ _ h => o_X3_whose h) rfl 1 (lw_V q2071 q2073 qs36 q87 q2074) ⟨rfl, xd_X3_whose⟩ ⟨rfl, rfl⟩ rfl hl.1 (Nat.le_of_ble_eq_true rfl) dX3_pays_12 (fun v72 H locs σ cells slots h hI => ?_)
  refine W.eq (g2 := F0 m 15 ls [.int v72]) rfl ?_
  refine lv_istore_n (lv' := [(3, .int v72), (2, .int v71), (0, .ref a0), (1, .int a1)]) hx hb dX3_pays_15 rfl hl (Nat.le_of_ble_eq_true rfl) rfl (fun ls hl => ?_)
  refine lv_aload_n hx hb dX3_pays_16 rfl (lv_at hl 2 rfl) ?_
  refine lv_iload_n hx hb dX3_pays_17 rfl (lv_at hl 3 rfl) ?_
  refine xr_callV (iv := (fun b => some (.int b))) (As := [.int a1]) (rest := []) h hX hI (fun _ _ h => w_X3_total h) (fun _ _ h => o_X3_total h) rfl 1 (lw_V q2173 q2175 qs49 q87 q2176) ⟨rfl, xd_X3_total⟩ ⟨rfl, rfl⟩ rfl hl.1 (Nat.le_of_ble_eq_true rfl) dX3_pays_18 (fun v73 H locs σ cells slots h hI => ?_)
  refine W.eq (g2 := F0 m 21 ls [.int v73]) rfl ?_
  refine lv_istore (lv' := [(4, .int v73), (3, .int v72), (2, .int v71), (0, .ref a0), (1, .int a1)]) hx hb dX3_pays_21 hl (Nat.le_of_ble_eq_true rfl) rfl (fun ls hl => ?_)
  refine lv_aload_n hx hb dX3_pays_23 rfl (lv_at hl 3 rfl) ?_
  refine lv_iconst (v := (0 : Int32)) hx hb dX3_pays_24 (by decide) ?_
  refine xr_callV (iv := (fun b => some (.int b))) (As := [.int (0 : Int32)]) (rest := []) h hX hI (fun _ _ h => w_X3_at h) (fun _ _ h => o_X3_at h) rfl 1 (lw_V q2022 q2024 qs31 q87 q2025) ⟨rfl, xd_X3_at⟩ ⟨rfl, rfl⟩ rfl hl.1 (Nat.le_of_ble_eq_true rfl) dX3_pays_25 (fun v74 H locs σ cells slots h hI => ?_)
  refine W.eq (g2 := F0 m 28 ls [.int v74]) rfl ?_
  refine lv_aload_n hx hb dX3_pays_28 rfl (lv_at hl 3 rfl) ?_
  refine lv_iload_n hx hb dX3_pays_29 rfl (lv_at hl 4 rfl) ?_
  refine lv_iconst (v := (2 : Int32)) hx hb dX3_pays_30 (by decide) ?_
  refine xr_callS (iv := (fun b => some (.int b))) (As := [.int a1, .int (2 : Int32)]) (rest := [.ref a0, .int v74]) h hX hI (fun _ _ h => w_X3_ofInvoice h) 2 (lw_S q2068 q2069 q87 q2070) xd_X3_ofInvoice ⟨rfl, rfl⟩ rfl hl.1 (Nat.le_of_ble_eq_true rfl) dX3_pays_31 (fun v75 H locs σ cells slots h hI => ?_)
  refine W.eq (g2 := F0 m 34 ls [.int v75, .ref a0, .int v74]) rfl ?_
  refine xr_callV (iv := (fun b => some (.int b))) (As := [.int v75]) (rest := [.int v74]) h hX hI (fun _ _ h => w_X3_at h) (fun _ _ h => o_X3_at h) rfl 1 (lw_V q2022 q2024 qs31 q87 q2025) ⟨rfl, xd_X3_at⟩ ⟨rfl, rfl⟩ rfl hl.1 (Nat.le_of_ble_eq_true rfl) dX3_pays_34 (fun v76 H locs σ cells slots h hI => ?_)
  refine W.eq (g2 := F0 m 37 ls [.int v76, .int v74]) rfl ?_
  refine lv_aload_n hx hb dX3_pays_37 rfl (lv_at hl 3 rfl) ?_
  refine lv_iconst (v := (5 : Int32)) hx hb dX3_pays_38 (by decide) ?_
  refine xr_callV (iv := (fun b => some (.int b))) (As := [.int (5 : Int32)]) (rest := [.int v76, .int v74]) h hX hI (fun _ _ h => w_X3_at h) (fun _ _ h => o_X3_at h) rfl 1 (lw_V q2022 q2024 qs31 q87 q2025) ⟨rfl, xd_X3_at⟩ ⟨rfl, rfl⟩ rfl hl.1 (Nat.le_of_ble_eq_true rfl) dX3_pays_39 (fun v77 H locs σ cells slots h hI => ?_)
  refine W.eq (g2 := F0 m 42 ls [.int v77, .int v76, .int v74]) rfl ?_
  refine lv_iadd hx hb dX3_pays_42 ?_
  refine lv_icmp_gt (tgt := 63) hx hb dX3_pays_43 (by decide) (fun hc => ?_) (fun hc => ?_)
  · have h := xif_t h hc
    refine lv_iconst (v := (0 : Int32)) hx hb dX3_pays_63 (by decide) ?_
    exact w_X3_pays_b64 hX h hI (lv_sub hl [3, 4, 2, 1, 0] rfl)
  · have h := xif_f h hc
    refine lv_iload hx hb dX3_pays_46 (lv_at hl 0 rfl) ?_
    refine lv_i2d hx hb dX3_pays_48 ?_
    refine lv_aload_n hx hb dX3_pays_49 rfl (lv_at hl 3 rfl) ?_
    refine lv_iconst (v := (4 : Int32)) hx hb dX3_pays_50 (by decide) ?_
    refine xr_callV (iv := (fun b => some (.double b))) (As := [.int (4 : Int32)]) (rest := [.double (FP.i2d v73)]) h hX hI (fun _ _ h => w_X3_real h) (fun _ _ h => o_X3_real h) rfl 1 (lw_V q2135 q2137 qs42 q87 q2138) ⟨rfl, xd_X3_real⟩ ⟨rfl, rfl⟩ rfl hl.1 (Nat.le_of_ble_eq_true rfl) dX3_pays_51 (fun v78 H locs σ cells slots h hI => ?_)
    refine W.eq (g2 := F0 m 54 ls [.double v78, .double (FP.i2d v73)]) rfl ?_
    refine xr_dmul h hx hb dX3_pays_54 (fun h => ?_)
    refine lv_ldc2d (v := (4636737291354636288 : UInt64)) hx hb hX.1.2.2.2.1 (hX.1.2.2.2.2 _ q2139) dX3_pays_55 ?_
    refine xr_ddiv h hx hb dX3_pays_58 (fun h => ?_)
    refine lv_d2i hx hb dX3_pays_59 ?_
    refine lv_goto (tgt := 64) hx hb dX3_pays_60 (by decide) ?_
    exact w_X3_pays_b64 hX h hI (lv_sub hl [3, 4, 2, 1, 0] rfl)
/-! PayMatchModel.pay(I)I  -/
theorem o_X3_pay {a0 : Nat} {a1 : Int32} {r : Int32} {σ σ9 : xS} (h : (f_X3_pay a0 a1).1 σ = some (r, σ9)) : ∃ fs, σ.1 a0 = some (.inl (3, fs)) := xck_of h
theorem w_X3_pay {E : xE} {l : Launch} {a0 : Nat} {a1 : Int32} {r : Int32} {σ σ9 : xS} (h : (f_X3_pay a0 a1).1 σ = some (r, σ9)) : xMet E l yX3_pay (ws_ yX3_pay cX3_pay 2 (some .int)) 6 177 [.ref a0, .int a1] σ σ9 (some (.int r)) := by
  refine xstart (by decide +kernel) ((f_X3_pay a0 a1).2 _ _ _ h) (Nat.le_of_ble_eq_true rfl) ?_
  intro p e s m args below meth c H locs cells slots ls R hX hI hl
  have hx := hX.1.1
  have hb := hX.1.2.1
  have hl : lv_has ls 2 [(0, .ref a0), (1, .int a1)] := hl
  generalize hσ0 : σ = σ0 at hX hI ⊢
  have h : (f_X3_pay a0 a1).1 σ0 = some (r, σ9) := by rw [← hσ0]; exact h
  clear hσ0
  delta f_X3_pay at h
  have h := (xck_bd h).2
  refine lv_aload_n hx hb dX3_pay_0 rfl (lv_at hl 0 rfl) ?_
  refine xr_callV (iv := (fun _ => none)) (As := []) (rest := []) h hX hI (fun _ _ h => w_X3_aside h) (fun _ _ h => o_X3_aside h) rfl 0 (lw_V q2018 q2020 qs30 q87 q2021) ⟨rfl, xd_X3_aside⟩ ⟨rfl, rfl⟩ rfl hl.1 (Nat.le_of_ble_eq_true rfl) dX3_pay_1 (fun _ H locs σ cells slots h hI => ?_)
  refine lv_aload_n hx hb dX3_pay_4 rfl (lv_at hl 0 rfl) ?_
  refine lv_iload_n hx hb dX3_pay_5 rfl (lv_at hl 1 rfl) ?_
  refine xr_callV (iv := (fun b => some (.int b))) (As := [.int a1]) (rest := []) h hX hI (fun _ _ h => w_X3_isInvoice h) (fun _ _ h => o_X3_isInvoice h) rfl 1 (lw_V q2185 q2187 qs51 q87 q2188) ⟨rfl, xd_X3_isInvoice⟩ ⟨rfl, rfl⟩ rfl hl.1 (Nat.le_of_ble_eq_true rfl) dX3_pay_6 (fun v5 H locs σ cells slots h hI => ?_)
  refine W.eq (g2 := F0 m 9 ls [.int v5]) rfl ?_
  refine lv_if_ne (tgt := 14) hx hb dX3_pay_9 (by decide) (fun hc => ?_) (fun hc => ?_)
  · have h := xif_f h hc
    refine lv_aload_n hx hb dX3_pay_14 rfl (lv_at hl 0 rfl) ?_
    refine lv_iload_n hx hb dX3_pay_15 rfl (lv_at hl 1 rfl) ?_
    refine xr_callV (iv := (fun b => some (.int b))) (As := [.int a1]) (rest := []) h hX hI (fun _ _ h => w_X3_canBePaid h) (fun _ _ h => o_X3_canBePaid h) rfl 1 (lw_V q2234 q2236 qs60 q87 q2237) ⟨rfl, xd_X3_canBePaid⟩ ⟨rfl, rfl⟩ rfl hl.1 (Nat.le_of_ble_eq_true rfl) dX3_pay_16 (fun v6 H locs σ cells slots h hI => ?_)
    refine W.eq (g2 := F0 m 19 ls [.int v6]) rfl ?_
    refine lv_if_eq (tgt := 34) hx hb dX3_pay_19 (by decide) (fun hc => ?_) (fun hc => ?_)
    · have h := xif_t h hc
      refine lv_bipush (v := (-4 : Int32)) hx hb dX3_pay_34 (by decide) ?_
      exact xr_ireturn h hX hI dX3_pay_36
    · have h := xif_f h hc
      refine lv_aload_n hx hb dX3_pay_22 rfl (lv_at hl 0 rfl) ?_
      refine lv_aload_n hx hb dX3_pay_23 rfl (lv_at hl 0 rfl) ?_
      refine lv_iload_n hx hb dX3_pay_24 rfl (lv_at hl 1 rfl) ?_
      refine xr_callV (iv := (fun b => some (.int b))) (As := [.int a1]) (rest := [.ref a0]) h hX hI (fun _ _ h => w_X3_pays h) (fun _ _ h => o_X3_pays h) rfl 1 (lw_V q2238 q2240 qs61 q87 q2241) ⟨rfl, xd_X3_pays⟩ ⟨rfl, rfl⟩ rfl hl.1 (Nat.le_of_ble_eq_true rfl) dX3_pay_25 (fun v7 H locs σ cells slots h hI => ?_)
      refine W.eq (g2 := F0 m 28 ls [.int v7, .ref a0]) rfl ?_
      refine xr_callV (iv := (fun b => some (.int b))) (As := [.int v7]) (rest := []) h hX hI (fun _ _ h => w_X3_acted h) (fun _ _ h => o_X3_acted h) rfl 1 (lw_V q2031 q2033 qs32 q87 q2034) ⟨rfl, xd_X3_acted⟩ ⟨rfl, rfl⟩ rfl hl.1 (Nat.le_of_ble_eq_true rfl) dX3_pay_28 (fun v8 H locs σ cells slots h hI => ?_)
      refine W.eq (g2 := F0 m 31 ls [.int v8]) rfl ?_
      refine lv_goto (tgt := 36) hx hb dX3_pay_31 (by decide) ?_
      exact xr_ireturn h hX hI dX3_pay_36
  · have h := xif_t h hc
    refine lv_iconst (v := (-1 : Int32)) hx hb dX3_pay_12 (by decide) ?_
    exact xr_ireturn h hX hI dX3_pay_13
/-! PayMatch$State.payDue()I  -/
theorem w_X1_payDue_b10 {rec10 : Nat → Int32 → Nat → xM Int32} {a0 : Nat} {a1 : Int32} {a2 : Nat} {r : Int32} (hX : xX E R p m c cX1_payDue 4 s args RX1 "payDue" meth (some .int) 7 179 σ0 σ9) (hrec10 : ∀ (a0 : Nat) (a1 : Int32) (a2 : Nat) (σ : xS) (H : Heap) (locs : List Loc) (cells slots : Nat) (ls : Array Slot), (rec10 a0 a1 a2).1 σ = some (r, σ9) → xI E σ0 σ s H locs cells slots → lv_has ls 4 [(0, .ref a0), (1, .int a1), (2, .ref a2)] → W p l e R s m args below meth c H locs cells slots (xMQ E below args s σ0 σ9 (some (.int r))) (F0 m 10 ls []))
    (h : (f_X1_payDue_b10 rec10 a0 a1 a2).1 σ = some (r, σ9)) (hI : xI E σ0 σ s H locs cells slots) (hl : lv_has ls 4 [(0, .ref a0), (1, .int a1), (2, .ref a2)]) : W p l e R s m args below meth c H locs cells slots (xMQ E below args s σ0 σ9 (some (.int r))) (F0 m 10 ls []) := by
  have hx := hX.1.1
  have hb := hX.1.2.1
  delta f_X1_payDue_b10 at h
  refine lv_aload_n hx hb dX1_payDue_10 rfl (lv_at hl 2 rfl) ?_
  refine xr_callF (iv := (fun b => some (.int b))) (As := []) (rest := []) h hX hI (fun _ _ h => w_J10_hasNext h) (fun _ _ h => o_J10_hasNext h) rfl 0 xfw_4 q1168 q460 q462 q89 q464 xdi_4 ⟨rfl, rfl⟩ rfl hl.1 (Nat.le_of_ble_eq_true rfl) dX1_payDue_11 (fun v13 H locs σ cells slots h hI => ?_)
  refine W.eq (g2 := F0 m 16 ls [.int v13]) rfl ?_
  refine lv_if_eq (tgt := 82) hx hb dX1_payDue_16 (by decide) (fun hc => ?_) (fun hc => ?_)
  · have h := xif_t h hc
    refine lv_iload_n hx hb dX1_payDue_82 rfl (lv_at hl 1 rfl) ?_
    exact xr_ireturn h hX hI dX1_payDue_83
  · have h := xif_f h hc
    refine lv_aload_n hx hb dX1_payDue_19 rfl (lv_at hl 2 rfl) ?_
    refine xr_callF (iv := (fun b => some (.ref b))) (As := []) (rest := []) h hX hI (fun _ _ h => w_J10_next h) (fun _ _ h => o_J10_next h) rfl 0 xfw_6 q1170 q828 q830 q89 q832 xdi_6 ⟨rfl, rfl⟩ rfl hl.1 (Nat.le_of_ble_eq_true rfl) dX1_payDue_20 (fun v14 H locs σ cells slots h hI => ?_)
    refine W.eq (g2 := F0 m 25 ls [.ref v14]) rfl ?_
    refine xr_cks h hX hI xc_X1_109 dX1_payDue_25 (fun h => ?_)
    refine lv_astore_n (lv' := [(3, .ref v14), (0, .ref a0), (1, .int a1), (2, .ref a2)]) hx hb dX1_payDue_28 rfl hl (Nat.le_of_ble_eq_true rfl) rfl (fun ls hl => ?_)
    refine lv_aload_n hx hb dX1_payDue_29 rfl (lv_at hl 0 rfl) ?_
    refine xr_gI h hX hI xl_X1_168_4.g dX1_payDue_30 (fun v15 h => ?_)
    refine lv_iconst (v := (1 : Int32)) hx hb dX1_payDue_33 (by decide) ?_
    refine lv_icmp_ne (tgt := 10) hx hb dX1_payDue_34 (by decide) (fun hc => ?_) (fun hc => ?_)
    · have h := xif_f h hc
      exact hrec10 a0 a1 a2 _ _ _ _ _ _ h hI (lv_sub hl [1, 2, 3] rfl)
    · have h := xif_t h hc
      refine lv_aload_n hx hb dX1_payDue_37 rfl (lv_at hl 1 rfl) ?_
      refine xr_gI h hX hI xl_X1_69_1.g dX1_payDue_38 (fun v16 h => ?_)
      refine lv_aload_n hx hb dX1_payDue_41 rfl (lv_at hl 0 rfl) ?_
      refine xr_gI h hX hI xl_X1_244_4 dX1_payDue_42 (fun v17 h => ?_)
      refine lv_isub hx hb dX1_payDue_45 ?_
      refine lv_aload_n hx hb dX1_payDue_46 rfl (lv_at hl 1 rfl) ?_
      refine xr_gI h hX hI xl_X1_41_1.g dX1_payDue_47 (fun v18 h => ?_)
      refine lv_icmp_lt (tgt := 10) hx hb dX1_payDue_50 (by decide) (fun hc => ?_) (fun hc => ?_)
      · have h := xif_t h hc
        exact hrec10 a0 a1 a2 _ _ _ _ _ _ h hI (lv_sub hl [1, 2, 3] rfl)
      · have h := xif_f h hc
        refine lv_aload_n hx hb dX1_payDue_53 rfl (lv_at hl 1 rfl) ?_
        refine lv_aload_n hx hb dX1_payDue_54 rfl (lv_at hl 0 rfl) ?_
        refine xr_gI h hX hI xl_X1_108_4 dX1_payDue_55 (fun v19 h => ?_)
        refine xr_callV (iv := (fun b => some (.ref b))) (As := [.int v19]) (rest := []) h hX hI (fun _ _ h => w_X1_supplierOf h) (fun _ _ h => o_X1_supplierOf h) rfl 1 (lw_V q1496 q1435 q1436 q75 q1437) ⟨rfl, xd_X1_supplierOf⟩ ⟨rfl, rfl⟩ rfl hl.1 (Nat.le_of_ble_eq_true rfl) dX1_payDue_58 (fun v20 H locs σ cells slots h hI => ?_)
        refine W.eq (g2 := F0 m 61 ls [.ref v20]) rfl ?_
        refine xr_gI h hX hI xl_X1_181_7.g dX1_payDue_61 (fun v21 h => ?_)
        refine lv_if_eq (tgt := 70) hx hb dX1_payDue_64 (by decide) (fun hc => ?_) (fun hc => ?_)
        · have h := xif_t h hc
          refine lv_aload_n hx hb dX1_payDue_70 rfl (lv_at hl 1 rfl) ?_
          refine lv_aload_n hx hb dX1_payDue_71 rfl (lv_at hl 0 rfl) ?_
          refine xr_callV (iv := (fun b => some (.int b))) (As := [.ref v14]) (rest := []) h hX hI (fun _ _ h => w_X1_pay h) (fun _ _ h => o_X1_pay h) rfl 1 (lw_V q1783 q1767 q1768 q75 q1769) ⟨rfl, xd_X1_pay⟩ ⟨rfl, rfl⟩ rfl hl.1 (Nat.le_of_ble_eq_true rfl) dX1_payDue_72 (fun v22 H locs σ cells slots h hI => ?_)
          refine W.eq (g2 := F0 m 75 ls [.int v22]) rfl ?_
          refine lv_pop hx hb dX1_payDue_75 rfl ?_
          refine lv_iinc (k := 2) (lv' := [(1, .int (a1 + (1 : Int32))), (3, .ref v14), (0, .ref a0), (2, .ref a2)]) hx hb dX1_payDue_76 hl rfl (xiinc (by decide)) (Nat.le_of_ble_eq_true rfl) rfl (fun ls hl => ?_)
          refine lv_goto (tgt := 10) hx hb dX1_payDue_79 (by decide) ?_
          exact hrec10 a0 (a1 + (1 : Int32)) a2 _ _ _ _ _ _ h hI (lv_sub hl [2, 0, 3] rfl)
        · have h := xif_f h hc
          refine lv_goto (tgt := 10) hx hb dX1_payDue_67 (by decide) ?_
          exact hrec10 a0 a1 a2 _ _ _ _ _ _ h hI (lv_sub hl [1, 2, 3] rfl)
theorem w_X1_payDue_L10 {r : Int32} (hX : xX E R p m c cX1_payDue 4 s args RX1 "payDue" meth (some .int) 7 179 σ0 σ9) : ∀ (n : Nat) (a0 : Nat) (a1 : Int32) (a2 : Nat) (σ : xS) (H : Heap) (locs : List Loc) (cells slots : Nat) (ls : Array Slot), (f_X1_payDue_L10 n a0 a1 a2).1 σ = some (r, σ9) → xI E σ0 σ s H locs cells slots → lv_has ls 4 [(0, .ref a0), (1, .int a1), (2, .ref a2)] → W p l e R s m args below meth c H locs cells slots (xMQ E below args s σ0 σ9 (some (.int r))) (F0 m 10 ls []) := by
  intro n
  induction n with
  | zero =>
    intro a0 a1 a2 σ H locs cells slots ls h
    exact xr_no h
  | succ n ih =>
    intro a0 a1 a2 σ H locs cells slots ls h hI hl
    exact w_X1_payDue_b10 hX ih h hI hl
theorem o_X1_payDue {a0 : Nat} {r : Int32} {σ σ9 : xS} (h : (f_X1_payDue a0).1 σ = some (r, σ9)) : ∃ fs, σ.1 a0 = some (.inl (1, fs)) := xck_of h
theorem w_X1_payDue {E : xE} {l : Launch} {a0 : Nat} {r : Int32} {σ σ9 : xS} (h : (f_X1_payDue a0).1 σ = some (r, σ9)) : xMet E l yX1_payDue (ws_ yX1_payDue cX1_payDue 4 (some .int)) 7 179 [.ref a0] σ σ9 (some (.int r)) := by
  refine xstart (by decide +kernel) ((f_X1_payDue a0).2 _ _ _ h) (Nat.le_of_ble_eq_true rfl) ?_
  intro p e s m args below meth c H locs cells slots ls R hX hI hl
  have hx := hX.1.1
  have hb := hX.1.2.1
  have hl : lv_has ls 4 [(0, .ref a0)] := hl
  generalize hσ0 : σ = σ0 at hX hI ⊢
  have h : (f_X1_payDue a0).1 σ0 = some (r, σ9) := by rw [← hσ0]; exact h
  clear hσ0
  delta f_X1_payDue at h
  have h := (xck_bd h).2
  refine lv_iconst (v := (0 : Int32)) hx hb dX1_payDue_0 (by decide) ?_
  refine lv_istore_n (lv' := [(1, .int (0 : Int32)), (0, .ref a0)]) hx hb dX1_payDue_1 rfl hl (Nat.le_of_ble_eq_true rfl) rfl (fun ls hl => ?_)
  refine lv_aload_n hx hb dX1_payDue_2 rfl (lv_at hl 1 rfl) ?_
  refine xr_gN h hX hI xl_X1_21_1.g dX1_payDue_3 (fun v23 h => ?_)
  refine xr_callV (iv := (fun b => some (.ref b))) (As := []) (rest := []) h hX hI (fun _ _ h => w_X2_iterator h) (fun _ _ h => o_X2_iterator h) rfl 0 (lw_V q1276 q1277 q1278 q76 q1279) ⟨rfl, xd_X2_iterator⟩ ⟨rfl, rfl⟩ rfl hl.1 (Nat.le_of_ble_eq_true rfl) dX1_payDue_6 (fun v24 H locs σ cells slots h hI => ?_)
  refine W.eq (g2 := F0 m 9 ls [.ref v24]) rfl ?_
  refine lv_astore_n (lv' := [(2, .ref v24), (1, .int (0 : Int32)), (0, .ref a0)]) hx hb dX1_payDue_9 rfl hl (Nat.le_of_ble_eq_true rfl) rfl (fun ls hl => ?_)
  exact w_X1_payDue_L10 hX xFU a0 (0 : Int32) v24 _ _ _ _ _ _ h hI (lv_sub hl [2, 1, 0] rfl)
/-! PayMatch$State.pass(I)I  -/
theorem w_X1_pass_b4 {rec4 : Nat → Int32 → Int32 → Int32 → xM Int32} {a0 : Nat} {a1 : Int32} {a2 : Int32} {a3 : Int32} {r : Int32} (hX : xX E R p m c cX1_pass 4 s args RX1 "pass" meth (some .int) 8 202 σ0 σ9) (hrec4 : ∀ (a0 : Nat) (a1 : Int32) (a2 : Int32) (a3 : Int32) (σ : xS) (H : Heap) (locs : List Loc) (cells slots : Nat) (ls : Array Slot), (rec4 a0 a1 a2 a3).1 σ = some (r, σ9) → xI E σ0 σ s H locs cells slots → lv_has ls 4 [(0, .ref a0), (1, .int a1), (2, .int a2), (3, .int a3)] → W p l e R s m args below meth c H locs cells slots (xMQ E below args s σ0 σ9 (some (.int r))) (F0 m 4 ls []))
    (h : (f_X1_pass_b4 rec4 a0 a1 a2 a3).1 σ = some (r, σ9)) (hI : xI E σ0 σ s H locs cells slots) (hl : lv_has ls 4 [(0, .ref a0), (1, .int a1), (2, .int a2), (3, .int a3)]) : W p l e R s m args below meth c H locs cells slots (xMQ E below args s σ0 σ9 (some (.int r))) (F0 m 4 ls []) := by
  have hx := hX.1.1
  have hb := hX.1.2.1
  delta f_X1_pass_b4 at h
  refine lv_iload_n hx hb dX1_pass_4 rfl (lv_at hl 3 rfl) ?_
  refine lv_iload_n hx hb dX1_pass_5 rfl (lv_at hl 1 rfl) ?_
  refine lv_icmp_ge (tgt := 32) hx hb dX1_pass_6 (by decide) (fun hc => ?_) (fun hc => ?_)
  · have h := xif_t h hc
    refine lv_iload_n hx hb dX1_pass_32 rfl (lv_at hl 2 rfl) ?_
    exact xr_ireturn h hX hI dX1_pass_33
  · have h := xif_f h hc
    refine lv_aload_n hx hb dX1_pass_9 rfl (lv_at hl 0 rfl) ?_
    refine lv_dup hx hb dX1_pass_10 rfl ?_
    refine xr_gI h hX hI xl_X1_69_1.g dX1_pass_11 (fun v3 h => ?_)
    refine lv_iconst (v := (1 : Int32)) hx hb dX1_pass_14 (by decide) ?_
    refine lv_iadd hx hb dX1_pass_15 ?_
    refine xr_pt h hX hI xl_X1_69_1 (Or.inl rfl) rfl rfl dX1_pass_16 (fun H locs σ h hI => ?_)
    refine lv_iload_n hx hb dX1_pass_19 rfl (lv_at hl 2 rfl) ?_
    refine lv_aload_n hx hb dX1_pass_20 rfl (lv_at hl 0 rfl) ?_
    refine xr_callV (iv := (fun b => some (.int b))) (As := []) (rest := [.int a2]) h hX hI (fun _ _ h => w_X1_payDue h) (fun _ _ h => o_X1_payDue h) rfl 0 (lw_V q1779 q1781 qs28 q75 q1782) ⟨rfl, xd_X1_payDue⟩ ⟨rfl, rfl⟩ rfl hl.1 (Nat.le_of_ble_eq_true rfl) dX1_pass_21 (fun v4 H locs σ cells slots h hI => ?_)
    refine W.eq (g2 := F0 m 24 ls [.int v4, .int a2]) rfl ?_
    refine lv_iadd hx hb dX1_pass_24 ?_
    refine lv_istore_n (lv' := [(2, .int (a2 + v4)), (0, .ref a0), (1, .int a1), (3, .int a3)]) hx hb dX1_pass_25 rfl hl (Nat.le_of_ble_eq_true rfl) rfl (fun ls hl => ?_)
    refine lv_iinc (k := 3) (lv' := [(3, .int (a3 + (1 : Int32))), (2, .int (a2 + v4)), (0, .ref a0), (1, .int a1)]) hx hb dX1_pass_26 hl rfl (xiinc (by decide)) (Nat.le_of_ble_eq_true rfl) rfl (fun ls hl => ?_)
    refine lv_goto (tgt := 4) hx hb dX1_pass_29 (by decide) ?_
    exact hrec4 a0 a1 (a2 + v4) (a3 + (1 : Int32)) _ _ _ _ _ _ h hI (lv_sub hl [2, 3, 1, 0] rfl)
theorem w_X1_pass_L4 {r : Int32} (hX : xX E R p m c cX1_pass 4 s args RX1 "pass" meth (some .int) 8 202 σ0 σ9) : ∀ (n : Nat) (a0 : Nat) (a1 : Int32) (a2 : Int32) (a3 : Int32) (σ : xS) (H : Heap) (locs : List Loc) (cells slots : Nat) (ls : Array Slot), (f_X1_pass_L4 n a0 a1 a2 a3).1 σ = some (r, σ9) → xI E σ0 σ s H locs cells slots → lv_has ls 4 [(0, .ref a0), (1, .int a1), (2, .int a2), (3, .int a3)] → W p l e R s m args below meth c H locs cells slots (xMQ E below args s σ0 σ9 (some (.int r))) (F0 m 4 ls []) := by
  intro n
  induction n with
  | zero =>
    intro a0 a1 a2 a3 σ H locs cells slots ls h
    exact xr_no h
  | succ n ih =>
    intro a0 a1 a2 a3 σ H locs cells slots ls h hI hl
    exact w_X1_pass_b4 hX ih h hI hl
theorem o_X1_pass {a0 : Nat} {a1 : Int32} {r : Int32} {σ σ9 : xS} (h : (f_X1_pass a0 a1).1 σ = some (r, σ9)) : ∃ fs, σ.1 a0 = some (.inl (1, fs)) := xck_of h
theorem w_X1_pass {E : xE} {l : Launch} {a0 : Nat} {a1 : Int32} {r : Int32} {σ σ9 : xS} (h : (f_X1_pass a0 a1).1 σ = some (r, σ9)) : xMet E l yX1_pass (ws_ yX1_pass cX1_pass 4 (some .int)) 8 202 [.ref a0, .int a1] σ σ9 (some (.int r)) := by
  refine xstart (by decide +kernel) ((f_X1_pass a0 a1).2 _ _ _ h) (Nat.le_of_ble_eq_true rfl) ?_
  intro p e s m args below meth c H locs cells slots ls R hX hI hl
  have hx := hX.1.1
  have hb := hX.1.2.1
  have hl : lv_has ls 4 [(0, .ref a0), (1, .int a1)] := hl
  generalize hσ0 : σ = σ0 at hX hI ⊢
  have h : (f_X1_pass a0 a1).1 σ0 = some (r, σ9) := by rw [← hσ0]; exact h
  clear hσ0
  delta f_X1_pass at h
  have h := (xck_bd h).2
  refine lv_iconst (v := (0 : Int32)) hx hb dX1_pass_0 (by decide) ?_
  refine lv_istore_n (lv' := [(2, .int (0 : Int32)), (0, .ref a0), (1, .int a1)]) hx hb dX1_pass_1 rfl hl (Nat.le_of_ble_eq_true rfl) rfl (fun ls hl => ?_)
  refine lv_iconst (v := (0 : Int32)) hx hb dX1_pass_2 (by decide) ?_
  refine lv_istore_n (lv' := [(3, .int (0 : Int32)), (2, .int (0 : Int32)), (0, .ref a0), (1, .int a1)]) hx hb dX1_pass_3 rfl hl (Nat.le_of_ble_eq_true rfl) rfl (fun ls hl => ?_)
  exact w_X1_pass_L4 hX xFU a0 a1 (0 : Int32) (0 : Int32) _ _ _ _ _ _ h hI (lv_sub hl [2, 3, 1, 0] rfl)
/-! PayMatch.pass(I)I  -/
theorem o_X0_pass {a0 : Nat} {a1 : Int32} {r : Int32} {σ σ9 : xS} (h : (f_X0_pass a0 a1).1 σ = some (r, σ9)) : ∃ fs, σ.1 a0 = some (.inl (0, fs)) := xck_of h
theorem w_X0_pass {E : xE} {l : Launch} {a0 : Nat} {a1 : Int32} {r : Int32} {σ σ9 : xS} (h : (f_X0_pass a0 a1).1 σ = some (r, σ9)) : xMet E l yX0_pass (ws_ yX0_pass cX0_pass 4 (some .int)) 14 438 [.ref a0, .int a1] σ σ9 (some (.int r)) := by
  refine xstart (by decide +kernel) ((f_X0_pass a0 a1).2 _ _ _ h) (Nat.le_of_ble_eq_true rfl) ?_
  intro p e s m args below meth c H locs cells slots ls R hX hI hl
  have hx := hX.1.1
  have hb := hX.1.2.1
  have hl : lv_has ls 4 [(0, .ref a0), (1, .int a1)] := hl
  generalize hσ0 : σ = σ0 at hX hI ⊢
  have h : (f_X0_pass a0 a1).1 σ0 = some (r, σ9) := by rw [← hσ0]; exact h
  clear hσ0
  delta f_X0_pass at h
  have h := (xck_bd h).2
  refine lv_iload_n hx hb dX0_pass_0 rfl (lv_at hl 1 rfl) ?_
  refine lv_iconst (v := (1 : Int32)) hx hb dX0_pass_1 (by decide) ?_
  refine lv_bipush (v := (60 : Int32)) hx hb dX0_pass_2 (by decide) ?_
  refine xr_callS (iv := (fun b => some (.int b))) (As := [.int a1, .int (1 : Int32), .int (60 : Int32)]) (rest := []) h hX hI (fun _ _ h => w_X0_inRange h) 3 (lw_S q1267 q1230 q74 q1231) xd_X0_inRange ⟨rfl, rfl⟩ rfl hl.1 (Nat.le_of_ble_eq_true rfl) dX0_pass_4 (fun v8 H locs σ cells slots h hI => ?_)
  refine W.eq (g2 := F0 m 7 ls [.int v8]) rfl ?_
  refine lv_if_ne (tgt := 13) hx hb dX0_pass_7 (by decide) (fun hc => ?_) (fun hc => ?_)
  · have h := xif_f h hc
    refine lv_aload_n hx hb dX0_pass_13 rfl (lv_at hl 0 rfl) ?_
    refine xr_gN h hX hI xl_X0_22_0.g dX0_pass_14 (fun v9 h => ?_)
    refine xr_gI h hX hI xl_X0_290_1.g dX0_pass_17 (fun v10 h => ?_)
    refine lv_iload_n hx hb dX0_pass_20 rfl (lv_at hl 1 rfl) ?_
    refine lv_iadd hx hb dX0_pass_21 ?_
    refine lv_sipush (v := (9999 : Int32)) hx hb dX0_pass_22 (by decide) ?_
    refine lv_icmp_le (tgt := 31) hx hb dX0_pass_25 (by decide) (fun hc => ?_) (fun hc => ?_)
    · have h := xif_t h hc
      refine lv_aload_n hx hb dX0_pass_31 rfl (lv_at hl 0 rfl) ?_
      refine xr_gN h hX hI xl_X0_22_0.g dX0_pass_32 (fun v11 h => ?_)
      refine xr_callV (iv := (fun b => some (.ref b))) (As := []) (rest := []) h hX hI (fun _ _ h => w_X1_copy h) (fun _ _ h => o_X1_copy h) rfl 0 (lw_V q323 q324 q325 q75 q326) ⟨rfl, xd_X1_copy⟩ ⟨rfl, rfl⟩ rfl hl.1 (Nat.le_of_ble_eq_true rfl) dX0_pass_35 (fun v12 H locs σ cells slots h hI => ?_)
      refine W.eq (g2 := F0 m 38 ls [.ref v12]) rfl ?_
      refine lv_astore_n (lv' := [(2, .ref v12), (0, .ref a0), (1, .int a1)]) hx hb dX0_pass_38 rfl hl (Nat.le_of_ble_eq_true rfl) rfl (fun ls hl => ?_)
      refine lv_aload_n hx hb dX0_pass_39 rfl (lv_at hl 0 rfl) ?_
      refine lv_iload_n hx hb dX0_pass_40 rfl (lv_at hl 2 rfl) ?_
      refine xr_callV (iv := (fun b => some (.int b))) (As := [.int a1]) (rest := []) h hX hI (fun _ _ h => w_X1_pass h) (fun _ _ h => o_X1_pass h) rfl 1 (lw_V q1775 q1776 q1777 q75 q1778) ⟨rfl, xd_X1_pass⟩ ⟨rfl, rfl⟩ rfl hl.1 (Nat.le_of_ble_eq_true rfl) dX0_pass_41 (fun v13 H locs σ cells slots h hI => ?_)
      refine W.eq (g2 := F0 m 44 ls [.int v13]) rfl ?_
      refine lv_istore_n (lv' := [(3, .int v13), (2, .ref v12), (0, .ref a0), (1, .int a1)]) hx hb dX0_pass_44 rfl hl (Nat.le_of_ble_eq_true rfl) rfl (fun ls hl => ?_)
      refine lv_aload_n hx hb dX0_pass_45 rfl (lv_at hl 2 rfl) ?_
      refine lv_aload_n hx hb dX0_pass_46 rfl (lv_at hl 1 rfl) ?_
      refine lv_iload_n hx hb dX0_pass_47 rfl (lv_at hl 0 rfl) ?_
      refine xr_callV (iv := (fun b => some (.int b))) (As := [.ref v12, .int v13]) (rest := []) h hX hI (fun _ _ h => w_X0_become h) (fun _ _ h => o_X0_become h) rfl 2 (lw_V q1182 q1184 qs9 q74 q1185) ⟨rfl, xd_X0_become⟩ ⟨rfl, rfl⟩ rfl hl.1 (Nat.le_of_ble_eq_true rfl) dX0_pass_48 (fun v14 H locs σ cells slots h hI => ?_)
      refine W.eq (g2 := F0 m 51 ls [.int v14]) rfl ?_
      exact xr_ireturn h hX hI dX0_pass_51
    · have h := xif_f h hc
      refine lv_bipush (v := (-4 : Int32)) hx hb dX0_pass_28 (by decide) ?_
      exact xr_ireturn h hX hI dX0_pass_30
  · have h := xif_t h hc
    refine lv_bipush (v := (-2 : Int32)) hx hb dX0_pass_10 (by decide) ?_
    exact xr_ireturn h hX hI dX0_pass_12
/-! PayMatchModel.pass(I)I  -/
theorem w_X3_pass_b109 {rec37 : Nat → Int32 → Int32 → Int32 → xM Int32} {rec55 : Nat → Int32 → Int32 → Int32 → Int32 → xM Int32} {a0 : Nat} {a1 : Int32} {a2 : Int32} {a3 : Int32} {a4 : Int32} {r : Int32} (hX : xX E R p m c cX3_pass 5 s args RX3 "pass" meth (some .int) 6 177 σ0 σ9) (hrec37 : ∀ (a0 : Nat) (a1 : Int32) (a2 : Int32) (a3 : Int32) (σ : xS) (H : Heap) (locs : List Loc) (cells slots : Nat) (ls : Array Slot), (rec37 a0 a1 a2 a3).1 σ = some (r, σ9) → xI E σ0 σ s H locs cells slots → lv_has ls 5 [(0, .ref a0), (1, .int a1), (2, .int a2), (3, .int a3)] → W p l e R s m args below meth c H locs cells slots (xMQ E below args s σ0 σ9 (some (.int r))) (F0 m 37 ls [])) (hrec55 : ∀ (a0 : Nat) (a1 : Int32) (a2 : Int32) (a3 : Int32) (a4 : Int32) (σ : xS) (H : Heap) (locs : List Loc) (cells slots : Nat) (ls : Array Slot), (rec55 a0 a1 a2 a3 a4).1 σ = some (r, σ9) → xI E σ0 σ s H locs cells slots → lv_has ls 5 [(0, .ref a0), (1, .int a1), (2, .int a2), (3, .int a3), (4, .int a4)] → W p l e R s m args below meth c H locs cells slots (xMQ E below args s σ0 σ9 (some (.int r))) (F0 m 55 ls []))
    (h : (f_X3_pass_b109 rec37 rec55 a0 a1 a2 a3 a4).1 σ = some (r, σ9)) (hI : xI E σ0 σ s H locs cells slots) (hl : lv_has ls 5 [(0, .ref a0), (1, .int a1), (2, .int a2), (3, .int a3), (4, .int a4)]) : W p l e R s m args below meth c H locs cells slots (xMQ E below args s σ0 σ9 (some (.int r))) (F0 m 109 ls []) := by
  have hx := hX.1.1
  have hb := hX.1.2.1
  delta f_X3_pass_b109 at h
  refine lv_iinc (k := 4) (lv' := [(4, .int (a4 + (1 : Int32))), (0, .ref a0), (1, .int a1), (2, .int a2), (3, .int a3)]) hx hb dX3_pass_109 hl rfl (xiinc (by decide)) (Nat.le_of_ble_eq_true rfl) rfl (fun ls hl => ?_)
  refine lv_goto (tgt := 55) hx hb dX3_pass_112 (by decide) ?_
  exact hrec55 a0 a1 a2 a3 (a4 + (1 : Int32)) _ _ _ _ _ _ h hI (lv_sub hl [1, 2, 3, 4, 0] rfl)
theorem w_X3_pass_b115 {rec37 : Nat → Int32 → Int32 → Int32 → xM Int32} {a0 : Nat} {a1 : Int32} {a2 : Int32} {a3 : Int32} {r : Int32} (hX : xX E R p m c cX3_pass 5 s args RX3 "pass" meth (some .int) 6 177 σ0 σ9) (hrec37 : ∀ (a0 : Nat) (a1 : Int32) (a2 : Int32) (a3 : Int32) (σ : xS) (H : Heap) (locs : List Loc) (cells slots : Nat) (ls : Array Slot), (rec37 a0 a1 a2 a3).1 σ = some (r, σ9) → xI E σ0 σ s H locs cells slots → lv_has ls 5 [(0, .ref a0), (1, .int a1), (2, .int a2), (3, .int a3)] → W p l e R s m args below meth c H locs cells slots (xMQ E below args s σ0 σ9 (some (.int r))) (F0 m 37 ls []))
    (h : (f_X3_pass_b115 rec37 a0 a1 a2 a3).1 σ = some (r, σ9)) (hI : xI E σ0 σ s H locs cells slots) (hl : lv_has ls 5 [(0, .ref a0), (1, .int a1), (2, .int a2), (3, .int a3)]) : W p l e R s m args below meth c H locs cells slots (xMQ E below args s σ0 σ9 (some (.int r))) (F0 m 115 ls []) := by
  have hx := hX.1.1
  have hb := hX.1.2.1
  delta f_X3_pass_b115 at h
  refine lv_iinc (k := 3) (lv' := [(3, .int (a3 + (1 : Int32))), (0, .ref a0), (1, .int a1), (2, .int a2)]) hx hb dX3_pass_115 hl rfl (xiinc (by decide)) (Nat.le_of_ble_eq_true rfl) rfl (fun ls hl => ?_)
  refine lv_goto (tgt := 37) hx hb dX3_pass_118 (by decide) ?_
  exact hrec37 a0 a1 a2 (a3 + (1 : Int32)) _ _ _ _ _ _ h hI (lv_sub hl [1, 2, 3, 0] rfl)
theorem w_X3_pass_b55 {rec37 : Nat → Int32 → Int32 → Int32 → xM Int32} {rec55 : Nat → Int32 → Int32 → Int32 → Int32 → xM Int32} {a0 : Nat} {a1 : Int32} {a2 : Int32} {a3 : Int32} {a4 : Int32} {r : Int32} (hX : xX E R p m c cX3_pass 5 s args RX3 "pass" meth (some .int) 6 177 σ0 σ9) (hrec37 : ∀ (a0 : Nat) (a1 : Int32) (a2 : Int32) (a3 : Int32) (σ : xS) (H : Heap) (locs : List Loc) (cells slots : Nat) (ls : Array Slot), (rec37 a0 a1 a2 a3).1 σ = some (r, σ9) → xI E σ0 σ s H locs cells slots → lv_has ls 5 [(0, .ref a0), (1, .int a1), (2, .int a2), (3, .int a3)] → W p l e R s m args below meth c H locs cells slots (xMQ E below args s σ0 σ9 (some (.int r))) (F0 m 37 ls [])) (hrec55 : ∀ (a0 : Nat) (a1 : Int32) (a2 : Int32) (a3 : Int32) (a4 : Int32) (σ : xS) (H : Heap) (locs : List Loc) (cells slots : Nat) (ls : Array Slot), (rec55 a0 a1 a2 a3 a4).1 σ = some (r, σ9) → xI E σ0 σ s H locs cells slots → lv_has ls 5 [(0, .ref a0), (1, .int a1), (2, .int a2), (3, .int a3), (4, .int a4)] → W p l e R s m args below meth c H locs cells slots (xMQ E below args s σ0 σ9 (some (.int r))) (F0 m 55 ls []))
    (h : (f_X3_pass_b55 rec37 rec55 a0 a1 a2 a3 a4).1 σ = some (r, σ9)) (hI : xI E σ0 σ s H locs cells slots) (hl : lv_has ls 5 [(0, .ref a0), (1, .int a1), (2, .int a2), (3, .int a3), (4, .int a4)]) : W p l e R s m args below meth c H locs cells slots (xMQ E below args s σ0 σ9 (some (.int r))) (F0 m 55 ls []) := by
  have hx := hX.1.1
  have hb := hX.1.2.1
  delta f_X3_pass_b55 at h
  refine lv_iload hx hb dX3_pass_55 (lv_at hl 4 rfl) ?_
  refine lv_aload_n hx hb dX3_pass_57 rfl (lv_at hl 0 rfl) ?_
  refine lv_iconst (v := (3 : Int32)) hx hb dX3_pass_58 (by decide) ?_
  refine xr_callV (iv := (fun b => some (.int b))) (As := [.int (3 : Int32)]) (rest := [.int a4]) h hX hI (fun _ _ h => w_X3_at h) (fun _ _ h => o_X3_at h) rfl 1 (lw_V q2022 q2024 qs31 q87 q2025) ⟨rfl, xd_X3_at⟩ ⟨rfl, rfl⟩ rfl hl.1 (Nat.le_of_ble_eq_true rfl) dX3_pass_59 (fun v16 H locs σ cells slots h hI => ?_)
  refine W.eq (g2 := F0 m 62 ls [.int v16, .int a4]) rfl ?_
  refine lv_icmp_ge (tgt := 115) hx hb dX3_pass_62 (by decide) (fun hc => ?_) (fun hc => ?_)
  · have h := xif_t h hc
    exact w_X3_pass_b115 hX hrec37 h hI (lv_sub hl [0, 1, 2, 3] rfl)
  · have h := xif_f h hc
    refine lv_aload_n hx hb dX3_pass_65 rfl (lv_at hl 0 rfl) ?_
    refine lv_iload hx hb dX3_pass_66 (lv_at hl 4 rfl) ?_
    refine xr_callV (iv := (fun b => some (.int b))) (As := [.int a4]) (rest := []) h hX hI (fun _ _ h => w_X3_canBePaid h) (fun _ _ h => o_X3_canBePaid h) rfl 1 (lw_V q2234 q2236 qs60 q87 q2237) ⟨rfl, xd_X3_canBePaid⟩ ⟨rfl, rfl⟩ rfl hl.1 (Nat.le_of_ble_eq_true rfl) dX3_pass_68 (fun v17 H locs σ cells slots h hI => ?_)
    refine W.eq (g2 := F0 m 71 ls [.int v17]) rfl ?_
    refine lv_if_eq (tgt := 109) hx hb dX3_pass_71 (by decide) (fun hc => ?_) (fun hc => ?_)
    · have h := xif_t h hc
      exact w_X3_pass_b109 hX hrec37 hrec55 h hI (lv_sub hl [0, 1, 2, 3, 4] rfl)
    · have h := xif_f h hc
      refine lv_aload_n hx hb dX3_pass_74 rfl (lv_at hl 0 rfl) ?_
      refine lv_iconst (v := (0 : Int32)) hx hb dX3_pass_75 (by decide) ?_
      refine xr_callV (iv := (fun b => some (.int b))) (As := [.int (0 : Int32)]) (rest := []) h hX hI (fun _ _ h => w_X3_at h) (fun _ _ h => o_X3_at h) rfl 1 (lw_V q2022 q2024 qs31 q87 q2025) ⟨rfl, xd_X3_at⟩ ⟨rfl, rfl⟩ rfl hl.1 (Nat.le_of_ble_eq_true rfl) dX3_pass_76 (fun v18 H locs σ cells slots h hI => ?_)
      refine W.eq (g2 := F0 m 79 ls [.int v18]) rfl ?_
      refine lv_aload_n hx hb dX3_pass_79 rfl (lv_at hl 0 rfl) ?_
      refine lv_iload hx hb dX3_pass_80 (lv_at hl 4 rfl) ?_
      refine lv_iconst (v := (2 : Int32)) hx hb dX3_pass_82 (by decide) ?_
      refine xr_callS (iv := (fun b => some (.int b))) (As := [.int a4, .int (2 : Int32)]) (rest := [.ref a0, .int v18]) h hX hI (fun _ _ h => w_X3_ofInvoice h) 2 (lw_S q2068 q2069 q87 q2070) xd_X3_ofInvoice ⟨rfl, rfl⟩ rfl hl.1 (Nat.le_of_ble_eq_true rfl) dX3_pass_83 (fun v19 H locs σ cells slots h hI => ?_)
      refine W.eq (g2 := F0 m 86 ls [.int v19, .ref a0, .int v18]) rfl ?_
      refine xr_callV (iv := (fun b => some (.int b))) (As := [.int v19]) (rest := [.int v18]) h hX hI (fun _ _ h => w_X3_at h) (fun _ _ h => o_X3_at h) rfl 1 (lw_V q2022 q2024 qs31 q87 q2025) ⟨rfl, xd_X3_at⟩ ⟨rfl, rfl⟩ rfl hl.1 (Nat.le_of_ble_eq_true rfl) dX3_pass_86 (fun v20 H locs σ cells slots h hI => ?_)
      refine W.eq (g2 := F0 m 89 ls [.int v20, .int v18]) rfl ?_
      refine lv_isub hx hb dX3_pass_89 ?_
      refine lv_aload_n hx hb dX3_pass_90 rfl (lv_at hl 0 rfl) ?_
      refine lv_bipush (v := (6 : Int32)) hx hb dX3_pass_91 (by decide) ?_
      refine xr_callV (iv := (fun b => some (.int b))) (As := [.int (6 : Int32)]) (rest := [.int (v18 - v20)]) h hX hI (fun _ _ h => w_X3_at h) (fun _ _ h => o_X3_at h) rfl 1 (lw_V q2022 q2024 qs31 q87 q2025) ⟨rfl, xd_X3_at⟩ ⟨rfl, rfl⟩ rfl hl.1 (Nat.le_of_ble_eq_true rfl) dX3_pass_93 (fun v21 H locs σ cells slots h hI => ?_)
      refine W.eq (g2 := F0 m 96 ls [.int v21, .int (v18 - v20)]) rfl ?_
      refine lv_icmp_lt (tgt := 109) hx hb dX3_pass_96 (by decide) (fun hc => ?_) (fun hc => ?_)
      · have h := xif_t h hc
        exact w_X3_pass_b109 hX hrec37 hrec55 h hI (lv_sub hl [0, 1, 2, 3, 4] rfl)
      · have h := xif_f h hc
        refine lv_aload_n hx hb dX3_pass_99 rfl (lv_at hl 0 rfl) ?_
        refine lv_iload hx hb dX3_pass_100 (lv_at hl 4 rfl) ?_
        refine xr_callV (iv := (fun b => some (.int b))) (As := [.int a4]) (rest := []) h hX hI (fun _ _ h => w_X3_pays h) (fun _ _ h => o_X3_pays h) rfl 1 (lw_V q2238 q2240 qs61 q87 q2241) ⟨rfl, xd_X3_pays⟩ ⟨rfl, rfl⟩ rfl hl.1 (Nat.le_of_ble_eq_true rfl) dX3_pass_102 (fun v22 H locs σ cells slots h hI => ?_)
        refine W.eq (g2 := F0 m 105 ls [.int v22]) rfl ?_
        refine lv_pop hx hb dX3_pass_105 rfl ?_
        refine lv_iinc (k := 2) (lv' := [(2, .int (a2 + (1 : Int32))), (0, .ref a0), (1, .int a1), (3, .int a3), (4, .int a4)]) hx hb dX3_pass_106 hl rfl (xiinc (by decide)) (Nat.le_of_ble_eq_true rfl) rfl (fun ls hl => ?_)
        exact w_X3_pass_b109 hX hrec37 hrec55 h hI (lv_sub hl [1, 2, 0, 3, 4] rfl)
theorem w_X3_pass_L55 {rec37 : Nat → Int32 → Int32 → Int32 → xM Int32} {r : Int32} (hX : xX E R p m c cX3_pass 5 s args RX3 "pass" meth (some .int) 6 177 σ0 σ9) (hrec37 : ∀ (a0 : Nat) (a1 : Int32) (a2 : Int32) (a3 : Int32) (σ : xS) (H : Heap) (locs : List Loc) (cells slots : Nat) (ls : Array Slot), (rec37 a0 a1 a2 a3).1 σ = some (r, σ9) → xI E σ0 σ s H locs cells slots → lv_has ls 5 [(0, .ref a0), (1, .int a1), (2, .int a2), (3, .int a3)] → W p l e R s m args below meth c H locs cells slots (xMQ E below args s σ0 σ9 (some (.int r))) (F0 m 37 ls [])) : ∀ (n : Nat) (a0 : Nat) (a1 : Int32) (a2 : Int32) (a3 : Int32) (a4 : Int32) (σ : xS) (H : Heap) (locs : List Loc) (cells slots : Nat) (ls : Array Slot), (f_X3_pass_L55 rec37 n a0 a1 a2 a3 a4).1 σ = some (r, σ9) → xI E σ0 σ s H locs cells slots → lv_has ls 5 [(0, .ref a0), (1, .int a1), (2, .int a2), (3, .int a3), (4, .int a4)] → W p l e R s m args below meth c H locs cells slots (xMQ E below args s σ0 σ9 (some (.int r))) (F0 m 55 ls []) := by
  intro n
  induction n with
  | zero =>
    intro a0 a1 a2 a3 a4 σ H locs cells slots ls h
    exact xr_no h
  | succ n ih =>
    intro a0 a1 a2 a3 a4 σ H locs cells slots ls h hI hl
    exact w_X3_pass_b55 hX hrec37 ih h hI hl
theorem w_X3_pass_b121 {a0 : Nat} {a2 : Int32} {r : Int32} (hX : xX E R p m c cX3_pass 5 s args RX3 "pass" meth (some .int) 6 177 σ0 σ9)
    (h : (f_X3_pass_b121 a0 a2).1 σ = some (r, σ9)) (hI : xI E σ0 σ s H locs cells slots) (hl : lv_has ls 5 [(0, .ref a0), (2, .int a2)]) : W p l e R s m args below meth c H locs cells slots (xMQ E below args s σ0 σ9 (some (.int r))) (F0 m 121 ls []) := by
  have hx := hX.1.1
  have hb := hX.1.2.1
  delta f_X3_pass_b121 at h
  refine lv_aload_n hx hb dX3_pass_121 rfl (lv_at hl 0 rfl) ?_
  refine lv_iload_n hx hb dX3_pass_122 rfl (lv_at hl 1 rfl) ?_
  refine xr_callV (iv := (fun b => some (.int b))) (As := [.int a2]) (rest := []) h hX hI (fun _ _ h => w_X3_acted h) (fun _ _ h => o_X3_acted h) rfl 1 (lw_V q2031 q2033 qs32 q87 q2034) ⟨rfl, xd_X3_acted⟩ ⟨rfl, rfl⟩ rfl hl.1 (Nat.le_of_ble_eq_true rfl) dX3_pass_123 (fun v15 H locs σ cells slots h hI => ?_)
  refine W.eq (g2 := F0 m 126 ls [.int v15]) rfl ?_
  exact xr_ireturn h hX hI dX3_pass_126
theorem w_X3_pass_b37 {rec37 : Nat → Int32 → Int32 → Int32 → xM Int32} {a0 : Nat} {a1 : Int32} {a2 : Int32} {a3 : Int32} {r : Int32} (hX : xX E R p m c cX3_pass 5 s args RX3 "pass" meth (some .int) 6 177 σ0 σ9) (hrec37 : ∀ (a0 : Nat) (a1 : Int32) (a2 : Int32) (a3 : Int32) (σ : xS) (H : Heap) (locs : List Loc) (cells slots : Nat) (ls : Array Slot), (rec37 a0 a1 a2 a3).1 σ = some (r, σ9) → xI E σ0 σ s H locs cells slots → lv_has ls 5 [(0, .ref a0), (1, .int a1), (2, .int a2), (3, .int a3)] → W p l e R s m args below meth c H locs cells slots (xMQ E below args s σ0 σ9 (some (.int r))) (F0 m 37 ls []))
    (h : (f_X3_pass_b37 rec37 a0 a1 a2 a3).1 σ = some (r, σ9)) (hI : xI E σ0 σ s H locs cells slots) (hl : lv_has ls 5 [(0, .ref a0), (1, .int a1), (2, .int a2), (3, .int a3)]) : W p l e R s m args below meth c H locs cells slots (xMQ E below args s σ0 σ9 (some (.int r))) (F0 m 37 ls []) := by
  have hx := hX.1.1
  have hb := hX.1.2.1
  delta f_X3_pass_b37 at h
  refine lv_iload_n hx hb dX3_pass_37 rfl (lv_at hl 3 rfl) ?_
  refine lv_iload_n hx hb dX3_pass_38 rfl (lv_at hl 1 rfl) ?_
  refine lv_icmp_ge (tgt := 121) hx hb dX3_pass_39 (by decide) (fun hc => ?_) (fun hc => ?_)
  · have h := xif_t h hc
    exact w_X3_pass_b121 hX h hI (lv_sub hl [0, 2] rfl)
  · have h := xif_f h hc
    refine lv_aload_n hx hb dX3_pass_42 rfl (lv_at hl 0 rfl) ?_
    refine xr_gN h hX hI xl_X3_13_3.g dX3_pass_43 (fun v13 h => ?_)
    refine lv_iconst (v := (0 : Int32)) hx hb dX3_pass_46 (by decide) ?_
    refine lv_dup2_11 hx hb dX3_pass_47 rfl rfl ?_
    refine xr_ldL h hX hI dX3_pass_48 (fun v14 h => ?_)
    refine lv_lconst (v := (1 : Int64)) hx hb dX3_pass_49 (by decide) ?_
    refine lv_ladd hx hb dX3_pass_50 ?_
    refine xr_stL h hX hI dX3_pass_51 (fun H locs σ h hI => ?_)
    refine lv_iconst (v := (0 : Int32)) hx hb dX3_pass_52 (by decide) ?_
    refine lv_istore (lv' := [(4, .int (0 : Int32)), (0, .ref a0), (1, .int a1), (2, .int a2), (3, .int a3)]) hx hb dX3_pass_53 hl (Nat.le_of_ble_eq_true rfl) rfl (fun ls hl => ?_)
    exact w_X3_pass_L55 hX hrec37 xFU a0 a1 a2 a3 (0 : Int32) _ _ _ _ _ _ h hI (lv_sub hl [1, 2, 3, 4, 0] rfl)
theorem w_X3_pass_L37 {r : Int32} (hX : xX E R p m c cX3_pass 5 s args RX3 "pass" meth (some .int) 6 177 σ0 σ9) : ∀ (n : Nat) (a0 : Nat) (a1 : Int32) (a2 : Int32) (a3 : Int32) (σ : xS) (H : Heap) (locs : List Loc) (cells slots : Nat) (ls : Array Slot), (f_X3_pass_L37 n a0 a1 a2 a3).1 σ = some (r, σ9) → xI E σ0 σ s H locs cells slots → lv_has ls 5 [(0, .ref a0), (1, .int a1), (2, .int a2), (3, .int a3)] → W p l e R s m args below meth c H locs cells slots (xMQ E below args s σ0 σ9 (some (.int r))) (F0 m 37 ls []) := by
  intro n
  induction n with
  | zero =>
    intro a0 a1 a2 a3 σ H locs cells slots ls h
    exact xr_no h
  | succ n ih =>
    intro a0 a1 a2 a3 σ H locs cells slots ls h hI hl
    exact w_X3_pass_b37 hX ih h hI hl
theorem o_X3_pass {a0 : Nat} {a1 : Int32} {r : Int32} {σ σ9 : xS} (h : (f_X3_pass a0 a1).1 σ = some (r, σ9)) : ∃ fs, σ.1 a0 = some (.inl (3, fs)) := xck_of h
theorem w_X3_pass {E : xE} {l : Launch} {a0 : Nat} {a1 : Int32} {r : Int32} {σ σ9 : xS} (h : (f_X3_pass a0 a1).1 σ = some (r, σ9)) : xMet E l yX3_pass (ws_ yX3_pass cX3_pass 5 (some .int)) 6 177 [.ref a0, .int a1] σ σ9 (some (.int r)) := by
  refine xstart (by decide +kernel) ((f_X3_pass a0 a1).2 _ _ _ h) (Nat.le_of_ble_eq_true rfl) ?_
  intro p e s m args below meth c H locs cells slots ls R hX hI hl
  have hx := hX.1.1
  have hb := hX.1.2.1
  have hl : lv_has ls 5 [(0, .ref a0), (1, .int a1)] := hl
  generalize hσ0 : σ = σ0 at hX hI ⊢
  have h : (f_X3_pass a0 a1).1 σ0 = some (r, σ9) := by rw [← hσ0]; exact h
  clear hσ0
  delta f_X3_pass at h
  have h := (xck_bd h).2
  refine lv_aload_n hx hb dX3_pass_0 rfl (lv_at hl 0 rfl) ?_
  refine xr_callV (iv := (fun _ => none)) (As := []) (rest := []) h hX hI (fun _ _ h => w_X3_aside h) (fun _ _ h => o_X3_aside h) rfl 0 (lw_V q2018 q2020 qs30 q87 q2021) ⟨rfl, xd_X3_aside⟩ ⟨rfl, rfl⟩ rfl hl.1 (Nat.le_of_ble_eq_true rfl) dX3_pass_1 (fun _ H locs σ cells slots h hI => ?_)
  refine lv_iload_n hx hb dX3_pass_4 rfl (lv_at hl 1 rfl) ?_
  refine lv_iconst (v := (1 : Int32)) hx hb dX3_pass_5 (by decide) ?_
  refine lv_bipush (v := (60 : Int32)) hx hb dX3_pass_6 (by decide) ?_
  refine xr_callS (iv := (fun b => some (.int b))) (As := [.int a1, .int (1 : Int32), .int (60 : Int32)]) (rest := []) h hX hI (fun _ _ h => w_X3_in h) 3 (lw_S q2043 q2044 q87 q2045) xd_X3_in ⟨rfl, rfl⟩ rfl hl.1 (Nat.le_of_ble_eq_true rfl) dX3_pass_8 (fun v23 H locs σ cells slots h hI => ?_)
  refine W.eq (g2 := F0 m 11 ls [.int v23]) rfl ?_
  refine lv_if_ne (tgt := 17) hx hb dX3_pass_11 (by decide) (fun hc => ?_) (fun hc => ?_)
  · have h := xif_f h hc
    refine lv_aload_n hx hb dX3_pass_17 rfl (lv_at hl 0 rfl) ?_
    refine lv_iconst (v := (0 : Int32)) hx hb dX3_pass_18 (by decide) ?_
    refine xr_callV (iv := (fun b => some (.int b))) (As := [.int (0 : Int32)]) (rest := []) h hX hI (fun _ _ h => w_X3_at h) (fun _ _ h => o_X3_at h) rfl 1 (lw_V q2022 q2024 qs31 q87 q2025) ⟨rfl, xd_X3_at⟩ ⟨rfl, rfl⟩ rfl hl.1 (Nat.le_of_ble_eq_true rfl) dX3_pass_19 (fun v24 H locs σ cells slots h hI => ?_)
    refine W.eq (g2 := F0 m 22 ls [.int v24]) rfl ?_
    refine lv_iload_n hx hb dX3_pass_22 rfl (lv_at hl 1 rfl) ?_
    refine lv_iadd hx hb dX3_pass_23 ?_
    refine lv_sipush (v := (9999 : Int32)) hx hb dX3_pass_24 (by decide) ?_
    refine lv_icmp_le (tgt := 33) hx hb dX3_pass_27 (by decide) (fun hc => ?_) (fun hc => ?_)
    · have h := xif_t h hc
      refine lv_iconst (v := (0 : Int32)) hx hb dX3_pass_33 (by decide) ?_
      refine lv_istore_n (lv' := [(2, .int (0 : Int32)), (0, .ref a0), (1, .int a1)]) hx hb dX3_pass_34 rfl hl (Nat.le_of_ble_eq_true rfl) rfl (fun ls hl => ?_)
      refine lv_iconst (v := (0 : Int32)) hx hb dX3_pass_35 (by decide) ?_
      refine lv_istore_n (lv' := [(3, .int (0 : Int32)), (2, .int (0 : Int32)), (0, .ref a0), (1, .int a1)]) hx hb dX3_pass_36 rfl hl (Nat.le_of_ble_eq_true rfl) rfl (fun ls hl => ?_)
      exact w_X3_pass_L37 hX xFU a0 a1 (0 : Int32) (0 : Int32) _ _ _ _ _ _ h hI (lv_sub hl [2, 3, 1, 0] rfl)
    · have h := xif_f h hc
      refine lv_bipush (v := (-4 : Int32)) hx hb dX3_pass_30 (by decide) ?_
      exact xr_ireturn h hX hI dX3_pass_32
  · have h := xif_t h hc
    refine lv_bipush (v := (-2 : Int32)) hx hb dX3_pass_14 (by decide) ?_
    exact xr_ireturn h hX hI dX3_pass_16
/-! java/lang/AbstractStringBuilder.ensureCapacityInternal(I)V  -/
theorem o_J6_ensureCapacityInternal {a0 : Nat} {a1 : Int32} {r : Unit} {σ σ9 : xS} (h : (f_J6_ensureCapacityInternal a0 a1).1 σ = some (r, σ9)) : ∃ fs, σ.1 a0 = some (.inl (15, fs)) := xck_of h
theorem w_J6_ensureCapacityInternal {E : xE} {l : Launch} {a0 : Nat} {a1 : Int32} {r : Unit} {σ σ9 : xS} (h : (f_J6_ensureCapacityInternal a0 a1).1 σ = some (r, σ9)) : xMet E l yJ6_ensureCapacityInternal (ws_ yJ6_ensureCapacityInternal cJ6_ensureCapacityInternal 3 none) 0 0 [.ref a0, .int a1] σ σ9 none := by
  refine xstart (by decide +kernel) ((f_J6_ensureCapacityInternal a0 a1).2 _ _ _ h) (Nat.le_of_ble_eq_true rfl) ?_
  intro p e s m args below meth c H locs cells slots ls R hX hI hl
  have hx := hX.1.1
  have hb := hX.1.2.1
  have hl : lv_has ls 3 [(0, .ref a0), (1, .int a1)] := hl
  generalize hσ0 : σ = σ0 at hX hI ⊢
  have h : (f_J6_ensureCapacityInternal a0 a1).1 σ0 = some (r, σ9) := by rw [← hσ0]; exact h
  clear hσ0
  delta f_J6_ensureCapacityInternal at h
  have h := (xck_bd h).2
  refine lv_aload_n hx hb dJ6_ensureCapacityInternal_0 rfl (lv_at hl 0 rfl) ?_
  refine xr_gN h hX hI xl_J6_15_15.g dJ6_ensureCapacityInternal_1 (fun v5 h => ?_)
  refine xr_ln h hX hI dJ6_ensureCapacityInternal_4 (fun v6 h => ?_)
  refine lv_aload_n hx hb dJ6_ensureCapacityInternal_5 rfl (lv_at hl 0 rfl) ?_
  refine xr_gI h hX hI xl_J6_22_15.g dJ6_ensureCapacityInternal_6 (fun v7 h => ?_)
  refine lv_ishr hx hb dJ6_ensureCapacityInternal_9 ?_
  refine lv_istore_n (lv' := [(2, .int (v6 >>> (v7 &&& 31))), (0, .ref a0), (1, .int a1)]) hx hb dJ6_ensureCapacityInternal_10 rfl hl (Nat.le_of_ble_eq_true rfl) rfl (fun ls hl => ?_)
  refine lv_iload_n hx hb dJ6_ensureCapacityInternal_11 rfl (lv_at hl 2 rfl) ?_
  refine lv_iload_n hx hb dJ6_ensureCapacityInternal_12 rfl (lv_at hl 0 rfl) ?_
  refine lv_isub hx hb dJ6_ensureCapacityInternal_13 ?_
  refine lv_if_le (tgt := 38) hx hb dJ6_ensureCapacityInternal_14 (by decide) (fun hc => ?_) (fun hc => ?_)
  · have h := xif_t h hc
    exact xr_return h hX hI dJ6_ensureCapacityInternal_38
  · have h := xif_f h hc
    exact xr_no h
/-! java/lang/AbstractStringBuilder.isLatin1()Z  -/
theorem o_J6_isLatin1 {a0 : Nat} {r : Int32} {σ σ9 : xS} (h : (f_J6_isLatin1 a0).1 σ = some (r, σ9)) : ∃ fs, σ.1 a0 = some (.inl (15, fs)) := xck_of h
theorem w_J6_isLatin1 {E : xE} {l : Launch} {a0 : Nat} {r : Int32} {σ σ9 : xS} (h : (f_J6_isLatin1 a0).1 σ = some (r, σ9)) : xMet E l yJ6_isLatin1 (ws_ yJ6_isLatin1 cJ6_isLatin1 1 (some .boolean)) 0 0 [.ref a0] σ σ9 (some (.int r)) := by
  refine xstart (by decide +kernel) ((f_J6_isLatin1 a0).2 _ _ _ h) (Nat.le_of_ble_eq_true rfl) ?_
  intro p e s m args below meth c H locs cells slots ls R hX hI hl
  have hx := hX.1.1
  have hb := hX.1.2.1
  have hl : lv_has ls 1 [(0, .ref a0)] := hl
  generalize hσ0 : σ = σ0 at hX hI ⊢
  have h : (f_J6_isLatin1 a0).1 σ0 = some (r, σ9) := by rw [← hσ0]; exact h
  clear hσ0
  delta f_J6_isLatin1 at h
  have h := (xck_bd h).2
  refine xr_gsI hX hI (xZcs hX) q262 dJ6_isLatin1_0 ?_
  refine lv_if_eq (tgt := 17) hx hb dJ6_isLatin1_3 (by decide) (fun hc => absurd hc (by decide)) (fun _ => ?_)
  refine lv_aload_n hx hb dJ6_isLatin1_6 rfl (lv_at hl 0 rfl) ?_
  refine xr_gI h hX hI xl_J6_22_15.g dJ6_isLatin1_7 (fun v2 h => ?_)
  refine lv_if_ne (tgt := 17) hx hb dJ6_isLatin1_10 (by decide) (fun hc => ?_) (fun hc => ?_)
  · have h := xif_f h hc
    refine lv_iconst (v := (0 : Int32)) hx hb dJ6_isLatin1_17 (by decide) ?_
    exact xr_zreturn h hX hI dJ6_isLatin1_18
  · have h := xif_t h hc
    refine lv_iconst (v := (1 : Int32)) hx hb dJ6_isLatin1_13 (by decide) ?_
    refine lv_goto (tgt := 18) hx hb dJ6_isLatin1_14 (by decide) ?_
    exact xr_zreturn h hX hI dJ6_isLatin1_18
/-! java/lang/StringLatin1.canEncode(C)Z  -/
theorem w_J23_canEncode {E : xE} {l : Launch} {a0 : Int32} {r : Int32} {σ σ9 : xS} (h : (f_J23_canEncode a0).1 σ = some (r, σ9)) : xMet E l yJ23_canEncode (ws_ yJ23_canEncode cJ23_canEncode 1 (some .boolean)) 0 0 [.int a0] σ σ9 (some (.int r)) := by
  refine xstart (by decide +kernel) ((f_J23_canEncode a0).2 _ _ _ h) (Nat.le_of_ble_eq_true rfl) ?_
  intro p e s m args below meth c H locs cells slots ls R hX hI hl
  have hx := hX.1.1
  have hb := hX.1.2.1
  have hl : lv_has ls 1 [(0, .int a0)] := hl
  generalize hσ0 : σ = σ0 at hX hI ⊢
  have h : (f_J23_canEncode a0).1 σ0 = some (r, σ9) := by rw [← hσ0]; exact h
  clear hσ0
  delta f_J23_canEncode at h
  refine lv_iload_n hx hb dJ23_canEncode_0 rfl (lv_at hl 0 rfl) ?_
  refine lv_sipush (v := (255 : Int32)) hx hb dJ23_canEncode_1 (by decide) ?_
  refine lv_icmp_gt (tgt := 11) hx hb dJ23_canEncode_4 (by decide) (fun hc => ?_) (fun hc => ?_)
  · have h := xif_t h hc
    refine lv_iconst (v := (0 : Int32)) hx hb dJ23_canEncode_11 (by decide) ?_
    exact xr_zreturn h hX hI dJ23_canEncode_12
  · have h := xif_f h hc
    refine lv_iconst (v := (1 : Int32)) hx hb dJ23_canEncode_7 (by decide) ?_
    refine lv_goto (tgt := 12) hx hb dJ23_canEncode_8 (by decide) ?_
    exact xr_zreturn h hX hI dJ23_canEncode_12
/-! jdk/internal/util/Preconditions.checkFromIndexSize(IIILjava/util/function/BiFunction;)I  -/
theorem w_J15_checkFromIndexSize {E : xE} {l : Launch} {a0 : Int32} {a1 : Int32} {a2 : Int32} {a3 : (Option Nat)} {r : Int32} {σ σ9 : xS} (h : (f_J15_checkFromIndexSize a0 a1 a2).1 σ = some (r, σ9)) : xMet E l yJ15_checkFromIndexSize (ws_ yJ15_checkFromIndexSize cJ15_checkFromIndexSize 4 (some .int)) 0 0 [.int a0, .int a1, .int a2, va_rf a3] σ σ9 (some (.int r)) := by
  rcases a3 with _ | ba3
  · refine xstart (by decide +kernel) ((f_J15_checkFromIndexSize a0 a1 a2).2 _ _ _ h) (Nat.le_of_ble_eq_true rfl) ?_
    intro p e s m args below meth c H locs cells slots ls R hX hI hl
    have hx := hX.1.1
    have hb := hX.1.2.1
    have hl : lv_has ls 4 [(0, .int a0), (1, .int a1), (2, .int a2), (3, .null)] := hl
    generalize hσ0 : σ = σ0 at hX hI ⊢
    have h : (f_J15_checkFromIndexSize a0 a1 a2).1 σ0 = some (r, σ9) := by rw [← hσ0]; exact h
    clear hσ0
    delta f_J15_checkFromIndexSize at h
    refine lv_iload_n hx hb dJ15_checkFromIndexSize_0 rfl (lv_at hl 2 rfl) ?_
    refine lv_iload_n hx hb dJ15_checkFromIndexSize_1 rfl (lv_at hl 0 rfl) ?_
    refine lv_ior hx hb dJ15_checkFromIndexSize_2 ?_
    refine lv_iload_n hx hb dJ15_checkFromIndexSize_3 rfl (lv_at hl 1 rfl) ?_
    refine lv_ior hx hb dJ15_checkFromIndexSize_4 ?_
    refine lv_if_lt (tgt := 15) hx hb dJ15_checkFromIndexSize_5 (by decide) (fun hc => ?_) (fun hc => ?_)
    · have h := xif_t h hc
      exact xr_no h
    · have h := xif_f h hc
      refine lv_iload_n hx hb dJ15_checkFromIndexSize_8 rfl (lv_at hl 1 rfl) ?_
      refine lv_iload_n hx hb dJ15_checkFromIndexSize_9 rfl (lv_at hl 2 rfl) ?_
      refine lv_iload_n hx hb dJ15_checkFromIndexSize_10 rfl (lv_at hl 0 rfl) ?_
      refine lv_isub hx hb dJ15_checkFromIndexSize_11 ?_
      refine lv_icmp_le (tgt := 23) hx hb dJ15_checkFromIndexSize_12 (by decide) (fun hc => ?_) (fun hc => ?_)
      · have h := xif_t h hc
        refine lv_iload_n hx hb dJ15_checkFromIndexSize_23 rfl (lv_at hl 0 rfl) ?_
        exact xr_ireturn h hX hI dJ15_checkFromIndexSize_24
      · have h := xif_f h hc
        exact xr_no h
  · refine xstart (by decide +kernel) ((f_J15_checkFromIndexSize a0 a1 a2).2 _ _ _ h) (Nat.le_of_ble_eq_true rfl) ?_
    intro p e s m args below meth c H locs cells slots ls R hX hI hl
    have hx := hX.1.1
    have hb := hX.1.2.1
    have hl : lv_has ls 4 [(0, .int a0), (1, .int a1), (2, .int a2), (3, .ref ba3)] := hl
    generalize hσ0 : σ = σ0 at hX hI ⊢
    have h : (f_J15_checkFromIndexSize a0 a1 a2).1 σ0 = some (r, σ9) := by rw [← hσ0]; exact h
    clear hσ0
    delta f_J15_checkFromIndexSize at h
    refine lv_iload_n hx hb dJ15_checkFromIndexSize_0 rfl (lv_at hl 2 rfl) ?_
    refine lv_iload_n hx hb dJ15_checkFromIndexSize_1 rfl (lv_at hl 0 rfl) ?_
    refine lv_ior hx hb dJ15_checkFromIndexSize_2 ?_
    refine lv_iload_n hx hb dJ15_checkFromIndexSize_3 rfl (lv_at hl 1 rfl) ?_
    refine lv_ior hx hb dJ15_checkFromIndexSize_4 ?_
    refine lv_if_lt (tgt := 15) hx hb dJ15_checkFromIndexSize_5 (by decide) (fun hc => ?_) (fun hc => ?_)
    · have h := xif_t h hc
      exact xr_no h
    · have h := xif_f h hc
      refine lv_iload_n hx hb dJ15_checkFromIndexSize_8 rfl (lv_at hl 1 rfl) ?_
      refine lv_iload_n hx hb dJ15_checkFromIndexSize_9 rfl (lv_at hl 2 rfl) ?_
      refine lv_iload_n hx hb dJ15_checkFromIndexSize_10 rfl (lv_at hl 0 rfl) ?_
      refine lv_isub hx hb dJ15_checkFromIndexSize_11 ?_
      refine lv_icmp_le (tgt := 23) hx hb dJ15_checkFromIndexSize_12 (by decide) (fun hc => ?_) (fun hc => ?_)
      · have h := xif_t h hc
        refine lv_iload_n hx hb dJ15_checkFromIndexSize_23 rfl (lv_at hl 0 rfl) ?_
        exact xr_ireturn h hX hI dJ15_checkFromIndexSize_24
      · have h := xif_f h hc
        exact xr_no h
/-! java/lang/String.checkBoundsOffCount(III)I  -/
theorem w_J8_checkBoundsOffCount {E : xE} {l : Launch} {a0 : Int32} {a1 : Int32} {a2 : Int32} {r : Int32} {σ σ9 : xS} (h : (f_J8_checkBoundsOffCount a0 a1 a2).1 σ = some (r, σ9)) : xMet E l yJ8_checkBoundsOffCount (ws_ yJ8_checkBoundsOffCount cJ8_checkBoundsOffCount 3 (some .int)) 1 23 [.int a0, .int a1, .int a2] σ σ9 (some (.int r)) := by
  refine xstart (by decide +kernel) ((f_J8_checkBoundsOffCount a0 a1 a2).2 _ _ _ h) (Nat.le_of_ble_eq_true rfl) ?_
  intro p e s m args below meth c H locs cells slots ls R hX hI hl
  have hx := hX.1.1
  have hb := hX.1.2.1
  have hl : lv_has ls 3 [(0, .int a0), (1, .int a1), (2, .int a2)] := hl
  generalize hσ0 : σ = σ0 at hX hI ⊢
  have h : (f_J8_checkBoundsOffCount a0 a1 a2).1 σ0 = some (r, σ9) := by rw [← hσ0]; exact h
  clear hσ0
  delta f_J8_checkBoundsOffCount at h
  refine lv_iload_n hx hb dJ8_checkBoundsOffCount_0 rfl (lv_at hl 0 rfl) ?_
  refine lv_iload_n hx hb dJ8_checkBoundsOffCount_1 rfl (lv_at hl 1 rfl) ?_
  refine lv_iload_n hx hb dJ8_checkBoundsOffCount_2 rfl (lv_at hl 2 rfl) ?_
  obtain ⟨v3, hsf_v3⟩ := xZsf hX
  refine xr_gsX hX hI hsf_v3 q686 dJ8_checkBoundsOffCount_3 ?_
  refine xr_callS (iv := (fun b => some (.int b))) (As := [.int a0, .int a1, .int a2, va_rf v3]) (rest := []) h hX hI (fun _ _ h => w_J15_checkFromIndexSize (a3 := v3) h) 4 (lw_S q734 q735 q95 q736) xd_J15_checkFromIndexSize ⟨rfl, rfl⟩ rfl hl.1 (Nat.le_of_ble_eq_true rfl) dJ8_checkBoundsOffCount_6 (fun v4 H locs σ cells slots h hI => ?_)
  refine W.eq (g2 := F0 m 9 ls [.int v4]) rfl ?_
  exact xr_ireturn h hX hI dJ8_checkBoundsOffCount_9
/-! java/lang/StringUTF16.checkBoundsOffCount(II[B)V  -/
theorem w_J9_checkBoundsOffCount {E : xE} {l : Launch} {a0 : Int32} {a1 : Int32} {a2 : Nat} {r : Unit} {σ σ9 : xS} (h : (f_J9_checkBoundsOffCount a0 a1 a2).1 σ = some (r, σ9)) : xMet E l yJ9_checkBoundsOffCount (ws_ yJ9_checkBoundsOffCount cJ9_checkBoundsOffCount 3 none) 2 45 [.int a0, .int a1, .ref a2] σ σ9 none := by
  refine xstart (by decide +kernel) ((f_J9_checkBoundsOffCount a0 a1 a2).2 _ _ _ h) (Nat.le_of_ble_eq_true rfl) ?_
  intro p e s m args below meth c H locs cells slots ls R hX hI hl
  have hx := hX.1.1
  have hb := hX.1.2.1
  have hl : lv_has ls 3 [(0, .int a0), (1, .int a1), (2, .ref a2)] := hl
  generalize hσ0 : σ = σ0 at hX hI ⊢
  have h : (f_J9_checkBoundsOffCount a0 a1 a2).1 σ0 = some (r, σ9) := by rw [← hσ0]; exact h
  clear hσ0
  delta f_J9_checkBoundsOffCount at h
  refine lv_iload_n hx hb dJ9_checkBoundsOffCount_0 rfl (lv_at hl 0 rfl) ?_
  refine lv_iload_n hx hb dJ9_checkBoundsOffCount_1 rfl (lv_at hl 1 rfl) ?_
  refine lv_aload_n hx hb dJ9_checkBoundsOffCount_2 rfl (lv_at hl 2 rfl) ?_
  refine xr_callS (iv := (fun b => some (.int b))) (As := [.ref a2]) (rest := [.int a1, .int a0]) h hX hI (fun _ _ h => w_J9_length h) 1 (lw_S q680 q681 q86 q682) xd_J9_length ⟨rfl, rfl⟩ rfl hl.1 (Nat.le_of_ble_eq_true rfl) dJ9_checkBoundsOffCount_3 (fun v3 H locs σ cells slots h hI => ?_)
  refine W.eq (g2 := F0 m 6 ls [.int v3, .int a1, .int a0]) rfl ?_
  refine xr_callS (iv := (fun b => some (.int b))) (As := [.int a0, .int a1, .int v3]) (rest := []) h hX hI (fun _ _ h => w_J8_checkBoundsOffCount h) 3 (lw_S q731 q732 q85 q733) xd_J8_checkBoundsOffCount ⟨rfl, rfl⟩ rfl hl.1 (Nat.le_of_ble_eq_true rfl) dJ9_checkBoundsOffCount_6 (fun v4 H locs σ cells slots h hI => ?_)
  refine W.eq (g2 := F0 m 9 ls [.int v4]) rfl ?_
  refine lv_pop hx hb dJ9_checkBoundsOffCount_9 rfl ?_
  exact xr_return h hX hI dJ9_checkBoundsOffCount_10
/-! java/lang/StringUTF16.putChar([BII)V  -/
theorem w_J9_putChar_b28 {a0 : Nat} {a1 : Int32} {a2 : Int32} {r : Unit} (hX : xX E R p m c cJ9_putChar 3 s args RJ9 "putChar" meth none 1 20 σ0 σ9)
    (h : (f_J9_putChar_b28 a0 a1 a2).1 σ = some (r, σ9)) (hI : xI E σ0 σ s H locs cells slots) (hl : lv_has ls 3 [(0, .ref a0), (1, .int a1), (2, .int a2)]) : W p l e R s m args below meth c H locs cells slots (xMQ E below args s σ0 σ9 none) (F0 m 28 ls []) := by
  have hx := hX.1.1
  have hb := hX.1.2.1
  delta f_J9_putChar_b28 at h
  refine lv_iload_n hx hb dJ9_putChar_28 rfl (lv_at hl 1 rfl) ?_
  refine lv_iconst (v := (1 : Int32)) hx hb dJ9_putChar_29 (by decide) ?_
  refine lv_ishl hx hb dJ9_putChar_30 ?_
  refine lv_istore_n (lv' := [(1, .int (a1 <<< ((1 : Int32) &&& 31))), (0, .ref a0), (2, .int a2)]) hx hb dJ9_putChar_31 rfl hl (Nat.le_of_ble_eq_true rfl) rfl (fun ls hl => ?_)
  refine lv_aload_n hx hb dJ9_putChar_32 rfl (lv_at hl 1 rfl) ?_
  refine lv_iload_n hx hb dJ9_putChar_33 rfl (lv_at hl 0 rfl) ?_
  refine lv_iinc (k := 0) (lv' := [(1, .int ((a1 <<< ((1 : Int32) &&& 31)) + (1 : Int32))), (0, .ref a0), (2, .int a2)]) hx hb dJ9_putChar_34 hl rfl (xiinc (by decide)) (Nat.le_of_ble_eq_true rfl) rfl (fun ls hl => ?_)
  refine lv_iload_n hx hb dJ9_putChar_37 rfl (lv_at hl 2 rfl) ?_
  refine xr_gsI hX hI (xZhi hX) q696 dJ9_putChar_38 ?_
  refine lv_ishr hx hb dJ9_putChar_41 ?_
  refine lv_i2b hx hb dJ9_putChar_42 rfl ?_
  refine xr_stB h hX hI dJ9_putChar_43 (fun H locs σ h hI => ?_)
  refine lv_aload_n hx hb dJ9_putChar_44 rfl (lv_at hl 1 rfl) ?_
  refine lv_iload_n hx hb dJ9_putChar_45 rfl (lv_at hl 0 rfl) ?_
  refine lv_iload_n hx hb dJ9_putChar_46 rfl (lv_at hl 2 rfl) ?_
  refine xr_gsI hX hI (xZlo hX) q698 dJ9_putChar_47 ?_
  refine lv_ishr hx hb dJ9_putChar_50 ?_
  refine lv_i2b hx hb dJ9_putChar_51 rfl ?_
  refine xr_stB h hX hI dJ9_putChar_52 (fun H locs σ h hI => ?_)
  exact xr_return h hX hI dJ9_putChar_53
theorem w_J9_putChar {E : xE} {l : Launch} {a0 : Nat} {a1 : Int32} {a2 : Int32} {r : Unit} {σ σ9 : xS} (h : (f_J9_putChar a0 a1 a2).1 σ = some (r, σ9)) : xMet E l yJ9_putChar (ws_ yJ9_putChar cJ9_putChar 3 none) 1 20 [.ref a0, .int a1, .int a2] σ σ9 none := by
  refine xstart (by decide +kernel) ((f_J9_putChar a0 a1 a2).2 _ _ _ h) (Nat.le_of_ble_eq_true rfl) ?_
  intro p e s m args below meth c H locs cells slots ls R hX hI hl
  have hx := hX.1.1
  have hb := hX.1.2.1
  have hl : lv_has ls 3 [(0, .ref a0), (1, .int a1), (2, .int a2)] := hl
  generalize hσ0 : σ = σ0 at hX hI ⊢
  have h : (f_J9_putChar a0 a1 a2).1 σ0 = some (r, σ9) := by rw [← hσ0]; exact h
  clear hσ0
  delta f_J9_putChar at h
  refine xr_gsI hX hI (xZas hX) q694 dJ9_putChar_0 ?_
  refine lv_if_ne (tgt := 28) hx hb dJ9_putChar_3 (by decide) (fun _ => ?_) (fun hc => absurd hc (by decide))
  exact w_J9_putChar_b28 hX h hI (lv_sub hl [0, 1, 2] rfl)
/-! java/lang/StringUTF16.inflate([BI[BII)V  -/
theorem w_J9_inflate_b10 {rec10 : Nat → Int32 → Nat → Int32 → Int32 → Int32 → xM Unit} {a0 : Nat} {a1 : Int32} {a2 : Nat} {a3 : Int32} {a4 : Int32} {a5 : Int32} {r : Unit} (hX : xX E R p m c cJ9_inflate 6 s args RJ9 "inflate" meth none 3 67 σ0 σ9) (hrec10 : ∀ (a0 : Nat) (a1 : Int32) (a2 : Nat) (a3 : Int32) (a4 : Int32) (a5 : Int32) (σ : xS) (H : Heap) (locs : List Loc) (cells slots : Nat) (ls : Array Slot), (rec10 a0 a1 a2 a3 a4 a5).1 σ = some (r, σ9) → xI E σ0 σ s H locs cells slots → lv_has ls 6 [(0, .ref a0), (1, .int a1), (2, .ref a2), (3, .int a3), (4, .int a4), (5, .int a5)] → W p l e R s m args below meth c H locs cells slots (xMQ E below args s σ0 σ9 none) (F0 m 10 ls []))
    (h : (f_J9_inflate_b10 rec10 a0 a1 a2 a3 a4 a5).1 σ = some (r, σ9)) (hI : xI E σ0 σ s H locs cells slots) (hl : lv_has ls 6 [(0, .ref a0), (1, .int a1), (2, .ref a2), (3, .int a3), (4, .int a4), (5, .int a5)]) : W p l e R s m args below meth c H locs cells slots (xMQ E below args s σ0 σ9 none) (F0 m 10 ls []) := by
  have hx := hX.1.1
  have hb := hX.1.2.1
  delta f_J9_inflate_b10 at h
  refine lv_iload hx hb dJ9_inflate_10 (lv_at hl 5 rfl) ?_
  refine lv_iload hx hb dJ9_inflate_12 (lv_at hl 4 rfl) ?_
  refine lv_icmp_ge (tgt := 41) hx hb dJ9_inflate_14 (by decide) (fun hc => ?_) (fun hc => ?_)
  · have h := xif_t h hc
    exact xr_return h hX hI dJ9_inflate_41
  · have h := xif_f h hc
    refine lv_aload_n hx hb dJ9_inflate_17 rfl (lv_at hl 2 rfl) ?_
    refine lv_iload_n hx hb dJ9_inflate_18 rfl (lv_at hl 3 rfl) ?_
    refine lv_iinc (k := 3) (lv' := [(3, .int (a3 + (1 : Int32))), (0, .ref a0), (1, .int a1), (2, .ref a2), (4, .int a4), (5, .int a5)]) hx hb dJ9_inflate_19 hl rfl (xiinc (by decide)) (Nat.le_of_ble_eq_true rfl) rfl (fun ls hl => ?_)
    refine lv_aload_n hx hb dJ9_inflate_22 rfl (lv_at hl 1 rfl) ?_
    refine lv_iload_n hx hb dJ9_inflate_23 rfl (lv_at hl 2 rfl) ?_
    refine lv_iinc (k := 2) (lv' := [(1, .int (a1 + (1 : Int32))), (3, .int (a3 + (1 : Int32))), (0, .ref a0), (2, .ref a2), (4, .int a4), (5, .int a5)]) hx hb dJ9_inflate_24 hl rfl (xiinc (by decide)) (Nat.le_of_ble_eq_true rfl) rfl (fun ls hl => ?_)
    refine xr_ldB h hX hI dJ9_inflate_27 (fun v2 h => ?_)
    refine lv_sipush (v := (255 : Int32)) hx hb dJ9_inflate_28 (by decide) ?_
    refine lv_iand hx hb dJ9_inflate_31 ?_
    refine xr_callS (iv := (fun _ => none)) (As := [.ref a2, .int a3, .int (v2 &&& (255 : Int32))]) (rest := []) h hX hI (fun _ _ h => w_J9_putChar h) 3 (lw_S q691 q692 q86 q693) xd_J9_putChar ⟨rfl, rfl⟩ rfl hl.1 (Nat.le_of_ble_eq_true rfl) dJ9_inflate_32 (fun _ H locs σ cells slots h hI => ?_)
    refine lv_iinc (k := 5) (lv' := [(5, .int (a5 + (1 : Int32))), (1, .int (a1 + (1 : Int32))), (3, .int (a3 + (1 : Int32))), (0, .ref a0), (2, .ref a2), (4, .int a4)]) hx hb dJ9_inflate_35 hl rfl (xiinc (by decide)) (Nat.le_of_ble_eq_true rfl) rfl (fun ls hl => ?_)
    refine lv_goto (tgt := 10) hx hb dJ9_inflate_38 (by decide) ?_
    exact hrec10 a0 (a1 + (1 : Int32)) a2 (a3 + (1 : Int32)) a4 (a5 + (1 : Int32)) _ _ _ _ _ _ h hI (lv_sub hl [3, 1, 4, 2, 5, 0] rfl)
theorem w_J9_inflate_L10 {r : Unit} (hX : xX E R p m c cJ9_inflate 6 s args RJ9 "inflate" meth none 3 67 σ0 σ9) : ∀ (n : Nat) (a0 : Nat) (a1 : Int32) (a2 : Nat) (a3 : Int32) (a4 : Int32) (a5 : Int32) (σ : xS) (H : Heap) (locs : List Loc) (cells slots : Nat) (ls : Array Slot), (f_J9_inflate_L10 n a0 a1 a2 a3 a4 a5).1 σ = some (r, σ9) → xI E σ0 σ s H locs cells slots → lv_has ls 6 [(0, .ref a0), (1, .int a1), (2, .ref a2), (3, .int a3), (4, .int a4), (5, .int a5)] → W p l e R s m args below meth c H locs cells slots (xMQ E below args s σ0 σ9 none) (F0 m 10 ls []) := by
  intro n
  induction n with
  | zero =>
    intro a0 a1 a2 a3 a4 a5 σ H locs cells slots ls h
    exact xr_no h
  | succ n ih =>
    intro a0 a1 a2 a3 a4 a5 σ H locs cells slots ls h hI hl
    exact w_J9_inflate_b10 hX ih h hI hl
theorem w_J9_inflate {E : xE} {l : Launch} {a0 : Nat} {a1 : Int32} {a2 : Nat} {a3 : Int32} {a4 : Int32} {r : Unit} {σ σ9 : xS} (h : (f_J9_inflate a0 a1 a2 a3 a4).1 σ = some (r, σ9)) : xMet E l yJ9_inflate (ws_ yJ9_inflate cJ9_inflate 6 none) 3 67 [.ref a0, .int a1, .ref a2, .int a3, .int a4] σ σ9 none := by
  refine xstart (by decide +kernel) ((f_J9_inflate a0 a1 a2 a3 a4).2 _ _ _ h) (Nat.le_of_ble_eq_true rfl) ?_
  intro p e s m args below meth c H locs cells slots ls R hX hI hl
  have hx := hX.1.1
  have hb := hX.1.2.1
  have hl : lv_has ls 6 [(0, .ref a0), (1, .int a1), (2, .ref a2), (3, .int a3), (4, .int a4)] := hl
  generalize hσ0 : σ = σ0 at hX hI ⊢
  have h : (f_J9_inflate a0 a1 a2 a3 a4).1 σ0 = some (r, σ9) := by rw [← hσ0]; exact h
  clear hσ0
  delta f_J9_inflate at h
  refine lv_iload_n hx hb dJ9_inflate_0 rfl (lv_at hl 3 rfl) ?_
  refine lv_iload hx hb dJ9_inflate_1 (lv_at hl 4 rfl) ?_
  refine lv_aload_n hx hb dJ9_inflate_3 rfl (lv_at hl 2 rfl) ?_
  refine xr_callS (iv := (fun _ => none)) (As := [.int a3, .int a4, .ref a2]) (rest := []) h hX hI (fun _ _ h => w_J9_checkBoundsOffCount h) 3 (lw_S q728 q729 q86 q730) xd_J9_checkBoundsOffCount ⟨rfl, rfl⟩ rfl hl.1 (Nat.le_of_ble_eq_true rfl) dJ9_inflate_4 (fun _ H locs σ cells slots h hI => ?_)
  refine lv_iconst (v := (0 : Int32)) hx hb dJ9_inflate_7 (by decide) ?_
  refine lv_istore (lv' := [(5, .int (0 : Int32)), (0, .ref a0), (1, .int a1), (2, .ref a2), (3, .int a3), (4, .int a4)]) hx hb dJ9_inflate_8 hl (Nat.le_of_ble_eq_true rfl) rfl (fun ls hl => ?_)
  exact w_J9_inflate_L10 hX xFU a0 a1 a2 a3 a4 (0 : Int32) _ _ _ _ _ _ h hI (lv_sub hl [1, 2, 3, 4, 5, 0] rfl)
/-! java/lang/StringLatin1.inflate([BI[BII)V  -/
theorem w_J23_inflate {E : xE} {l : Launch} {a0 : Nat} {a1 : Int32} {a2 : Nat} {a3 : Int32} {a4 : Int32} {r : Unit} {σ σ9 : xS} (h : (f_J23_inflate a0 a1 a2 a3 a4).1 σ = some (r, σ9)) : xMet E l yJ23_inflate (ws_ yJ23_inflate cJ23_inflate 5 none) 4 92 [.ref a0, .int a1, .ref a2, .int a3, .int a4] σ σ9 none := by
  refine xstart (by decide +kernel) ((f_J23_inflate a0 a1 a2 a3 a4).2 _ _ _ h) (Nat.le_of_ble_eq_true rfl) ?_
  intro p e s m args below meth c H locs cells slots ls R hX hI hl
  have hx := hX.1.1
  have hb := hX.1.2.1
  have hl : lv_has ls 5 [(0, .ref a0), (1, .int a1), (2, .ref a2), (3, .int a3), (4, .int a4)] := hl
  generalize hσ0 : σ = σ0 at hX hI ⊢
  have h : (f_J23_inflate a0 a1 a2 a3 a4).1 σ0 = some (r, σ9) := by rw [← hσ0]; exact h
  clear hσ0
  delta f_J23_inflate at h
  refine lv_aload_n hx hb dJ23_inflate_0 rfl (lv_at hl 0 rfl) ?_
  refine lv_iload_n hx hb dJ23_inflate_1 rfl (lv_at hl 1 rfl) ?_
  refine lv_aload_n hx hb dJ23_inflate_2 rfl (lv_at hl 2 rfl) ?_
  refine lv_iload_n hx hb dJ23_inflate_3 rfl (lv_at hl 3 rfl) ?_
  refine lv_iload hx hb dJ23_inflate_4 (lv_at hl 4 rfl) ?_
  refine xr_callS (iv := (fun _ => none)) (As := [.ref a0, .int a1, .ref a2, .int a3, .int a4]) (rest := []) h hX hI (fun _ _ h => w_J9_inflate h) 5 (lw_S q725 q726 q86 q727) xd_J9_inflate ⟨rfl, rfl⟩ rfl hl.1 (Nat.le_of_ble_eq_true rfl) dJ23_inflate_6 (fun _ H locs σ cells slots h hI => ?_)
  exact xr_return h hX hI dJ23_inflate_9
/-! java/lang/AbstractStringBuilder.inflate()V  -/
theorem o_J6_inflate {a0 : Nat} {r : Unit} {σ σ9 : xS} (h : (f_J6_inflate a0).1 σ = some (r, σ9)) : ∃ fs, σ.1 a0 = some (.inl (15, fs)) := xck_of h
theorem w_J6_inflate {E : xE} {l : Launch} {a0 : Nat} {r : Unit} {σ σ9 : xS} (h : (f_J6_inflate a0).1 σ = some (r, σ9)) : xMet E l yJ6_inflate (ws_ yJ6_inflate cJ6_inflate 2 none) 5 116 [.ref a0] σ σ9 none := by
  refine xstart (by decide +kernel) ((f_J6_inflate a0).2 _ _ _ h) (Nat.le_of_ble_eq_true rfl) ?_
  intro p e s m args below meth c H locs cells slots ls R hX hI hl
  have hx := hX.1.1
  have hb := hX.1.2.1
  have hl : lv_has ls 2 [(0, .ref a0)] := hl
  generalize hσ0 : σ = σ0 at hX hI ⊢
  have h : (f_J6_inflate a0).1 σ0 = some (r, σ9) := by rw [← hσ0]; exact h
  clear hσ0
  delta f_J6_inflate at h
  have h := (xck_bd h).2
  refine lv_aload_n hx hb dJ6_inflate_0 rfl (lv_at hl 0 rfl) ?_
  refine xr_callU (iv := (fun b => some (.int b))) (As := []) (rest := []) h hX hI (fun _ _ h => w_J6_isLatin1 h) (fun _ _ h => o_J6_isLatin1 h) rfl 0 (fun h1 h2 h3 => va_cwU (owner := "java/lang/AbstractStringBuilder") 0 hX.1.2.2.2.2 (xlwU q669 q671 q672 q670 q83 q673) rfl h1 h2 rfl (by decide +kernel) h3) ⟨rfl, rfl⟩ rfl hl.1 (Nat.le_of_ble_eq_true rfl) dJ6_inflate_1 (fun v7 H locs σ cells slots h hI => ?_)
  refine W.eq (g2 := F0 m 4 ls [.int v7]) rfl ?_
  refine lv_if_ne (tgt := 8) hx hb dJ6_inflate_4 (by decide) (fun hc => ?_) (fun hc => ?_)
  · have h := xif_f h hc
    refine lv_aload_n hx hb dJ6_inflate_8 rfl (lv_at hl 0 rfl) ?_
    refine xr_gN h hX hI xl_J6_15_15.g dJ6_inflate_9 (fun v8 h => ?_)
    refine xr_ln h hX hI dJ6_inflate_12 (fun v9 h => ?_)
    refine xr_callS (iv := (fun b => some (.ref b))) (As := [.int v9]) (rest := []) h hX hI (fun _ _ h => w_J9_newBytesFor h) 1 (lw_S q264 q265 q86 q266) xd_J9_newBytesFor ⟨rfl, rfl⟩ rfl hl.1 (Nat.le_of_ble_eq_true rfl) dJ6_inflate_13 (fun v10 H locs σ cells slots h hI => ?_)
    refine W.eq (g2 := F0 m 16 ls [.ref v10]) rfl ?_
    refine lv_astore_n (lv' := [(1, .ref v10), (0, .ref a0)]) hx hb dJ6_inflate_16 rfl hl (Nat.le_of_ble_eq_true rfl) rfl (fun ls hl => ?_)
    refine lv_aload_n hx hb dJ6_inflate_17 rfl (lv_at hl 1 rfl) ?_
    refine xr_gN h hX hI xl_J6_15_15.g dJ6_inflate_18 (fun v11 h => ?_)
    refine lv_iconst (v := (0 : Int32)) hx hb dJ6_inflate_21 (by decide) ?_
    refine lv_aload_n hx hb dJ6_inflate_22 rfl (lv_at hl 0 rfl) ?_
    refine lv_iconst (v := (0 : Int32)) hx hb dJ6_inflate_23 (by decide) ?_
    refine lv_aload_n hx hb dJ6_inflate_24 rfl (lv_at hl 1 rfl) ?_
    refine xr_gI h hX hI xl_J6_79_15.g dJ6_inflate_25 (fun v12 h => ?_)
    refine xr_callS (iv := (fun _ => none)) (As := [.ref v11, .int (0 : Int32), .ref v10, .int (0 : Int32), .int v12]) (rest := []) h hX hI (fun _ _ h => w_J23_inflate h) 5 (lw_S q722 q723 q104 q724) xd_J23_inflate ⟨rfl, rfl⟩ rfl hl.1 (Nat.le_of_ble_eq_true rfl) dJ6_inflate_28 (fun _ H locs σ cells slots h hI => ?_)
    refine lv_aload_n hx hb dJ6_inflate_31 rfl (lv_at hl 1 rfl) ?_
    refine lv_aload_n hx hb dJ6_inflate_32 rfl (lv_at hl 0 rfl) ?_
    refine xr_pt h hX hI xl_J6_15_15 (Or.inl rfl) rfl rfl dJ6_inflate_33 (fun H locs σ h hI => ?_)
    refine lv_aload_n hx hb dJ6_inflate_36 rfl (lv_at hl 1 rfl) ?_
    refine lv_iconst (v := (1 : Int32)) hx hb dJ6_inflate_37 (by decide) ?_
    refine xr_ptB h hX hI xl_J6_22_15 (Or.inl rfl) dJ6_inflate_38 (fun H locs σ h hI => ?_)
    exact xr_return h hX hI dJ6_inflate_41
  · have h := xif_t h hc
    exact xr_return h hX hI dJ6_inflate_7
/-! java/lang/StringUTF16.checkIndex(I[B)V  -/
theorem w_J9_checkIndex {E : xE} {l : Launch} {a0 : Int32} {a1 : Nat} {r : Unit} {σ σ9 : xS} (h : (f_J9_checkIndex a0 a1).1 σ = some (r, σ9)) : xMet E l yJ9_checkIndex (ws_ yJ9_checkIndex cJ9_checkIndex 2 none) 2 43 [.int a0, .ref a1] σ σ9 none := by
  refine xstart (by decide +kernel) ((f_J9_checkIndex a0 a1).2 _ _ _ h) (Nat.le_of_ble_eq_true rfl) ?_
  intro p e s m args below meth c H locs cells slots ls R hX hI hl
  have hx := hX.1.1
  have hb := hX.1.2.1
  have hl : lv_has ls 2 [(0, .int a0), (1, .ref a1)] := hl
  generalize hσ0 : σ = σ0 at hX hI ⊢
  have h : (f_J9_checkIndex a0 a1).1 σ0 = some (r, σ9) := by rw [← hσ0]; exact h
  clear hσ0
  delta f_J9_checkIndex at h
  refine lv_iload_n hx hb dJ9_checkIndex_0 rfl (lv_at hl 0 rfl) ?_
  refine lv_aload_n hx hb dJ9_checkIndex_1 rfl (lv_at hl 1 rfl) ?_
  refine xr_callS (iv := (fun b => some (.int b))) (As := [.ref a1]) (rest := [.int a0]) h hX hI (fun _ _ h => w_J9_length h) 1 (lw_S q680 q681 q86 q682) xd_J9_length ⟨rfl, rfl⟩ rfl hl.1 (Nat.le_of_ble_eq_true rfl) dJ9_checkIndex_2 (fun v2 H locs σ cells slots h hI => ?_)
  refine W.eq (g2 := F0 m 5 ls [.int v2, .int a0]) rfl ?_
  refine xr_callS (iv := (fun _ => none)) (As := [.int a0, .int v2]) (rest := []) h hX hI (fun _ _ h => w_J8_checkIndex h) 2 (lw_S q1632 q1623 q85 q1624) xd_J8_checkIndex ⟨rfl, rfl⟩ rfl hl.1 (Nat.le_of_ble_eq_true rfl) dJ9_checkIndex_5 (fun _ H locs σ cells slots h hI => ?_)
  exact xr_return h hX hI dJ9_checkIndex_8
/-! java/lang/StringUTF16.putCharSB([BII)V  -/
theorem w_J9_putCharSB {E : xE} {l : Launch} {a0 : Nat} {a1 : Int32} {a2 : Int32} {r : Unit} {σ σ9 : xS} (h : (f_J9_putCharSB a0 a1 a2).1 σ = some (r, σ9)) : xMet E l yJ9_putCharSB (ws_ yJ9_putCharSB cJ9_putCharSB 3 none) 3 64 [.ref a0, .int a1, .int a2] σ σ9 none := by
  refine xstart (by decide +kernel) ((f_J9_putCharSB a0 a1 a2).2 _ _ _ h) (Nat.le_of_ble_eq_true rfl) ?_
  intro p e s m args below meth c H locs cells slots ls R hX hI hl
  have hx := hX.1.1
  have hb := hX.1.2.1
  have hl : lv_has ls 3 [(0, .ref a0), (1, .int a1), (2, .int a2)] := hl
  generalize hσ0 : σ = σ0 at hX hI ⊢
  have h : (f_J9_putCharSB a0 a1 a2).1 σ0 = some (r, σ9) := by rw [← hσ0]; exact h
  clear hσ0
  delta f_J9_putCharSB at h
  refine lv_iload_n hx hb dJ9_putCharSB_0 rfl (lv_at hl 1 rfl) ?_
  refine lv_aload_n hx hb dJ9_putCharSB_1 rfl (lv_at hl 0 rfl) ?_
  refine xr_callS (iv := (fun _ => none)) (As := [.int a1, .ref a0]) (rest := []) h hX hI (fun _ _ h => w_J9_checkIndex h) 2 (lw_S q1629 q1630 q86 q1631) xd_J9_checkIndex ⟨rfl, rfl⟩ rfl hl.1 (Nat.le_of_ble_eq_true rfl) dJ9_putCharSB_2 (fun _ H locs σ cells slots h hI => ?_)
  refine lv_aload_n hx hb dJ9_putCharSB_5 rfl (lv_at hl 0 rfl) ?_
  refine lv_iload_n hx hb dJ9_putCharSB_6 rfl (lv_at hl 1 rfl) ?_
  refine lv_iload_n hx hb dJ9_putCharSB_7 rfl (lv_at hl 2 rfl) ?_
  refine xr_callS (iv := (fun _ => none)) (As := [.ref a0, .int a1, .int a2]) (rest := []) h hX hI (fun _ _ h => w_J9_putChar h) 3 (lw_S q691 q692 q86 q693) xd_J9_putChar ⟨rfl, rfl⟩ rfl hl.1 (Nat.le_of_ble_eq_true rfl) dJ9_putCharSB_8 (fun _ H locs σ cells slots h hI => ?_)
  exact xr_return h hX hI dJ9_putCharSB_11
/-! java/lang/AbstractStringBuilder.append(C)Ljava/lang/AbstractStringBuilder;  -/
theorem w_J6_append_2_b56 {a0 : Nat} {a1 : Int32} {r : Nat} (hX : xX E R p m c cJ6_append_2 2 s args RJ6 "append" meth (some (.object "java/lang/AbstractStringBuilder")) 6 137 σ0 σ9)
    (h : (f_J6_append_2_b56 a0 a1).1 σ = some (r, σ9)) (hI : xI E σ0 σ s H locs cells slots) (hl : lv_has ls 2 [(0, .ref a0), (1, .int a1)]) : W p l e R s m args below meth c H locs cells slots (xMQ E below args s σ0 σ9 (some (.ref r))) (F0 m 56 ls []) := by
  have hx := hX.1.1
  have hb := hX.1.2.1
  delta f_J6_append_2_b56 at h
  refine lv_aload_n hx hb dJ6_append_2_56 rfl (lv_at hl 0 rfl) ?_
  refine xr_gN h hX hI xl_J6_15_15.g dJ6_append_2_57 (fun v10 h => ?_)
  refine lv_aload_n hx hb dJ6_append_2_60 rfl (lv_at hl 0 rfl) ?_
  refine lv_dup hx hb dJ6_append_2_61 rfl ?_
  refine xr_gI h hX hI xl_J6_79_15.g dJ6_append_2_62 (fun v11 h => ?_)
  refine lv_dup_x1 hx hb dJ6_append_2_65 rfl rfl ?_
  refine lv_iconst (v := (1 : Int32)) hx hb dJ6_append_2_66 (by decide) ?_
  refine lv_iadd hx hb dJ6_append_2_67 ?_
  refine xr_pt h hX hI xl_J6_79_15 (Or.inl rfl) rfl rfl dJ6_append_2_68 (fun H locs σ h hI => ?_)
  refine lv_iload_n hx hb dJ6_append_2_71 rfl (lv_at hl 1 rfl) ?_
  refine xr_callS (iv := (fun _ => none)) (As := [.ref v10, .int v11, .int a1]) (rest := []) h hX hI (fun _ _ h => w_J9_putCharSB h) 3 (lw_S q1799 q1800 q86 q1801) xd_J9_putCharSB ⟨rfl, rfl⟩ rfl hl.1 (Nat.le_of_ble_eq_true rfl) dJ6_append_2_72 (fun _ H locs σ cells slots h hI => ?_)
  refine lv_aload_n hx hb dJ6_append_2_75 rfl (lv_at hl 0 rfl) ?_
  exact xr_areturn h hX hI (Or.inl ⟨_, rfl⟩) dJ6_append_2_76
theorem w_J6_append_2_b45 {a0 : Nat} {a1 : Int32} {r : Nat} (hX : xX E R p m c cJ6_append_2 2 s args RJ6 "append" meth (some (.object "java/lang/AbstractStringBuilder")) 6 137 σ0 σ9)
    (h : (f_J6_append_2_b45 a0 a1).1 σ = some (r, σ9)) (hI : xI E σ0 σ s H locs cells slots) (hl : lv_has ls 2 [(0, .ref a0), (1, .int a1)]) : W p l e R s m args below meth c H locs cells slots (xMQ E below args s σ0 σ9 (some (.ref r))) (F0 m 45 ls []) := by
  have hx := hX.1.1
  have hb := hX.1.2.1
  delta f_J6_append_2_b45 at h
  refine lv_aload_n hx hb dJ6_append_2_45 rfl (lv_at hl 0 rfl) ?_
  refine xr_callU (iv := (fun b => some (.int b))) (As := []) (rest := []) h hX hI (fun _ _ h => w_J6_isLatin1 h) (fun _ _ h => o_J6_isLatin1 h) rfl 0 (fun h1 h2 h3 => va_cwU (owner := "java/lang/AbstractStringBuilder") 0 hX.1.2.2.2.2 (xlwU q669 q671 q672 q670 q83 q673) rfl h1 h2 rfl (by decide +kernel) h3) ⟨rfl, rfl⟩ rfl hl.1 (Nat.le_of_ble_eq_true rfl) dJ6_append_2_46 (fun v9 H locs σ cells slots h hI => ?_)
  refine W.eq (g2 := F0 m 49 ls [.int v9]) rfl ?_
  refine lv_if_eq (tgt := 56) hx hb dJ6_append_2_49 (by decide) (fun hc => ?_) (fun hc => ?_)
  · have h := xif_t h hc
    exact w_J6_append_2_b56 hX h hI (lv_sub hl [0, 1] rfl)
  · have h := xif_f h hc
    refine lv_aload_n hx hb dJ6_append_2_52 rfl (lv_at hl 0 rfl) ?_
    refine xr_callU (iv := (fun _ => none)) (As := []) (rest := []) h hX hI (fun _ _ h => w_J6_inflate h) (fun _ _ h => o_J6_inflate h) rfl 0 (fun h1 h2 h3 => xCUp hX (List.mem_of_getElem? (i := 1) rfl) q718 q2375 q720 q83 q721 xd_J6_inflate h1 h2 h3) ⟨rfl, rfl⟩ rfl hl.1 (Nat.le_of_ble_eq_true rfl) dJ6_append_2_53 (fun _ H locs σ cells slots h hI => ?_)
    exact w_J6_append_2_b56 hX h hI (lv_sub hl [0, 1] rfl)
theorem o_J6_append_2 {a0 : Nat} {a1 : Int32} {r : Nat} {σ σ9 : xS} (h : (f_J6_append_2 a0 a1).1 σ = some (r, σ9)) : ∃ fs, σ.1 a0 = some (.inl (15, fs)) := xck_of h
theorem w_J6_append_2 {E : xE} {l : Launch} {a0 : Nat} {a1 : Int32} {r : Nat} {σ σ9 : xS} (h : (f_J6_append_2 a0 a1).1 σ = some (r, σ9)) : xMet E l yJ6_append_2 (ws_ yJ6_append_2 cJ6_append_2 2 (some (.object "java/lang/AbstractStringBuilder"))) 6 137 [.ref a0, .int a1] σ σ9 (some (.ref r)) := by
  refine xstart (by decide +kernel) ((f_J6_append_2 a0 a1).2 _ _ _ h) (Nat.le_of_ble_eq_true rfl) ?_
  intro p e s m args below meth c H locs cells slots ls R hX hI hl
  have hx := hX.1.1
  have hb := hX.1.2.1
  have hl : lv_has ls 2 [(0, .ref a0), (1, .int a1)] := hl
  generalize hσ0 : σ = σ0 at hX hI ⊢
  have h : (f_J6_append_2 a0 a1).1 σ0 = some (r, σ9) := by rw [← hσ0]; exact h
  clear hσ0
  delta f_J6_append_2 at h
  have h := (xck_bd h).2
  refine lv_aload_n hx hb dJ6_append_2_0 rfl (lv_at hl 0 rfl) ?_
  refine lv_aload_n hx hb dJ6_append_2_1 rfl (lv_at hl 0 rfl) ?_
  refine xr_gI h hX hI xl_J6_79_15.g dJ6_append_2_2 (fun v12 h => ?_)
  refine lv_iconst (v := (1 : Int32)) hx hb dJ6_append_2_5 (by decide) ?_
  refine lv_iadd hx hb dJ6_append_2_6 ?_
  refine xr_callU (iv := (fun _ => none)) (As := [.int (v12 + (1 : Int32))]) (rest := []) h hX hI (fun _ _ h => w_J6_ensureCapacityInternal h) (fun _ _ h => o_J6_ensureCapacityInternal h) rfl 1 (fun h1 h2 h3 => xCUp hX (List.mem_of_getElem? (i := 0) rfl) q634 q2371 q636 q83 q637 xd_J6_ensureCapacityInternal h1 h2 h3) ⟨rfl, rfl⟩ rfl hl.1 (Nat.le_of_ble_eq_true rfl) dJ6_append_2_7 (fun _ H locs σ cells slots h hI => ?_)
  refine lv_aload_n hx hb dJ6_append_2_10 rfl (lv_at hl 0 rfl) ?_
  refine xr_callU (iv := (fun b => some (.int b))) (As := []) (rest := []) h hX hI (fun _ _ h => w_J6_isLatin1 h) (fun _ _ h => o_J6_isLatin1 h) rfl 0 (fun h1 h2 h3 => va_cwU (owner := "java/lang/AbstractStringBuilder") 0 hX.1.2.2.2.2 (xlwU q669 q671 q672 q670 q83 q673) rfl h1 h2 rfl (by decide +kernel) h3) ⟨rfl, rfl⟩ rfl hl.1 (Nat.le_of_ble_eq_true rfl) dJ6_append_2_11 (fun v13 H locs σ cells slots h hI => ?_)
  refine W.eq (g2 := F0 m 14 ls [.int v13]) rfl ?_
  refine lv_if_eq (tgt := 45) hx hb dJ6_append_2_14 (by decide) (fun hc => ?_) (fun hc => ?_)
  · have h := xif_t h hc
    exact w_J6_append_2_b45 hX h hI (lv_sub hl [0, 1] rfl)
  · have h := xif_f h hc
    refine lv_iload_n hx hb dJ6_append_2_17 rfl (lv_at hl 1 rfl) ?_
    refine xr_callS (iv := (fun b => some (.int b))) (As := [.int a1]) (rest := []) h hX hI (fun _ _ h => w_J23_canEncode h) 1 (lw_S q1796 q1797 q104 q1798) xd_J23_canEncode ⟨rfl, rfl⟩ rfl hl.1 (Nat.le_of_ble_eq_true rfl) dJ6_append_2_18 (fun v14 H locs σ cells slots h hI => ?_)
    refine W.eq (g2 := F0 m 21 ls [.int v14]) rfl ?_
    refine lv_if_eq (tgt := 45) hx hb dJ6_append_2_21 (by decide) (fun hc => ?_) (fun hc => ?_)
    · have h := xif_t h hc
      exact w_J6_append_2_b45 hX h hI (lv_sub hl [0, 1] rfl)
    · have h := xif_f h hc
      refine lv_aload_n hx hb dJ6_append_2_24 rfl (lv_at hl 0 rfl) ?_
      refine xr_gN h hX hI xl_J6_15_15.g dJ6_append_2_25 (fun v15 h => ?_)
      refine lv_aload_n hx hb dJ6_append_2_28 rfl (lv_at hl 0 rfl) ?_
      refine lv_dup hx hb dJ6_append_2_29 rfl ?_
      refine xr_gI h hX hI xl_J6_79_15.g dJ6_append_2_30 (fun v16 h => ?_)
      refine lv_dup_x1 hx hb dJ6_append_2_33 rfl rfl ?_
      refine lv_iconst (v := (1 : Int32)) hx hb dJ6_append_2_34 (by decide) ?_
      refine lv_iadd hx hb dJ6_append_2_35 ?_
      refine xr_pt h hX hI xl_J6_79_15 (Or.inl rfl) rfl rfl dJ6_append_2_36 (fun H locs σ h hI => ?_)
      refine lv_iload_n hx hb dJ6_append_2_39 rfl (lv_at hl 1 rfl) ?_
      refine lv_i2b hx hb dJ6_append_2_40 rfl ?_
      refine xr_stB h hX hI dJ6_append_2_41 (fun H locs σ h hI => ?_)
      refine lv_goto (tgt := 75) hx hb dJ6_append_2_42 (by decide) ?_
      refine lv_aload_n hx hb dJ6_append_2_75 rfl (lv_at hl 0 rfl) ?_
      exact xr_areturn h hX hI (Or.inl ⟨_, rfl⟩) dJ6_append_2_76
/-! java/lang/StringBuilder.append(C)Ljava/lang/StringBuilder;  -/
theorem o_J7_append_2 {a0 : Nat} {a1 : Int32} {r : Nat} {σ σ9 : xS} (h : (f_J7_append_2 a0 a1).1 σ = some (r, σ9)) : ∃ fs, σ.1 a0 = some (.inl (15, fs)) := xck_of h
theorem w_J7_append_2 {E : xE} {l : Launch} {a0 : Nat} {a1 : Int32} {r : Nat} {σ σ9 : xS} (h : (f_J7_append_2 a0 a1).1 σ = some (r, σ9)) : xMet E l yJ7_append_2 (ws_ yJ7_append_2 cJ7_append_2 2 (some (.object "java/lang/StringBuilder"))) 7 158 [.ref a0, .int a1] σ σ9 (some (.ref r)) := by
  refine xstart (by decide +kernel) ((f_J7_append_2 a0 a1).2 _ _ _ h) (Nat.le_of_ble_eq_true rfl) ?_
  intro p e s m args below meth c H locs cells slots ls R hX hI hl
  have hx := hX.1.1
  have hb := hX.1.2.1
  have hl : lv_has ls 2 [(0, .ref a0), (1, .int a1)] := hl
  generalize hσ0 : σ = σ0 at hX hI ⊢
  have h : (f_J7_append_2 a0 a1).1 σ0 = some (r, σ9) := by rw [← hσ0]; exact h
  clear hσ0
  delta f_J7_append_2 at h
  have h := (xck_bd h).2
  refine lv_aload_n hx hb dJ7_append_2_0 rfl (lv_at hl 0 rfl) ?_
  refine lv_iload_n hx hb dJ7_append_2_1 rfl (lv_at hl 1 rfl) ?_
  refine xr_callSU (iv := (fun b => some (.ref b))) (As := [.int a1]) (rest := []) h hX hI (fun _ _ h => w_J6_append_2 h) (fun _ _ h => o_J6_append_2 h) rfl 1 (xlwSU q1793 q2380 q284 q1794 q83 q1795) (by decide +kernel) ⟨rfl, rfl⟩ rfl hl.1 (Nat.le_of_ble_eq_true rfl) dJ7_append_2_2 (fun v2 H locs σ cells slots h hI => ?_)
  refine W.eq (g2 := F0 m 5 ls [.ref v2]) rfl ?_
  refine lv_pop hx hb dJ7_append_2_5 rfl ?_
  refine lv_aload_n hx hb dJ7_append_2_6 rfl (lv_at hl 0 rfl) ?_
  exact xr_areturn h hX hI (Or.inl ⟨_, rfl⟩) dJ7_append_2_7
/-! PayMatch.type(C)I  -/
theorem o_X0_type {a0 : Nat} {a1 : Int32} {r : Int32} {σ σ9 : xS} (h : (f_X0_type a0 a1).1 σ = some (r, σ9)) : ∃ fs, σ.1 a0 = some (.inl (0, fs)) := xck_of h
theorem w_X0_type {E : xE} {l : Launch} {a0 : Nat} {a1 : Int32} {r : Int32} {σ σ9 : xS} (h : (f_X0_type a0 a1).1 σ = some (r, σ9)) : xMet E l yX0_type (ws_ yX0_type cX0_type 2 (some .int)) 8 179 [.ref a0, .int a1] σ σ9 (some (.int r)) := by
  refine xstart (by decide +kernel) ((f_X0_type a0 a1).2 _ _ _ h) (Nat.le_of_ble_eq_true rfl) ?_
  intro p e s m args below meth c H locs cells slots ls R hX hI hl
  have hx := hX.1.1
  have hb := hX.1.2.1
  have hl : lv_has ls 2 [(0, .ref a0), (1, .int a1)] := hl
  generalize hσ0 : σ = σ0 at hX hI ⊢
  have h : (f_X0_type a0 a1).1 σ0 = some (r, σ9) := by rw [← hσ0]; exact h
  clear hσ0
  delta f_X0_type at h
  have h := (xck_bd h).2
  refine lv_aload_n hx hb dX0_type_0 rfl (lv_at hl 0 rfl) ?_
  refine xr_gN h hX hI xl_X0_40_0.g dX0_type_1 (fun v7 h => ?_)
  refine xr_callV (iv := (fun b => some (.int b))) (As := []) (rest := []) h hX hI (fun _ _ h => w_J7_length h) (fun _ _ h => o_J7_length h) rfl 0 (lw_V q1788 q766 q2379 q84 q767) ⟨rfl, xd_J7_length⟩ ⟨rfl, rfl⟩ rfl hl.1 (Nat.le_of_ble_eq_true rfl) dX0_type_4 (fun v8 H locs σ cells slots h hI => ?_)
  refine W.eq (g2 := F0 m 7 ls [.int v8]) rfl ?_
  refine lv_bipush (v := (60 : Int32)) hx hb dX0_type_7 (by decide) ?_
  refine lv_icmp_ne (tgt := 15) hx hb dX0_type_9 (by decide) (fun hc => ?_) (fun hc => ?_)
  · have h := xif_f h hc
    refine lv_aload_n hx hb dX0_type_15 rfl (lv_at hl 0 rfl) ?_
    refine xr_gN h hX hI xl_X0_40_0.g dX0_type_16 (fun v9 h => ?_)
    refine lv_iload_n hx hb dX0_type_19 rfl (lv_at hl 1 rfl) ?_
    refine xr_callV (iv := (fun b => some (.ref b))) (As := [.int a1]) (rest := []) h hX hI (fun _ _ h => w_J7_append_2 h) (fun _ _ h => o_J7_append_2 h) rfl 1 (lw_V q1789 q1790 q1791 q84 q1792) ⟨rfl, xd_J7_append_2⟩ ⟨rfl, rfl⟩ rfl hl.1 (Nat.le_of_ble_eq_true rfl) dX0_type_20 (fun v10 H locs σ cells slots h hI => ?_)
    refine W.eq (g2 := F0 m 23 ls [.ref v10]) rfl ?_
    refine lv_pop hx hb dX0_type_23 rfl ?_
    refine lv_aload_n hx hb dX0_type_24 rfl (lv_at hl 0 rfl) ?_
    refine xr_gN h hX hI xl_X0_40_0.g dX0_type_25 (fun v11 h => ?_)
    refine xr_callV (iv := (fun b => some (.int b))) (As := []) (rest := []) h hX hI (fun _ _ h => w_J7_length h) (fun _ _ h => o_J7_length h) rfl 0 (lw_V q1788 q766 q2379 q84 q767) ⟨rfl, xd_J7_length⟩ ⟨rfl, rfl⟩ rfl hl.1 (Nat.le_of_ble_eq_true rfl) dX0_type_28 (fun v12 H locs σ cells slots h hI => ?_)
    refine W.eq (g2 := F0 m 31 ls [.int v12]) rfl ?_
    exact xr_ireturn h hX hI dX0_type_31
  · have h := xif_t h hc
    refine lv_bipush (v := (-3 : Int32)) hx hb dX0_type_12 (by decide) ?_
    exact xr_ireturn h hX hI dX0_type_14
end
