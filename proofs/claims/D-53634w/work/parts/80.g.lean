/-! walks, printed by gen.py -/
set_option maxRecDepth 100000
section
variable {E : xE} {p : Program} {l : Launch} {e : Env} {R : Room} {s : State} {m : MethodId} {args : Array Value} {below : List Frame} {meth : Method} {c : Code} {H : Heap} {locs : List Loc} {cells slots : Nat} {ls : Array Slot} {σ0 σ σ9 : xS}
/-! PayMatchModel.atLeast0(I)I  -/
theorem w_X3_atLeast0 {E : xE} {l : Launch} {a0 : Int32} {r : Int32} {σ σ9 : xS} (h : (f_X3_atLeast0 a0).1 σ = some (r, σ9)) : xMet E l yX3_atLeast0 (ws_ yX3_atLeast0 cX3_atLeast0 1 (some .int)) 0 0 [.int a0] σ σ9 (some (.int r)) := by
  refine xstart (by decide +kernel) ((f_X3_atLeast0 a0).2 _ _ _ h) (Nat.le_of_ble_eq_true rfl) ?_
  intro p e s m args below meth c H locs cells slots ls R hX hI hl
  have hx := hX.1.1
  have hb := hX.1.2.1
  have hl : lv_has ls 1 [(0, .int a0)] := hl
  generalize hσ0 : σ = σ0 at hX hI ⊢
  have h : (f_X3_atLeast0 a0).1 σ0 = some (r, σ9) := by rw [← hσ0]; exact h
  clear hσ0
  delta f_X3_atLeast0 at h
  refine lv_iload_n hx hb dX3_atLeast0_0 rfl (lv_at hl 0 rfl) ?_
  refine lv_if_le (tgt := 8) hx hb dX3_atLeast0_1 (by decide) (fun hc => ?_) (fun hc => ?_)
  · have h := xif_t h hc
    refine lv_iconst (v := (0 : Int32)) hx hb dX3_atLeast0_8 (by decide) ?_
    exact xr_ireturn h hX hI dX3_atLeast0_9
  · have h := xif_f h hc
    refine lv_iload_n hx hb dX3_atLeast0_4 rfl (lv_at hl 0 rfl) ?_
    refine lv_goto (tgt := 9) hx hb dX3_atLeast0_5 (by decide) ?_
    exact xr_ireturn h hX hI dX3_atLeast0_9
/-! PayMatchModel.line(III)I  -/
theorem w_X3_line_b107 {t0 : Int32} {r : Int32} (hX : xX E R p m c cX3_line 5 s args RX3 "line" meth (some .int) 4 125 σ0 σ9)
    (h : (f_X3_line_b107 t0).1 σ = some (r, σ9)) (hI : xI E σ0 σ s H locs cells slots) (hl : lv_has ls 5 []) : W p l e R s m args below meth c H locs cells slots (xMQ E below args s σ0 σ9 (some (.int r))) (F0 m 107 ls [.int t0]) := by
  have hx := hX.1.1
  have hb := hX.1.2.1
  delta f_X3_line_b107 at h
  refine xr_callS (iv := (fun b => some (.int b))) (As := [.int t0]) (rest := []) h hX hI (fun _ _ h => w_X3_atLeast0 h) 1 (lw_S q2320 q2321 q87 q2322) xd_X3_atLeast0 ⟨rfl, rfl⟩ rfl hl.1 (Nat.le_of_ble_eq_true rfl) dX3_line_107 (fun v18 H locs σ cells slots h hI => ?_)
  refine W.eq (g2 := F0 m 110 ls [.int v18]) rfl ?_
  exact xr_ireturn h hX hI dX3_line_110
theorem w_X3_line_b58 {t0 : Int32} {a0 : Nat} {a1 : Int32} {a2 : Int32} {a3 : Int32} {r : Int32} (hX : xX E R p m c cX3_line 5 s args RX3 "line" meth (some .int) 4 125 σ0 σ9)
    (h : (f_X3_line_b58 t0 a0 a1 a2 a3).1 σ = some (r, σ9)) (hI : xI E σ0 σ s H locs cells slots) (hl : lv_has ls 5 [(0, .ref a0), (1, .int a1), (2, .int a2), (3, .int a3)]) : W p l e R s m args below meth c H locs cells slots (xMQ E below args s σ0 σ9 (some (.int r))) (F0 m 58 ls [.int t0]) := by
  have hx := hX.1.1
  have hb := hX.1.2.1
  delta f_X3_line_b58 at h
  refine lv_istore (lv' := [(4, .int t0), (0, .ref a0), (1, .int a1), (2, .int a2), (3, .int a3)]) hx hb dX3_line_58 hl (Nat.le_of_ble_eq_true rfl) rfl (fun ls hl => ?_)
  refine lv_iload_n hx hb dX3_line_60 rfl (lv_at hl 4 rfl) ?_
  refine lv_bipush (v := (8 : Int32)) hx hb dX3_line_61 (by decide) ?_
  refine lv_icmp_ge (tgt := 79) hx hb dX3_line_63 (by decide) (fun hc => ?_) (fun hc => ?_)
  · have h := xif_t h hc
    refine lv_iload_n hx hb dX3_line_79 rfl (lv_at hl 4 rfl) ?_
    refine lv_bipush (v := (8 : Int32)) hx hb dX3_line_80 (by decide) ?_
    refine lv_icmp_ne (tgt := 90) hx hb dX3_line_82 (by decide) (fun hc => ?_) (fun hc => ?_)
    · have h := xif_f h hc
      refine lv_aload_n hx hb dX3_line_90 rfl (lv_at hl 1 rfl) ?_
      refine lv_iload_n hx hb dX3_line_91 rfl (lv_at hl 2 rfl) ?_
      refine lv_iload_n hx hb dX3_line_92 rfl (lv_at hl 3 rfl) ?_
      refine xr_callV (iv := (fun b => some (.int b))) (As := [.int a1, .int a2]) (rest := []) h hX hI (fun _ _ h => w_X3_billsMost h) (fun _ _ h => o_X3_billsMost h) rfl 2 (lw_V q2152 q2154 qs45 q87 q2155) ⟨rfl, xd_X3_billsMost⟩ ⟨rfl, rfl⟩ rfl hl.1 (Nat.le_of_ble_eq_true rfl) dX3_line_93 (fun v13 H locs σ cells slots h hI => ?_)
      refine W.eq (g2 := F0 m 96 ls [.int v13]) rfl ?_
      refine lv_aload_n hx hb dX3_line_96 rfl (lv_at hl 1 rfl) ?_
      refine lv_iload_n hx hb dX3_line_97 rfl (lv_at hl 2 rfl) ?_
      refine lv_iload_n hx hb dX3_line_98 rfl (lv_at hl 3 rfl) ?_
      refine lv_iconst (v := (5 : Int32)) hx hb dX3_line_99 (by decide) ?_
      refine xr_callS (iv := (fun b => some (.int b))) (As := [.int a1, .int a2, .int (5 : Int32)]) (rest := [.ref a0, .int v13]) h hX hI (fun _ _ h => w_X3_ofLine h) 3 (lw_S q2103 q2104 q87 q2105) xd_X3_ofLine ⟨rfl, rfl⟩ rfl hl.1 (Nat.le_of_ble_eq_true rfl) dX3_line_100 (fun v14 H locs σ cells slots h hI => ?_)
      refine W.eq (g2 := F0 m 103 ls [.int v14, .ref a0, .int v13]) rfl ?_
      refine xr_callV (iv := (fun b => some (.int b))) (As := [.int v14]) (rest := [.int v13]) h hX hI (fun _ _ h => w_X3_at h) (fun _ _ h => o_X3_at h) rfl 1 (lw_V q2022 q2024 qs31 q87 q2025) ⟨rfl, xd_X3_at⟩ ⟨rfl, rfl⟩ rfl hl.1 (Nat.le_of_ble_eq_true rfl) dX3_line_103 (fun v15 H locs σ cells slots h hI => ?_)
      refine W.eq (g2 := F0 m 106 ls [.int v15, .int v13]) rfl ?_
      refine lv_isub hx hb dX3_line_106 ?_
      exact w_X3_line_b107 hX h hI (lv_sub hl [] rfl)
    · have h := xif_t h hc
      refine lv_iload hx hb dX3_line_85 (lv_at hl 0 rfl) ?_
      refine lv_goto (tgt := 107) hx hb dX3_line_87 (by decide) ?_
      exact w_X3_line_b107 hX h hI (lv_sub hl [] rfl)
  · have h := xif_f h hc
    refine lv_aload_n hx hb dX3_line_66 rfl (lv_at hl 1 rfl) ?_
    refine lv_iload_n hx hb dX3_line_67 rfl (lv_at hl 2 rfl) ?_
    refine lv_iload_n hx hb dX3_line_68 rfl (lv_at hl 3 rfl) ?_
    refine lv_iload_n hx hb dX3_line_69 rfl (lv_at hl 4 rfl) ?_
    refine xr_callS (iv := (fun b => some (.int b))) (As := [.int a1, .int a2, .int a3]) (rest := [.ref a0]) h hX hI (fun _ _ h => w_X3_ofLine h) 3 (lw_S q2103 q2104 q87 q2105) xd_X3_ofLine ⟨rfl, rfl⟩ rfl hl.1 (Nat.le_of_ble_eq_true rfl) dX3_line_70 (fun v16 H locs σ cells slots h hI => ?_)
    refine W.eq (g2 := F0 m 73 ls [.int v16, .ref a0]) rfl ?_
    refine xr_callV (iv := (fun b => some (.int b))) (As := [.int v16]) (rest := []) h hX hI (fun _ _ h => w_X3_at h) (fun _ _ h => o_X3_at h) rfl 1 (lw_V q2022 q2024 qs31 q87 q2025) ⟨rfl, xd_X3_at⟩ ⟨rfl, rfl⟩ rfl hl.1 (Nat.le_of_ble_eq_true rfl) dX3_line_73 (fun v17 H locs σ cells slots h hI => ?_)
    refine W.eq (g2 := F0 m 76 ls [.int v17]) rfl ?_
    refine lv_goto (tgt := 110) hx hb dX3_line_76 (by decide) ?_
    exact xr_ireturn h hX hI dX3_line_110
theorem o_X3_line {a0 : Nat} {a1 : Int32} {a2 : Int32} {a3 : Int32} {r : Int32} {σ σ9 : xS} (h : (f_X3_line a0 a1 a2 a3).1 σ = some (r, σ9)) : ∃ fs, σ.1 a0 = some (.inl (3, fs)) := xck_of h
theorem w_X3_line {E : xE} {l : Launch} {a0 : Nat} {a1 : Int32} {a2 : Int32} {a3 : Int32} {r : Int32} {σ σ9 : xS} (h : (f_X3_line a0 a1 a2 a3).1 σ = some (r, σ9)) : xMet E l yX3_line (ws_ yX3_line cX3_line 5 (some .int)) 4 125 [.ref a0, .int a1, .int a2, .int a3] σ σ9 (some (.int r)) := by
  refine xstart (by decide +kernel) ((f_X3_line a0 a1 a2 a3).2 _ _ _ h) (Nat.le_of_ble_eq_true rfl) ?_
  intro p e s m args below meth c H locs cells slots ls R hX hI hl
  have hx := hX.1.1
  have hb := hX.1.2.1
  have hl : lv_has ls 5 [(0, .ref a0), (1, .int a1), (2, .int a2), (3, .int a3)] := hl
  generalize hσ0 : σ = σ0 at hX hI ⊢
  have h : (f_X3_line a0 a1 a2 a3).1 σ0 = some (r, σ9) := by rw [← hσ0]; exact h
  clear hσ0
  delta f_X3_line at h
  have h := (xck_bd h).2
  refine lv_aload_n hx hb dX3_line_0 rfl (lv_at hl 0 rfl) ?_
  refine lv_iconst (v := (0 : Int32)) hx hb dX3_line_1 (by decide) ?_
  refine xr_pt h hX hI xl_X3_1_3 (Or.inl rfl) rfl rfl dX3_line_2 (fun H locs σ h hI => ?_)
  refine lv_aload_n hx hb dX3_line_5 rfl (lv_at hl 0 rfl) ?_
  refine lv_iload_n hx hb dX3_line_6 rfl (lv_at hl 1 rfl) ?_
  refine lv_iload_n hx hb dX3_line_7 rfl (lv_at hl 2 rfl) ?_
  refine xr_callV (iv := (fun b => some (.int b))) (As := [.int a1, .int a2]) (rest := []) h hX hI (fun _ _ h => w_X3_isLine h) (fun _ _ h => o_X3_isLine h) rfl 2 (lw_V q2110 q2112 qs39 q87 q2113) ⟨rfl, xd_X3_isLine⟩ ⟨rfl, rfl⟩ rfl hl.1 (Nat.le_of_ble_eq_true rfl) dX3_line_8 (fun v19 H locs σ cells slots h hI => ?_)
  refine W.eq (g2 := F0 m 11 ls [.int v19]) rfl ?_
  refine lv_if_ne (tgt := 16) hx hb dX3_line_11 (by decide) (fun hc => ?_) (fun hc => ?_)
  · have h := xif_f h hc
    refine lv_iload_n hx hb dX3_line_16 rfl (lv_at hl 3 rfl) ?_
    refine lv_iconst (v := (0 : Int32)) hx hb dX3_line_17 (by decide) ?_
    refine lv_bipush (v := (9 : Int32)) hx hb dX3_line_18 (by decide) ?_
    refine xr_callS (iv := (fun b => some (.int b))) (As := [.int a3, .int (0 : Int32), .int (9 : Int32)]) (rest := []) h hX hI (fun _ _ h => w_X3_in h) 3 (lw_S q2043 q2044 q87 q2045) xd_X3_in ⟨rfl, rfl⟩ rfl hl.1 (Nat.le_of_ble_eq_true rfl) dX3_line_20 (fun v20 H locs σ cells slots h hI => ?_)
    refine W.eq (g2 := F0 m 23 ls [.int v20]) rfl ?_
    refine lv_if_ne (tgt := 29) hx hb dX3_line_23 (by decide) (fun hc => ?_) (fun hc => ?_)
    · have h := xif_f h hc
      refine lv_aload_n hx hb dX3_line_29 rfl (lv_at hl 0 rfl) ?_
      refine lv_iload_n hx hb dX3_line_30 rfl (lv_at hl 1 rfl) ?_
      refine xr_callV (iv := (fun b => some (.int b))) (As := [.int a1]) (rest := []) h hX hI (fun _ _ h => w_X3_isOpen h) (fun _ _ h => o_X3_isOpen h) rfl 1 (lw_V q2099 q2101 qs38 q87 q2102) ⟨rfl, xd_X3_isOpen⟩ ⟨rfl, rfl⟩ rfl hl.1 (Nat.le_of_ble_eq_true rfl) dX3_line_31 (fun v21 H locs σ cells slots h hI => ?_)
      refine W.eq (g2 := F0 m 34 ls [.int v21]) rfl ?_
      refine lv_if_eq (tgt := 57) hx hb dX3_line_34 (by decide) (fun hc => ?_) (fun hc => ?_)
      · have h := xif_t h hc
        refine lv_iconst (v := (0 : Int32)) hx hb dX3_line_57 (by decide) ?_
        exact w_X3_line_b58 hX h hI (lv_sub hl [0, 1, 2, 3] rfl)
      · have h := xif_f h hc
        refine lv_aload_n hx hb dX3_line_37 rfl (lv_at hl 0 rfl) ?_
        refine lv_iload_n hx hb dX3_line_38 rfl (lv_at hl 1 rfl) ?_
        refine lv_iload_n hx hb dX3_line_39 rfl (lv_at hl 2 rfl) ?_
        refine xr_callV (iv := (fun b => some (.int b))) (As := [.int a1, .int a2]) (rest := []) h hX hI (fun _ _ h => w_X3_takesMost h) (fun _ _ h => o_X3_takesMost h) rfl 2 (lw_V q2127 q2129 qs40 q87 q2130) ⟨rfl, xd_X3_takesMost⟩ ⟨rfl, rfl⟩ rfl hl.1 (Nat.le_of_ble_eq_true rfl) dX3_line_40 (fun v22 H locs σ cells slots h hI => ?_)
        refine W.eq (g2 := F0 m 43 ls [.int v22]) rfl ?_
        refine lv_aload_n hx hb dX3_line_43 rfl (lv_at hl 0 rfl) ?_
        refine lv_iload_n hx hb dX3_line_44 rfl (lv_at hl 1 rfl) ?_
        refine lv_iload_n hx hb dX3_line_45 rfl (lv_at hl 2 rfl) ?_
        refine lv_iconst (v := (3 : Int32)) hx hb dX3_line_46 (by decide) ?_
        refine xr_callS (iv := (fun b => some (.int b))) (As := [.int a1, .int a2, .int (3 : Int32)]) (rest := [.ref a0, .int v22]) h hX hI (fun _ _ h => w_X3_ofLine h) 3 (lw_S q2103 q2104 q87 q2105) xd_X3_ofLine ⟨rfl, rfl⟩ rfl hl.1 (Nat.le_of_ble_eq_true rfl) dX3_line_47 (fun v23 H locs σ cells slots h hI => ?_)
        refine W.eq (g2 := F0 m 50 ls [.int v23, .ref a0, .int v22]) rfl ?_
        refine xr_callV (iv := (fun b => some (.int b))) (As := [.int v23]) (rest := [.int v22]) h hX hI (fun _ _ h => w_X3_at h) (fun _ _ h => o_X3_at h) rfl 1 (lw_V q2022 q2024 qs31 q87 q2025) ⟨rfl, xd_X3_at⟩ ⟨rfl, rfl⟩ rfl hl.1 (Nat.le_of_ble_eq_true rfl) dX3_line_50 (fun v24 H locs σ cells slots h hI => ?_)
        refine W.eq (g2 := F0 m 53 ls [.int v24, .int v22]) rfl ?_
        refine lv_isub hx hb dX3_line_53 ?_
        refine lv_goto (tgt := 58) hx hb dX3_line_54 (by decide) ?_
        exact w_X3_line_b58 hX h hI (lv_sub hl [0, 1, 2, 3] rfl)
    · have h := xif_t h hc
      refine lv_bipush (v := (-2 : Int32)) hx hb dX3_line_26 (by decide) ?_
      exact xr_ireturn h hX hI dX3_line_28
  · have h := xif_t h hc
    refine lv_iconst (v := (-1 : Int32)) hx hb dX3_line_14 (by decide) ?_
    exact xr_ireturn h hX hI dX3_line_15
/-! PayMatch.invoice(II)I  -/
theorem w_X0_invoice_b96 {a3 : Nat} {r : Int32} (hX : xX E R p m c cX0_invoice 4 s args RX0 "invoice" meth (some .int) 8 178 σ0 σ9)
    (h : (f_X0_invoice_b96 a3).1 σ = some (r, σ9)) (hI : xI E σ0 σ s H locs cells slots) (hl : lv_has ls 4 [(3, .ref a3)]) : W p l e R s m args below meth c H locs cells slots (xMQ E below args s σ0 σ9 (some (.int r))) (F0 m 96 ls []) := by
  have hx := hX.1.1
  have hb := hX.1.2.1
  delta f_X0_invoice_b96 at h
  refine lv_aload_n hx hb dX0_invoice_96 rfl (lv_at hl 0 rfl) ?_
  refine xr_gI h hX hI xl_X0_372_4 dX0_invoice_97 (fun v34 h => ?_)
  refine lv_goto (tgt := 187) hx hb dX0_invoice_100 (by decide) ?_
  exact xr_ireturn h hX hI dX0_invoice_187
theorem w_X0_invoice_b103 {a3 : Nat} {r : Int32} (hX : xX E R p m c cX0_invoice 4 s args RX0 "invoice" meth (some .int) 8 178 σ0 σ9)
    (h : (f_X0_invoice_b103 a3).1 σ = some (r, σ9)) (hI : xI E σ0 σ s H locs cells slots) (hl : lv_has ls 4 [(3, .ref a3)]) : W p l e R s m args below meth c H locs cells slots (xMQ E below args s σ0 σ9 (some (.int r))) (F0 m 103 ls []) := by
  have hx := hX.1.1
  have hb := hX.1.2.1
  delta f_X0_invoice_b103 at h
  refine lv_aload_n hx hb dX0_invoice_103 rfl (lv_at hl 0 rfl) ?_
  refine xr_gI h hX hI xl_X0_286_4 dX0_invoice_104 (fun v33 h => ?_)
  refine lv_goto (tgt := 187) hx hb dX0_invoice_107 (by decide) ?_
  exact xr_ireturn h hX hI dX0_invoice_187
theorem w_X0_invoice_b110 {a3 : Nat} {r : Int32} (hX : xX E R p m c cX0_invoice 4 s args RX0 "invoice" meth (some .int) 8 178 σ0 σ9)
    (h : (f_X0_invoice_b110 a3).1 σ = some (r, σ9)) (hI : xI E σ0 σ s H locs cells slots) (hl : lv_has ls 4 [(3, .ref a3)]) : W p l e R s m args below meth c H locs cells slots (xMQ E below args s σ0 σ9 (some (.int r))) (F0 m 110 ls []) := by
  have hx := hX.1.1
  have hb := hX.1.2.1
  delta f_X0_invoice_b110 at h
  refine lv_aload_n hx hb dX0_invoice_110 rfl (lv_at hl 0 rfl) ?_
  refine xr_gI h hX hI xl_X0_373_4 dX0_invoice_111 (fun v32 h => ?_)
  refine lv_goto (tgt := 187) hx hb dX0_invoice_114 (by decide) ?_
  exact xr_ireturn h hX hI dX0_invoice_187
theorem w_X0_invoice_b117 {a3 : Nat} {r : Int32} (hX : xX E R p m c cX0_invoice 4 s args RX0 "invoice" meth (some .int) 8 178 σ0 σ9)
    (h : (f_X0_invoice_b117 a3).1 σ = some (r, σ9)) (hI : xI E σ0 σ s H locs cells slots) (hl : lv_has ls 4 [(3, .ref a3)]) : W p l e R s m args below meth c H locs cells slots (xMQ E below args s σ0 σ9 (some (.int r))) (F0 m 117 ls []) := by
  have hx := hX.1.1
  have hb := hX.1.2.1
  delta f_X0_invoice_b117 at h
  refine lv_aload_n hx hb dX0_invoice_117 rfl (lv_at hl 0 rfl) ?_
  refine xr_gN h hX hI xl_X0_374_4.g dX0_invoice_118 (fun v30 h => ?_)
  refine xr_ln h hX hI dX0_invoice_121 (fun v31 h => ?_)
  refine lv_goto (tgt := 187) hx hb dX0_invoice_122 (by decide) ?_
  exact xr_ireturn h hX hI dX0_invoice_187
theorem w_X0_invoice_b125 {a3 : Nat} {r : Int32} (hX : xX E R p m c cX0_invoice 4 s args RX0 "invoice" meth (some .int) 8 178 σ0 σ9)
    (h : (f_X0_invoice_b125 a3).1 σ = some (r, σ9)) (hI : xI E σ0 σ s H locs cells slots) (hl : lv_has ls 4 [(3, .ref a3)]) : W p l e R s m args below meth c H locs cells slots (xMQ E below args s σ0 σ9 (some (.int r))) (F0 m 125 ls []) := by
  have hx := hX.1.1
  have hb := hX.1.2.1
  delta f_X0_invoice_b125 at h
  refine lv_aload_n hx hb dX0_invoice_125 rfl (lv_at hl 0 rfl) ?_
  refine xr_gI h hX hI xl_X0_266_4.g dX0_invoice_126 (fun v29 h => ?_)
  refine lv_goto (tgt := 187) hx hb dX0_invoice_129 (by decide) ?_
  exact xr_ireturn h hX hI dX0_invoice_187
theorem w_X0_invoice_b132 {a3 : Nat} {r : Int32} (hX : xX E R p m c cX0_invoice 4 s args RX0 "invoice" meth (some .int) 8 178 σ0 σ9)
    (h : (f_X0_invoice_b132 a3).1 σ = some (r, σ9)) (hI : xI E σ0 σ s H locs cells slots) (hl : lv_has ls 4 [(3, .ref a3)]) : W p l e R s m args below meth c H locs cells slots (xMQ E below args s σ0 σ9 (some (.int r))) (F0 m 132 ls []) := by
  have hx := hX.1.1
  have hb := hX.1.2.1
  delta f_X0_invoice_b132 at h
  refine lv_aload_n hx hb dX0_invoice_132 rfl (lv_at hl 0 rfl) ?_
  refine xr_gI h hX hI xl_X0_267_4.g dX0_invoice_133 (fun v28 h => ?_)
  refine lv_goto (tgt := 187) hx hb dX0_invoice_136 (by decide) ?_
  exact xr_ireturn h hX hI dX0_invoice_187
theorem w_X0_invoice_b139 {a3 : Nat} {r : Int32} (hX : xX E R p m c cX0_invoice 4 s args RX0 "invoice" meth (some .int) 8 178 σ0 σ9)
    (h : (f_X0_invoice_b139 a3).1 σ = some (r, σ9)) (hI : xI E σ0 σ s H locs cells slots) (hl : lv_has ls 4 [(3, .ref a3)]) : W p l e R s m args below meth c H locs cells slots (xMQ E below args s σ0 σ9 (some (.int r))) (F0 m 139 ls []) := by
  have hx := hX.1.1
  have hb := hX.1.2.1
  delta f_X0_invoice_b139 at h
  refine lv_aload_n hx hb dX0_invoice_139 rfl (lv_at hl 0 rfl) ?_
  refine xr_callV (iv := (fun b => some (.int b))) (As := []) (rest := []) h hX hI (fun _ _ h => w_X4_total h) (fun _ _ h => o_X4_total h) rfl 0 (lw_V q1760 q1544 q1545 q105 q1546) ⟨rfl, xd_X4_total⟩ ⟨rfl, rfl⟩ rfl hl.1 (Nat.le_of_ble_eq_true rfl) dX0_invoice_140 (fun v27 H locs σ cells slots h hI => ?_)
  refine W.eq (g2 := F0 m 143 ls [.int v27]) rfl ?_
  refine lv_goto (tgt := 187) hx hb dX0_invoice_143 (by decide) ?_
  exact xr_ireturn h hX hI dX0_invoice_187
theorem w_X0_invoice_b146 {a3 : Nat} {r : Int32} (hX : xX E R p m c cX0_invoice 4 s args RX0 "invoice" meth (some .int) 8 178 σ0 σ9)
    (h : (f_X0_invoice_b146 a3).1 σ = some (r, σ9)) (hI : xI E σ0 σ s H locs cells slots) (hl : lv_has ls 4 [(3, .ref a3)]) : W p l e R s m args below meth c H locs cells slots (xMQ E below args s σ0 σ9 (some (.int r))) (F0 m 146 ls []) := by
  have hx := hX.1.1
  have hb := hX.1.2.1
  delta f_X0_invoice_b146 at h
  refine lv_aload_n hx hb dX0_invoice_146 rfl (lv_at hl 0 rfl) ?_
  refine xr_gI h hX hI xl_X0_378_4.g dX0_invoice_147 (fun v26 h => ?_)
  refine lv_goto (tgt := 187) hx hb dX0_invoice_150 (by decide) ?_
  exact xr_ireturn h hX hI dX0_invoice_187
theorem w_X0_invoice_b153 {a3 : Nat} {r : Int32} (hX : xX E R p m c cX0_invoice 4 s args RX0 "invoice" meth (some .int) 8 178 σ0 σ9)
    (h : (f_X0_invoice_b153 a3).1 σ = some (r, σ9)) (hI : xI E σ0 σ s H locs cells slots) (hl : lv_has ls 4 [(3, .ref a3)]) : W p l e R s m args below meth c H locs cells slots (xMQ E below args s σ0 σ9 (some (.int r))) (F0 m 153 ls []) := by
  have hx := hX.1.1
  have hb := hX.1.2.1
  delta f_X0_invoice_b153 at h
  refine lv_aload_n hx hb dX0_invoice_153 rfl (lv_at hl 0 rfl) ?_
  refine xr_gI h hX hI xl_X0_379_4.g dX0_invoice_154 (fun v25 h => ?_)
  refine lv_goto (tgt := 187) hx hb dX0_invoice_157 (by decide) ?_
  exact xr_ireturn h hX hI dX0_invoice_187
theorem w_X0_invoice_b160 {a3 : Nat} {r : Int32} (hX : xX E R p m c cX0_invoice 4 s args RX0 "invoice" meth (some .int) 8 178 σ0 σ9)
    (h : (f_X0_invoice_b160 a3).1 σ = some (r, σ9)) (hI : xI E σ0 σ s H locs cells slots) (hl : lv_has ls 4 [(3, .ref a3)]) : W p l e R s m args below meth c H locs cells slots (xMQ E below args s σ0 σ9 (some (.int r))) (F0 m 160 ls []) := by
  have hx := hX.1.1
  have hb := hX.1.2.1
  delta f_X0_invoice_b160 at h
  refine lv_aload_n hx hb dX0_invoice_160 rfl (lv_at hl 0 rfl) ?_
  refine xr_gI h hX hI xl_X0_380_4.g dX0_invoice_161 (fun v24 h => ?_)
  refine lv_goto (tgt := 187) hx hb dX0_invoice_164 (by decide) ?_
  exact xr_ireturn h hX hI dX0_invoice_187
theorem w_X0_invoice_b167 {a3 : Nat} {r : Int32} (hX : xX E R p m c cX0_invoice 4 s args RX0 "invoice" meth (some .int) 8 178 σ0 σ9)
    (h : (f_X0_invoice_b167 a3).1 σ = some (r, σ9)) (hI : xI E σ0 σ s H locs cells slots) (hl : lv_has ls 4 [(3, .ref a3)]) : W p l e R s m args below meth c H locs cells slots (xMQ E below args s σ0 σ9 (some (.int r))) (F0 m 167 ls []) := by
  have hx := hX.1.1
  have hb := hX.1.2.1
  delta f_X0_invoice_b167 at h
  refine lv_aload_n hx hb dX0_invoice_167 rfl (lv_at hl 0 rfl) ?_
  refine xr_gI h hX hI xl_X0_382_4.g dX0_invoice_168 (fun v23 h => ?_)
  refine lv_goto (tgt := 187) hx hb dX0_invoice_171 (by decide) ?_
  exact xr_ireturn h hX hI dX0_invoice_187
theorem w_X0_invoice_b174 {a0 : Nat} {a3 : Nat} {r : Int32} (hX : xX E R p m c cX0_invoice 4 s args RX0 "invoice" meth (some .int) 8 178 σ0 σ9)
    (h : (f_X0_invoice_b174 a0 a3).1 σ = some (r, σ9)) (hI : xI E σ0 σ s H locs cells slots) (hl : lv_has ls 4 [(0, .ref a0), (3, .ref a3)]) : W p l e R s m args below meth c H locs cells slots (xMQ E below args s σ0 σ9 (some (.int r))) (F0 m 174 ls []) := by
  have hx := hX.1.1
  have hb := hX.1.2.1
  delta f_X0_invoice_b174 at h
  refine lv_aload_n hx hb dX0_invoice_174 rfl (lv_at hl 0 rfl) ?_
  refine xr_gN h hX hI xl_X0_22_0.g dX0_invoice_175 (fun v21 h => ?_)
  refine lv_aload_n hx hb dX0_invoice_178 rfl (lv_at hl 1 rfl) ?_
  refine xr_callV (iv := (fun b => some (.int b))) (As := [.ref a3]) (rest := []) h hX hI (fun _ _ h => w_X1_against h) (fun _ _ h => o_X1_against h) rfl 1 (lw_V q1703 q1704 q1705 q75 q1706) ⟨rfl, xd_X1_against⟩ ⟨rfl, rfl⟩ rfl hl.1 (Nat.le_of_ble_eq_true rfl) dX0_invoice_179 (fun v22 H locs σ cells slots h hI => ?_)
  refine W.eq (g2 := F0 m 182 ls [.int v22]) rfl ?_
  refine lv_goto (tgt := 187) hx hb dX0_invoice_182 (by decide) ?_
  exact xr_ireturn h hX hI dX0_invoice_187
theorem o_X0_invoice {a0 : Nat} {a1 : Int32} {a2 : Int32} {r : Int32} {σ σ9 : xS} (h : (f_X0_invoice a0 a1 a2).1 σ = some (r, σ9)) : ∃ fs, σ.1 a0 = some (.inl (0, fs)) := xck_of h
theorem w_X0_invoice {E : xE} {l : Launch} {a0 : Nat} {a1 : Int32} {a2 : Int32} {r : Int32} {σ σ9 : xS} (h : (f_X0_invoice a0 a1 a2).1 σ = some (r, σ9)) : xMet E l yX0_invoice (ws_ yX0_invoice cX0_invoice 4 (some .int)) 8 178 [.ref a0, .int a1, .int a2] σ σ9 (some (.int r)) := by
  refine xstart (by decide +kernel) ((f_X0_invoice a0 a1 a2).2 _ _ _ h) (Nat.le_of_ble_eq_true rfl) ?_
  intro p e s m args below meth c H locs cells slots ls R hX hI hl
  have hx := hX.1.1
  have hb := hX.1.2.1
  have hl : lv_has ls 4 [(0, .ref a0), (1, .int a1), (2, .int a2)] := hl
  generalize hσ0 : σ = σ0 at hX hI ⊢
  have h : (f_X0_invoice a0 a1 a2).1 σ0 = some (r, σ9) := by rw [← hσ0]; exact h
  clear hσ0
  delta f_X0_invoice at h
  have h := (xck_bd h).2
  refine lv_aload_n hx hb dX0_invoice_0 rfl (lv_at hl 0 rfl) ?_
  refine xr_gN h hX hI xl_X0_22_0.g dX0_invoice_1 (fun v35 h => ?_)
  refine xr_gN h hX hI xl_X0_211_1.g dX0_invoice_4 (fun v36 h => ?_)
  refine lv_iload_n hx hb dX0_invoice_7 rfl (lv_at hl 1 rfl) ?_
  refine xr_callV (iv := (fun b => some (.int b))) (As := [.int a1]) (rest := []) h hX hI (fun _ _ h => w_X2_has h) (fun _ _ h => o_X2_has h) rfl 1 (lw_V q1225 q1226 q1227 q76 q1228) ⟨rfl, xd_X2_has⟩ ⟨rfl, rfl⟩ rfl hl.1 (Nat.le_of_ble_eq_true rfl) dX0_invoice_8 (fun v37 H locs σ cells slots h hI => ?_)
  refine W.eq (g2 := F0 m 11 ls [.int v37]) rfl ?_
  refine lv_if_ne (tgt := 16) hx hb dX0_invoice_11 (by decide) (fun hc => ?_) (fun hc => ?_)
  · have h := xif_f h hc
    refine lv_aload_n hx hb dX0_invoice_16 rfl (lv_at hl 0 rfl) ?_
    refine xr_gN h hX hI xl_X0_22_0.g dX0_invoice_17 (fun v38 h => ?_)
    refine xr_gN h hX hI xl_X0_211_1.g dX0_invoice_20 (fun v39 h => ?_)
    refine lv_iload_n hx hb dX0_invoice_23 rfl (lv_at hl 1 rfl) ?_
    refine xr_callV (iv := (fun b => some (.ref b))) (As := [.int a1]) (rest := []) h hX hI (fun _ _ h => w_X2_get h) (fun _ _ h => o_X2_get h) rfl 1 (lw_V q1249 q1250 q1251 q76 q1252) ⟨rfl, xd_X2_get⟩ ⟨rfl, rfl⟩ rfl hl.1 (Nat.le_of_ble_eq_true rfl) dX0_invoice_24 (fun v40 H locs σ cells slots h hI => ?_)
    refine W.eq (g2 := F0 m 27 ls [.ref v40]) rfl ?_
    refine xr_cks h hX hI xc_X0_261 dX0_invoice_27 (fun h => ?_)
    refine lv_astore_n (lv' := [(3, .ref v40), (0, .ref a0), (1, .int a1), (2, .int a2)]) hx hb dX0_invoice_30 rfl hl (Nat.le_of_ble_eq_true rfl) rfl (fun ls hl => ?_)
    refine lv_iload_n hx hb dX0_invoice_31 rfl (lv_at hl 3 rfl) ?_
    refine xif h (fun hc0 h => ?_) (fun hc0 h => ?_)
    · refine W.eq (g2 := F0 m 32 ls (.int (0 : Int32) :: [])) (by rw [hc0]) ?_
      refine lv_tableIn (tgt := 96) (off := 64) hx hb dX0_invoice_32 (by decide) (by decide) (by decide) (by decide) ?_
      exact w_X0_invoice_b96 hX h hI (lv_sub hl [0] rfl)
    · refine xif h (fun hc1 h => ?_) (fun hc1 h => ?_)
      · refine W.eq (g2 := F0 m 32 ls (.int (1 : Int32) :: [])) (by rw [hc1]) ?_
        refine lv_tableIn (tgt := 103) (off := 71) hx hb dX0_invoice_32 (by decide) (by decide) (by decide) (by decide) ?_
        exact w_X0_invoice_b103 hX h hI (lv_sub hl [0] rfl)
      · refine xif h (fun hc2 h => ?_) (fun hc2 h => ?_)
        · refine W.eq (g2 := F0 m 32 ls (.int (2 : Int32) :: [])) (by rw [hc2]) ?_
          refine lv_tableIn (tgt := 110) (off := 78) hx hb dX0_invoice_32 (by decide) (by decide) (by decide) (by decide) ?_
          exact w_X0_invoice_b110 hX h hI (lv_sub hl [0] rfl)
        · refine xif h (fun hc3 h => ?_) (fun hc3 h => ?_)
          · refine W.eq (g2 := F0 m 32 ls (.int (3 : Int32) :: [])) (by rw [hc3]) ?_
            refine lv_tableIn (tgt := 117) (off := 85) hx hb dX0_invoice_32 (by decide) (by decide) (by decide) (by decide) ?_
            exact w_X0_invoice_b117 hX h hI (lv_sub hl [0] rfl)
          · refine xif h (fun hc4 h => ?_) (fun hc4 h => ?_)
            · refine W.eq (g2 := F0 m 32 ls (.int (4 : Int32) :: [])) (by rw [hc4]) ?_
              refine lv_tableIn (tgt := 125) (off := 93) hx hb dX0_invoice_32 (by decide) (by decide) (by decide) (by decide) ?_
              exact w_X0_invoice_b125 hX h hI (lv_sub hl [0] rfl)
            · refine xif h (fun hc5 h => ?_) (fun hc5 h => ?_)
              · refine W.eq (g2 := F0 m 32 ls (.int (5 : Int32) :: [])) (by rw [hc5]) ?_
                refine lv_tableIn (tgt := 132) (off := 100) hx hb dX0_invoice_32 (by decide) (by decide) (by decide) (by decide) ?_
                exact w_X0_invoice_b132 hX h hI (lv_sub hl [0] rfl)
              · refine xif h (fun hc6 h => ?_) (fun hc6 h => ?_)
                · refine W.eq (g2 := F0 m 32 ls (.int (6 : Int32) :: [])) (by rw [hc6]) ?_
                  refine lv_tableIn (tgt := 139) (off := 107) hx hb dX0_invoice_32 (by decide) (by decide) (by decide) (by decide) ?_
                  exact w_X0_invoice_b139 hX h hI (lv_sub hl [0] rfl)
                · refine xif h (fun hc7 h => ?_) (fun hc7 h => ?_)
                  · refine W.eq (g2 := F0 m 32 ls (.int (7 : Int32) :: [])) (by rw [hc7]) ?_
                    refine lv_tableIn (tgt := 146) (off := 114) hx hb dX0_invoice_32 (by decide) (by decide) (by decide) (by decide) ?_
                    exact w_X0_invoice_b146 hX h hI (lv_sub hl [0] rfl)
                  · refine xif h (fun hc8 h => ?_) (fun hc8 h => ?_)
                    · refine W.eq (g2 := F0 m 32 ls (.int (8 : Int32) :: [])) (by rw [hc8]) ?_
                      refine lv_tableIn (tgt := 153) (off := 121) hx hb dX0_invoice_32 (by decide) (by decide) (by decide) (by decide) ?_
                      exact w_X0_invoice_b153 hX h hI (lv_sub hl [0] rfl)
                    · refine xif h (fun hc9 h => ?_) (fun hc9 h => ?_)
                      · refine W.eq (g2 := F0 m 32 ls (.int (9 : Int32) :: [])) (by rw [hc9]) ?_
                        refine lv_tableIn (tgt := 160) (off := 128) hx hb dX0_invoice_32 (by decide) (by decide) (by decide) (by decide) ?_
                        exact w_X0_invoice_b160 hX h hI (lv_sub hl [0] rfl)
                      · refine xif h (fun hc10 h => ?_) (fun hc10 h => ?_)
                        · refine W.eq (g2 := F0 m 32 ls (.int (10 : Int32) :: [])) (by rw [hc10]) ?_
                          refine lv_tableIn (tgt := 167) (off := 135) hx hb dX0_invoice_32 (by decide) (by decide) (by decide) (by decide) ?_
                          exact w_X0_invoice_b167 hX h hI (lv_sub hl [0] rfl)
                        · refine xif h (fun hc11 h => ?_) (fun hc11 h => ?_)
                          · refine W.eq (g2 := F0 m 32 ls (.int (11 : Int32) :: [])) (by rw [hc11]) ?_
                            refine lv_tableIn (tgt := 174) (off := 142) hx hb dX0_invoice_32 (by decide) (by decide) (by decide) (by decide) ?_
                            exact w_X0_invoice_b174 hX h hI (lv_sub hl [1, 0] rfl)
                          · refine lv_tableOut (tgt := 185) hx hb dX0_invoice_32 (xtblo (L := [(0 : Int32), (1 : Int32), (2 : Int32), (3 : Int32), (4 : Int32), (5 : Int32), (6 : Int32), (7 : Int32), (8 : Int32), (9 : Int32), (10 : Int32), (11 : Int32)]) (by decide) (by decide) (List.forall_mem_cons.mpr ⟨hc0, (List.forall_mem_cons.mpr ⟨hc1, (List.forall_mem_cons.mpr ⟨hc2, (List.forall_mem_cons.mpr ⟨hc3, (List.forall_mem_cons.mpr ⟨hc4, (List.forall_mem_cons.mpr ⟨hc5, (List.forall_mem_cons.mpr ⟨hc6, (List.forall_mem_cons.mpr ⟨hc7, (List.forall_mem_cons.mpr ⟨hc8, (List.forall_mem_cons.mpr ⟨hc9, (List.forall_mem_cons.mpr ⟨hc10, (List.forall_mem_cons.mpr ⟨hc11, (fun _ h => absurd h List.not_mem_nil)⟩)⟩)⟩)⟩)⟩)⟩)⟩)⟩)⟩)⟩)⟩)⟩)) (by decide) ?_
                            refine lv_bipush (v := (-2 : Int32)) hx hb dX0_invoice_185 (by decide) ?_
                            exact xr_ireturn h hX hI dX0_invoice_187
  · have h := xif_t h hc
    refine lv_iconst (v := (-1 : Int32)) hx hb dX0_invoice_14 (by decide) ?_
    exact xr_ireturn h hX hI dX0_invoice_15
/-! PayMatchModel.invoice(II)I  -/
theorem w_X3_invoice_b80 {a0 : Nat} {a1 : Int32} {a2 : Int32} {r : Int32} (hX : xX E R p m c cX3_invoice 3 s args RX3 "invoice" meth (some .int) 6 175 σ0 σ9)
    (h : (f_X3_invoice_b80 a0 a1 a2).1 σ = some (r, σ9)) (hI : xI E σ0 σ s H locs cells slots) (hl : lv_has ls 3 [(0, .ref a0), (1, .int a1), (2, .int a2)]) : W p l e R s m args below meth c H locs cells slots (xMQ E below args s σ0 σ9 (some (.int r))) (F0 m 80 ls []) := by
  have hx := hX.1.1
  have hb := hX.1.2.1
  delta f_X3_invoice_b80 at h
  refine lv_aload_n hx hb dX3_invoice_80 rfl (lv_at hl 0 rfl) ?_
  refine lv_iload_n hx hb dX3_invoice_81 rfl (lv_at hl 1 rfl) ?_
  refine lv_iload_n hx hb dX3_invoice_82 rfl (lv_at hl 2 rfl) ?_
  refine xr_callS (iv := (fun b => some (.int b))) (As := [.int a1, .int a2]) (rest := [.ref a0]) h hX hI (fun _ _ h => w_X3_ofInvoice h) 2 (lw_S q2068 q2069 q87 q2070) xd_X3_ofInvoice ⟨rfl, rfl⟩ rfl hl.1 (Nat.le_of_ble_eq_true rfl) dX3_invoice_83 (fun v12 H locs σ cells slots h hI => ?_)
  refine W.eq (g2 := F0 m 86 ls [.int v12, .ref a0]) rfl ?_
  refine xr_callV (iv := (fun b => some (.int b))) (As := [.int v12]) (rest := []) h hX hI (fun _ _ h => w_X3_at h) (fun _ _ h => o_X3_at h) rfl 1 (lw_V q2022 q2024 qs31 q87 q2025) ⟨rfl, xd_X3_at⟩ ⟨rfl, rfl⟩ rfl hl.1 (Nat.le_of_ble_eq_true rfl) dX3_invoice_86 (fun v13 H locs σ cells slots h hI => ?_)
  refine W.eq (g2 := F0 m 89 ls [.int v13]) rfl ?_
  exact xr_ireturn h hX hI dX3_invoice_89
theorem w_X3_invoice_b90 {a0 : Nat} {a1 : Int32} {r : Int32} (hX : xX E R p m c cX3_invoice 3 s args RX3 "invoice" meth (some .int) 6 175 σ0 σ9)
    (h : (f_X3_invoice_b90 a0 a1).1 σ = some (r, σ9)) (hI : xI E σ0 σ s H locs cells slots) (hl : lv_has ls 3 [(0, .ref a0), (1, .int a1)]) : W p l e R s m args below meth c H locs cells slots (xMQ E below args s σ0 σ9 (some (.int r))) (F0 m 90 ls []) := by
  have hx := hX.1.1
  have hb := hX.1.2.1
  delta f_X3_invoice_b90 at h
  refine lv_aload_n hx hb dX3_invoice_90 rfl (lv_at hl 0 rfl) ?_
  refine lv_iload_n hx hb dX3_invoice_91 rfl (lv_at hl 1 rfl) ?_
  refine xr_callV (iv := (fun b => some (.int b))) (As := [.int a1]) (rest := []) h hX hI (fun _ _ h => w_X3_total h) (fun _ _ h => o_X3_total h) rfl 1 (lw_V q2173 q2175 qs49 q87 q2176) ⟨rfl, xd_X3_total⟩ ⟨rfl, rfl⟩ rfl hl.1 (Nat.le_of_ble_eq_true rfl) dX3_invoice_92 (fun v11 H locs σ cells slots h hI => ?_)
  refine W.eq (g2 := F0 m 95 ls [.int v11]) rfl ?_
  exact xr_ireturn h hX hI dX3_invoice_95
theorem w_X3_invoice_b96 {a0 : Nat} {a1 : Int32} {a2 : Int32} {r : Int32} (hX : xX E R p m c cX3_invoice 3 s args RX3 "invoice" meth (some .int) 6 175 σ0 σ9)
    (h : (f_X3_invoice_b96 a0 a1 a2).1 σ = some (r, σ9)) (hI : xI E σ0 σ s H locs cells slots) (hl : lv_has ls 3 [(0, .ref a0), (1, .int a1), (2, .int a2)]) : W p l e R s m args below meth c H locs cells slots (xMQ E below args s σ0 σ9 (some (.int r))) (F0 m 96 ls []) := by
  have hx := hX.1.1
  have hb := hX.1.2.1
  delta f_X3_invoice_b96 at h
  refine lv_aload_n hx hb dX3_invoice_96 rfl (lv_at hl 0 rfl) ?_
  refine lv_iload_n hx hb dX3_invoice_97 rfl (lv_at hl 1 rfl) ?_
  refine lv_iload_n hx hb dX3_invoice_98 rfl (lv_at hl 2 rfl) ?_
  refine lv_iconst (v := (1 : Int32)) hx hb dX3_invoice_99 (by decide) ?_
  refine lv_isub hx hb dX3_invoice_100 ?_
  refine xr_callS (iv := (fun b => some (.int b))) (As := [.int a1, .int (a2 - (1 : Int32))]) (rest := [.ref a0]) h hX hI (fun _ _ h => w_X3_ofInvoice h) 2 (lw_S q2068 q2069 q87 q2070) xd_X3_ofInvoice ⟨rfl, rfl⟩ rfl hl.1 (Nat.le_of_ble_eq_true rfl) dX3_invoice_101 (fun v9 H locs σ cells slots h hI => ?_)
  refine W.eq (g2 := F0 m 104 ls [.int v9, .ref a0]) rfl ?_
  refine xr_callV (iv := (fun b => some (.int b))) (As := [.int v9]) (rest := []) h hX hI (fun _ _ h => w_X3_at h) (fun _ _ h => o_X3_at h) rfl 1 (lw_V q2022 q2024 qs31 q87 q2025) ⟨rfl, xd_X3_at⟩ ⟨rfl, rfl⟩ rfl hl.1 (Nat.le_of_ble_eq_true rfl) dX3_invoice_104 (fun v10 H locs σ cells slots h hI => ?_)
  refine W.eq (g2 := F0 m 107 ls [.int v10]) rfl ?_
  exact xr_ireturn h hX hI dX3_invoice_107
theorem w_X3_invoice_b108 {a0 : Nat} {a1 : Int32} {r : Int32} (hX : xX E R p m c cX3_invoice 3 s args RX3 "invoice" meth (some .int) 6 175 σ0 σ9)
    (h : (f_X3_invoice_b108 a0 a1).1 σ = some (r, σ9)) (hI : xI E σ0 σ s H locs cells slots) (hl : lv_has ls 3 [(0, .ref a0), (1, .int a1)]) : W p l e R s m args below meth c H locs cells slots (xMQ E below args s σ0 σ9 (some (.int r))) (F0 m 108 ls []) := by
  have hx := hX.1.1
  have hb := hX.1.2.1
  delta f_X3_invoice_b108 at h
  refine lv_aload_n hx hb dX3_invoice_108 rfl (lv_at hl 0 rfl) ?_
  refine lv_iload_n hx hb dX3_invoice_109 rfl (lv_at hl 1 rfl) ?_
  refine xr_callV (iv := (fun b => some (.int b))) (As := [.int a1]) (rest := []) h hX hI (fun _ _ h => w_X3_reasons h) (fun _ _ h => o_X3_reasons h) rfl 1 (lw_V q2193 q2195 qs53 q87 q2196) ⟨rfl, xd_X3_reasons⟩ ⟨rfl, rfl⟩ rfl hl.1 (Nat.le_of_ble_eq_true rfl) dX3_invoice_110 (fun v8 H locs σ cells slots h hI => ?_)
  refine W.eq (g2 := F0 m 113 ls [.int v8]) rfl ?_
  exact xr_ireturn h hX hI dX3_invoice_113
theorem o_X3_invoice {a0 : Nat} {a1 : Int32} {a2 : Int32} {r : Int32} {σ σ9 : xS} (h : (f_X3_invoice a0 a1 a2).1 σ = some (r, σ9)) : ∃ fs, σ.1 a0 = some (.inl (3, fs)) := xck_of h
theorem w_X3_invoice {E : xE} {l : Launch} {a0 : Nat} {a1 : Int32} {a2 : Int32} {r : Int32} {σ σ9 : xS} (h : (f_X3_invoice a0 a1 a2).1 σ = some (r, σ9)) : xMet E l yX3_invoice (ws_ yX3_invoice cX3_invoice 3 (some .int)) 6 175 [.ref a0, .int a1, .int a2] σ σ9 (some (.int r)) := by
  refine xstart (by decide +kernel) ((f_X3_invoice a0 a1 a2).2 _ _ _ h) (Nat.le_of_ble_eq_true rfl) ?_
  intro p e s m args below meth c H locs cells slots ls R hX hI hl
  have hx := hX.1.1
  have hb := hX.1.2.1
  have hl : lv_has ls 3 [(0, .ref a0), (1, .int a1), (2, .int a2)] := hl
  generalize hσ0 : σ = σ0 at hX hI ⊢
  have h : (f_X3_invoice a0 a1 a2).1 σ0 = some (r, σ9) := by rw [← hσ0]; exact h
  clear hσ0
  delta f_X3_invoice at h
  have h := (xck_bd h).2
  refine lv_aload_n hx hb dX3_invoice_0 rfl (lv_at hl 0 rfl) ?_
  refine lv_iconst (v := (0 : Int32)) hx hb dX3_invoice_1 (by decide) ?_
  refine xr_pt h hX hI xl_X3_1_3 (Or.inl rfl) rfl rfl dX3_invoice_2 (fun H locs σ h hI => ?_)
  refine lv_aload_n hx hb dX3_invoice_5 rfl (lv_at hl 0 rfl) ?_
  refine lv_iload_n hx hb dX3_invoice_6 rfl (lv_at hl 1 rfl) ?_
  refine xr_callV (iv := (fun b => some (.int b))) (As := [.int a1]) (rest := []) h hX hI (fun _ _ h => w_X3_isInvoice h) (fun _ _ h => o_X3_isInvoice h) rfl 1 (lw_V q2185 q2187 qs51 q87 q2188) ⟨rfl, xd_X3_isInvoice⟩ ⟨rfl, rfl⟩ rfl hl.1 (Nat.le_of_ble_eq_true rfl) dX3_invoice_7 (fun v14 H locs σ cells slots h hI => ?_)
  refine W.eq (g2 := F0 m 10 ls [.int v14]) rfl ?_
  refine lv_if_ne (tgt := 15) hx hb dX3_invoice_10 (by decide) (fun hc => ?_) (fun hc => ?_)
  · have h := xif_f h hc
    refine lv_iload_n hx hb dX3_invoice_15 rfl (lv_at hl 2 rfl) ?_
    refine xif h (fun hc0 h => ?_) (fun hc0 h => ?_)
    · refine W.eq (g2 := F0 m 16 ls (.int (0 : Int32) :: [])) (by rw [hc0]) ?_
      refine lv_tableIn (tgt := 80) (off := 64) hx hb dX3_invoice_16 (by decide) (by decide) (by decide) (by decide) ?_
      exact w_X3_invoice_b80 hX h hI (lv_sub hl [0, 1, 2] rfl)
    · refine xif h (fun hc1 h => ?_) (fun hc1 h => ?_)
      · refine W.eq (g2 := F0 m 16 ls (.int (1 : Int32) :: [])) (by rw [hc1]) ?_
        refine lv_tableIn (tgt := 80) (off := 64) hx hb dX3_invoice_16 (by decide) (by decide) (by decide) (by decide) ?_
        exact w_X3_invoice_b80 hX h hI (lv_sub hl [0, 1, 2] rfl)
      · refine xif h (fun hc2 h => ?_) (fun hc2 h => ?_)
        · refine W.eq (g2 := F0 m 16 ls (.int (2 : Int32) :: [])) (by rw [hc2]) ?_
          refine lv_tableIn (tgt := 80) (off := 64) hx hb dX3_invoice_16 (by decide) (by decide) (by decide) (by decide) ?_
          exact w_X3_invoice_b80 hX h hI (lv_sub hl [0, 1, 2] rfl)
        · refine xif h (fun hc3 h => ?_) (fun hc3 h => ?_)
          · refine W.eq (g2 := F0 m 16 ls (.int (3 : Int32) :: [])) (by rw [hc3]) ?_
            refine lv_tableIn (tgt := 80) (off := 64) hx hb dX3_invoice_16 (by decide) (by decide) (by decide) (by decide) ?_
            exact w_X3_invoice_b80 hX h hI (lv_sub hl [0, 1, 2] rfl)
          · refine xif h (fun hc4 h => ?_) (fun hc4 h => ?_)
            · refine W.eq (g2 := F0 m 16 ls (.int (4 : Int32) :: [])) (by rw [hc4]) ?_
              refine lv_tableIn (tgt := 80) (off := 64) hx hb dX3_invoice_16 (by decide) (by decide) (by decide) (by decide) ?_
              exact w_X3_invoice_b80 hX h hI (lv_sub hl [0, 1, 2] rfl)
            · refine xif h (fun hc5 h => ?_) (fun hc5 h => ?_)
              · refine W.eq (g2 := F0 m 16 ls (.int (5 : Int32) :: [])) (by rw [hc5]) ?_
                refine lv_tableIn (tgt := 80) (off := 64) hx hb dX3_invoice_16 (by decide) (by decide) (by decide) (by decide) ?_
                exact w_X3_invoice_b80 hX h hI (lv_sub hl [0, 1, 2] rfl)
              · refine xif h (fun hc6 h => ?_) (fun hc6 h => ?_)
                · refine W.eq (g2 := F0 m 16 ls (.int (6 : Int32) :: [])) (by rw [hc6]) ?_
                  refine lv_tableIn (tgt := 90) (off := 74) hx hb dX3_invoice_16 (by decide) (by decide) (by decide) (by decide) ?_
                  exact w_X3_invoice_b90 hX h hI (lv_sub hl [0, 1] rfl)
                · refine xif h (fun hc7 h => ?_) (fun hc7 h => ?_)
                  · refine W.eq (g2 := F0 m 16 ls (.int (7 : Int32) :: [])) (by rw [hc7]) ?_
                    refine lv_tableIn (tgt := 96) (off := 80) hx hb dX3_invoice_16 (by decide) (by decide) (by decide) (by decide) ?_
                    exact w_X3_invoice_b96 hX h hI (lv_sub hl [0, 1, 2] rfl)
                  · refine xif h (fun hc8 h => ?_) (fun hc8 h => ?_)
                    · refine W.eq (g2 := F0 m 16 ls (.int (8 : Int32) :: [])) (by rw [hc8]) ?_
                      refine lv_tableIn (tgt := 96) (off := 80) hx hb dX3_invoice_16 (by decide) (by decide) (by decide) (by decide) ?_
                      exact w_X3_invoice_b96 hX h hI (lv_sub hl [0, 1, 2] rfl)
                    · refine xif h (fun hc9 h => ?_) (fun hc9 h => ?_)
                      · refine W.eq (g2 := F0 m 16 ls (.int (9 : Int32) :: [])) (by rw [hc9]) ?_
                        refine lv_tableIn (tgt := 96) (off := 80) hx hb dX3_invoice_16 (by decide) (by decide) (by decide) (by decide) ?_
                        exact w_X3_invoice_b96 hX h hI (lv_sub hl [0, 1, 2] rfl)
                      · refine xif h (fun hc10 h => ?_) (fun hc10 h => ?_)
                        · refine W.eq (g2 := F0 m 16 ls (.int (10 : Int32) :: [])) (by rw [hc10]) ?_
                          refine lv_tableIn (tgt := 96) (off := 80) hx hb dX3_invoice_16 (by decide) (by decide) (by decide) (by decide) ?_
                          exact w_X3_invoice_b96 hX h hI (lv_sub hl [0, 1, 2] rfl)
                        · refine xif h (fun hc11 h => ?_) (fun hc11 h => ?_)
                          · refine W.eq (g2 := F0 m 16 ls (.int (11 : Int32) :: [])) (by rw [hc11]) ?_
                            refine lv_tableIn (tgt := 108) (off := 92) hx hb dX3_invoice_16 (by decide) (by decide) (by decide) (by decide) ?_
                            exact w_X3_invoice_b108 hX h hI (lv_sub hl [0, 1] rfl)
                          · refine lv_tableOut (tgt := 114) hx hb dX3_invoice_16 (xtblo (L := [(0 : Int32), (1 : Int32), (2 : Int32), (3 : Int32), (4 : Int32), (5 : Int32), (6 : Int32), (7 : Int32), (8 : Int32), (9 : Int32), (10 : Int32), (11 : Int32)]) (by decide) (by decide) (List.forall_mem_cons.mpr ⟨hc0, (List.forall_mem_cons.mpr ⟨hc1, (List.forall_mem_cons.mpr ⟨hc2, (List.forall_mem_cons.mpr ⟨hc3, (List.forall_mem_cons.mpr ⟨hc4, (List.forall_mem_cons.mpr ⟨hc5, (List.forall_mem_cons.mpr ⟨hc6, (List.forall_mem_cons.mpr ⟨hc7, (List.forall_mem_cons.mpr ⟨hc8, (List.forall_mem_cons.mpr ⟨hc9, (List.forall_mem_cons.mpr ⟨hc10, (List.forall_mem_cons.mpr ⟨hc11, (fun _ h => absurd h List.not_mem_nil)⟩)⟩)⟩)⟩)⟩)⟩)⟩)⟩)⟩)⟩)⟩)⟩)) (by decide) ?_
                            refine lv_bipush (v := (-2 : Int32)) hx hb dX3_invoice_114 (by decide) ?_
                            exact xr_ireturn h hX hI dX3_invoice_116
  · have h := xif_t h hc
    refine lv_iconst (v := (-1 : Int32)) hx hb dX3_invoice_13 (by decide) ?_
    exact xr_ireturn h hX hI dX3_invoice_14
/-! PayMatch.entry(III)I  -/
theorem o_X0_entry {a0 : Nat} {a1 : Int32} {a2 : Int32} {a3 : Int32} {r : Int32} {σ σ9 : xS} (h : (f_X0_entry a0 a1 a2 a3).1 σ = some (r, σ9)) : ∃ fs, σ.1 a0 = some (.inl (0, fs)) := xck_of h
theorem w_X0_entry {E : xE} {l : Launch} {a0 : Nat} {a1 : Int32} {a2 : Int32} {a3 : Int32} {r : Int32} {σ σ9 : xS} (h : (f_X0_entry a0 a1 a2 a3).1 σ = some (r, σ9)) : xMet E l yX0_entry (ws_ yX0_entry cX0_entry 5 (some .int)) 4 85 [.ref a0, .int a1, .int a2, .int a3] σ σ9 (some (.int r)) := by
  refine xstart (by decide +kernel) ((f_X0_entry a0 a1 a2 a3).2 _ _ _ h) (Nat.le_of_ble_eq_true rfl) ?_
  intro p e s m args below meth c H locs cells slots ls R hX hI hl
  have hx := hX.1.1
  have hb := hX.1.2.1
  have hl : lv_has ls 5 [(0, .ref a0), (1, .int a1), (2, .int a2), (3, .int a3)] := hl
  generalize hσ0 : σ = σ0 at hX hI ⊢
  have h : (f_X0_entry a0 a1 a2 a3).1 σ0 = some (r, σ9) := by rw [← hσ0]; exact h
  clear hσ0
  delta f_X0_entry at h
  have h := (xck_bd h).2
  refine lv_aload_n hx hb dX0_entry_0 rfl (lv_at hl 0 rfl) ?_
  refine xr_gN h hX hI xl_X0_22_0.g dX0_entry_1 (fun v18 h => ?_)
  refine xr_gN h hX hI xl_X0_211_1.g dX0_entry_4 (fun v19 h => ?_)
  refine lv_iload_n hx hb dX0_entry_7 rfl (lv_at hl 1 rfl) ?_
  refine xr_callV (iv := (fun b => some (.int b))) (As := [.int a1]) (rest := []) h hX hI (fun _ _ h => w_X2_has h) (fun _ _ h => o_X2_has h) rfl 1 (lw_V q1225 q1226 q1227 q76 q1228) ⟨rfl, xd_X2_has⟩ ⟨rfl, rfl⟩ rfl hl.1 (Nat.le_of_ble_eq_true rfl) dX0_entry_8 (fun v20 H locs σ cells slots h hI => ?_)
  refine W.eq (g2 := F0 m 11 ls [.int v20]) rfl ?_
  refine lv_if_eq (tgt := 42) hx hb dX0_entry_11 (by decide) (fun hc => ?_) (fun hc => ?_)
  · have h := xif_t h hc
    refine lv_iconst (v := (-1 : Int32)) hx hb dX0_entry_42 (by decide) ?_
    exact xr_ireturn h hX hI dX0_entry_43
  · have h := xif_f h hc
    refine lv_iload_n hx hb dX0_entry_14 rfl (lv_at hl 2 rfl) ?_
    refine lv_iconst (v := (0 : Int32)) hx hb dX0_entry_15 (by decide) ?_
    refine lv_aload_n hx hb dX0_entry_16 rfl (lv_at hl 0 rfl) ?_
    refine xr_gN h hX hI xl_X0_22_0.g dX0_entry_17 (fun v21 h => ?_)
    refine xr_gN h hX hI xl_X0_211_1.g dX0_entry_20 (fun v22 h => ?_)
    refine lv_iload_n hx hb dX0_entry_23 rfl (lv_at hl 1 rfl) ?_
    refine xr_callV (iv := (fun b => some (.ref b))) (As := [.int a1]) (rest := [.int (0 : Int32), .int a2]) h hX hI (fun _ _ h => w_X2_get h) (fun _ _ h => o_X2_get h) rfl 1 (lw_V q1249 q1250 q1251 q76 q1252) ⟨rfl, xd_X2_get⟩ ⟨rfl, rfl⟩ rfl hl.1 (Nat.le_of_ble_eq_true rfl) dX0_entry_24 (fun v23 H locs σ cells slots h hI => ?_)
    refine W.eq (g2 := F0 m 27 ls [.ref v23, .int (0 : Int32), .int a2]) rfl ?_
    refine xr_cks h hX hI xc_X0_261 dX0_entry_27 (fun h => ?_)
    refine xr_gN h hX hI xl_X0_374_4.g dX0_entry_30 (fun v24 h => ?_)
    refine xr_ln h hX hI dX0_entry_33 (fun v25 h => ?_)
    refine lv_iconst (v := (1 : Int32)) hx hb dX0_entry_34 (by decide) ?_
    refine lv_isub hx hb dX0_entry_35 ?_
    refine xr_callS (iv := (fun b => some (.int b))) (As := [.int a2, .int (0 : Int32), .int (v25 - (1 : Int32))]) (rest := []) h hX hI (fun _ _ h => w_X0_inRange h) 3 (lw_S q1267 q1230 q74 q1231) xd_X0_inRange ⟨rfl, rfl⟩ rfl hl.1 (Nat.le_of_ble_eq_true rfl) dX0_entry_36 (fun v26 H locs σ cells slots h hI => ?_)
    refine W.eq (g2 := F0 m 39 ls [.int v26]) rfl ?_
    refine lv_if_ne (tgt := 44) hx hb dX0_entry_39 (by decide) (fun hc => ?_) (fun hc => ?_)
    · have h := xif_f h hc
      refine lv_aload_n hx hb dX0_entry_44 rfl (lv_at hl 0 rfl) ?_
      refine xr_gN h hX hI xl_X0_22_0.g dX0_entry_45 (fun v27 h => ?_)
      refine xr_gN h hX hI xl_X0_211_1.g dX0_entry_48 (fun v28 h => ?_)
      refine lv_iload_n hx hb dX0_entry_51 rfl (lv_at hl 1 rfl) ?_
      refine xr_callV (iv := (fun b => some (.ref b))) (As := [.int a1]) (rest := []) h hX hI (fun _ _ h => w_X2_get h) (fun _ _ h => o_X2_get h) rfl 1 (lw_V q1249 q1250 q1251 q76 q1252) ⟨rfl, xd_X2_get⟩ ⟨rfl, rfl⟩ rfl hl.1 (Nat.le_of_ble_eq_true rfl) dX0_entry_52 (fun v29 H locs σ cells slots h hI => ?_)
      refine W.eq (g2 := F0 m 55 ls [.ref v29]) rfl ?_
      refine xr_cks h hX hI xc_X0_261 dX0_entry_55 (fun h => ?_)
      refine xr_gN h hX hI xl_X0_374_4.g dX0_entry_58 (fun v30 h => ?_)
      refine lv_iload_n hx hb dX0_entry_61 rfl (lv_at hl 2 rfl) ?_
      refine xr_ldN h hX hI (by decide) dX0_entry_62 (fun v31 h => ?_)
      refine lv_astore (lv' := [(4, .ref v31), (0, .ref a0), (1, .int a1), (2, .int a2), (3, .int a3)]) hx hb dX0_entry_63 hl (Nat.le_of_ble_eq_true rfl) rfl (fun ls hl => ?_)
      refine lv_iload_n hx hb dX0_entry_65 rfl (lv_at hl 4 rfl) ?_
      refine lv_if_ne (tgt := 77) hx hb dX0_entry_66 (by decide) (fun hc => ?_) (fun hc => ?_)
      · have h := xif_f h hc
        refine lv_iload_n hx hb dX0_entry_77 rfl (lv_at hl 4 rfl) ?_
        refine lv_iconst (v := (1 : Int32)) hx hb dX0_entry_78 (by decide) ?_
        refine lv_icmp_ne (tgt := 90) hx hb dX0_entry_79 (by decide) (fun hc => ?_) (fun hc => ?_)
        · have h := xif_f h hc
          refine lv_iload_n hx hb dX0_entry_90 rfl (lv_at hl 4 rfl) ?_
          refine lv_iconst (v := (2 : Int32)) hx hb dX0_entry_91 (by decide) ?_
          refine lv_icmp_ne (tgt := 103) hx hb dX0_entry_92 (by decide) (fun hc => ?_) (fun hc => ?_)
          · have h := xif_f h hc
            refine lv_bipush (v := (-2 : Int32)) hx hb dX0_entry_103 (by decide) ?_
            exact xr_ireturn h hX hI dX0_entry_105
          · have h := xif_t h hc
            refine lv_aload hx hb dX0_entry_95 (lv_at hl 0 rfl) ?_
            refine xr_gI h hX hI xl_X0_229_9 dX0_entry_97 (fun v32 h => ?_)
            refine lv_goto (tgt := 105) hx hb dX0_entry_100 (by decide) ?_
            exact xr_ireturn h hX hI dX0_entry_105
        · have h := xif_t h hc
          refine lv_aload hx hb dX0_entry_82 (lv_at hl 0 rfl) ?_
          refine xr_gI h hX hI xl_X0_226_9 dX0_entry_84 (fun v33 h => ?_)
          refine lv_goto (tgt := 105) hx hb dX0_entry_87 (by decide) ?_
          exact xr_ireturn h hX hI dX0_entry_105
      · have h := xif_t h hc
        refine lv_aload hx hb dX0_entry_69 (lv_at hl 0 rfl) ?_
        refine xr_gI h hX hI xl_X0_224_9 dX0_entry_71 (fun v34 h => ?_)
        refine lv_goto (tgt := 105) hx hb dX0_entry_74 (by decide) ?_
        exact xr_ireturn h hX hI dX0_entry_105
    · have h := xif_t h hc
      refine lv_iconst (v := (-1 : Int32)) hx hb dX0_entry_42 (by decide) ?_
      exact xr_ireturn h hX hI dX0_entry_43
/-! PayMatchModel.entry(III)I  -/
theorem o_X3_entry {a0 : Nat} {a1 : Int32} {a2 : Int32} {a3 : Int32} {r : Int32} {σ σ9 : xS} (h : (f_X3_entry a0 a1 a2 a3).1 σ = some (r, σ9)) : ∃ fs, σ.1 a0 = some (.inl (3, fs)) := xck_of h
theorem w_X3_entry {E : xE} {l : Launch} {a0 : Nat} {a1 : Int32} {a2 : Int32} {a3 : Int32} {r : Int32} {σ σ9 : xS} (h : (f_X3_entry a0 a1 a2 a3).1 σ = some (r, σ9)) : xMet E l yX3_entry (ws_ yX3_entry cX3_entry 4 (some .int)) 2 44 [.ref a0, .int a1, .int a2, .int a3] σ σ9 (some (.int r)) := by
  refine xstart (by decide +kernel) ((f_X3_entry a0 a1 a2 a3).2 _ _ _ h) (Nat.le_of_ble_eq_true rfl) ?_
  intro p e s m args below meth c H locs cells slots ls R hX hI hl
  have hx := hX.1.1
  have hb := hX.1.2.1
  have hl : lv_has ls 4 [(0, .ref a0), (1, .int a1), (2, .int a2), (3, .int a3)] := hl
  generalize hσ0 : σ = σ0 at hX hI ⊢
  have h : (f_X3_entry a0 a1 a2 a3).1 σ0 = some (r, σ9) := by rw [← hσ0]; exact h
  clear hσ0
  delta f_X3_entry at h
  have h := (xck_bd h).2
  refine lv_aload_n hx hb dX3_entry_0 rfl (lv_at hl 0 rfl) ?_
  refine lv_iconst (v := (0 : Int32)) hx hb dX3_entry_1 (by decide) ?_
  refine xr_pt h hX hI xl_X3_1_3 (Or.inl rfl) rfl rfl dX3_entry_2 (fun H locs σ h hI => ?_)
  refine lv_aload_n hx hb dX3_entry_5 rfl (lv_at hl 0 rfl) ?_
  refine lv_iload_n hx hb dX3_entry_6 rfl (lv_at hl 1 rfl) ?_
  refine xr_callV (iv := (fun b => some (.int b))) (As := [.int a1]) (rest := []) h hX hI (fun _ _ h => w_X3_isInvoice h) (fun _ _ h => o_X3_isInvoice h) rfl 1 (lw_V q2185 q2187 qs51 q87 q2188) ⟨rfl, xd_X3_isInvoice⟩ ⟨rfl, rfl⟩ rfl hl.1 (Nat.le_of_ble_eq_true rfl) dX3_entry_7 (fun v7 H locs σ cells slots h hI => ?_)
  refine W.eq (g2 := F0 m 10 ls [.int v7]) rfl ?_
  refine lv_if_eq (tgt := 32) hx hb dX3_entry_10 (by decide) (fun hc => ?_) (fun hc => ?_)
  · have h := xif_t h hc
    refine lv_iconst (v := (-1 : Int32)) hx hb dX3_entry_32 (by decide) ?_
    exact xr_ireturn h hX hI dX3_entry_33
  · have h := xif_f h hc
    refine lv_iload_n hx hb dX3_entry_13 rfl (lv_at hl 2 rfl) ?_
    refine lv_iconst (v := (0 : Int32)) hx hb dX3_entry_14 (by decide) ?_
    refine lv_aload_n hx hb dX3_entry_15 rfl (lv_at hl 0 rfl) ?_
    refine lv_iload_n hx hb dX3_entry_16 rfl (lv_at hl 1 rfl) ?_
    refine lv_iconst (v := (3 : Int32)) hx hb dX3_entry_17 (by decide) ?_
    refine xr_callS (iv := (fun b => some (.int b))) (As := [.int a1, .int (3 : Int32)]) (rest := [.ref a0, .int (0 : Int32), .int a2]) h hX hI (fun _ _ h => w_X3_ofInvoice h) 2 (lw_S q2068 q2069 q87 q2070) xd_X3_ofInvoice ⟨rfl, rfl⟩ rfl hl.1 (Nat.le_of_ble_eq_true rfl) dX3_entry_18 (fun v8 H locs σ cells slots h hI => ?_)
    refine W.eq (g2 := F0 m 21 ls [.int v8, .ref a0, .int (0 : Int32), .int a2]) rfl ?_
    refine xr_callV (iv := (fun b => some (.int b))) (As := [.int v8]) (rest := [.int (0 : Int32), .int a2]) h hX hI (fun _ _ h => w_X3_at h) (fun _ _ h => o_X3_at h) rfl 1 (lw_V q2022 q2024 qs31 q87 q2025) ⟨rfl, xd_X3_at⟩ ⟨rfl, rfl⟩ rfl hl.1 (Nat.le_of_ble_eq_true rfl) dX3_entry_21 (fun v9 H locs σ cells slots h hI => ?_)
    refine W.eq (g2 := F0 m 24 ls [.int v9, .int (0 : Int32), .int a2]) rfl ?_
    refine lv_iconst (v := (1 : Int32)) hx hb dX3_entry_24 (by decide) ?_
    refine lv_isub hx hb dX3_entry_25 ?_
    refine xr_callS (iv := (fun b => some (.int b))) (As := [.int a2, .int (0 : Int32), .int (v9 - (1 : Int32))]) (rest := []) h hX hI (fun _ _ h => w_X3_in h) 3 (lw_S q2043 q2044 q87 q2045) xd_X3_in ⟨rfl, rfl⟩ rfl hl.1 (Nat.le_of_ble_eq_true rfl) dX3_entry_26 (fun v10 H locs σ cells slots h hI => ?_)
    refine W.eq (g2 := F0 m 29 ls [.int v10]) rfl ?_
    refine lv_if_ne (tgt := 34) hx hb dX3_entry_29 (by decide) (fun hc => ?_) (fun hc => ?_)
    · have h := xif_f h hc
      refine lv_iload_n hx hb dX3_entry_34 rfl (lv_at hl 3 rfl) ?_
      refine lv_iconst (v := (0 : Int32)) hx hb dX3_entry_35 (by decide) ?_
      refine lv_iconst (v := (2 : Int32)) hx hb dX3_entry_36 (by decide) ?_
      refine xr_callS (iv := (fun b => some (.int b))) (As := [.int a3, .int (0 : Int32), .int (2 : Int32)]) (rest := []) h hX hI (fun _ _ h => w_X3_in h) 3 (lw_S q2043 q2044 q87 q2045) xd_X3_in ⟨rfl, rfl⟩ rfl hl.1 (Nat.le_of_ble_eq_true rfl) dX3_entry_37 (fun v11 H locs σ cells slots h hI => ?_)
      refine W.eq (g2 := F0 m 40 ls [.int v11]) rfl ?_
      refine lv_if_eq (tgt := 53) hx hb dX3_entry_40 (by decide) (fun hc => ?_) (fun hc => ?_)
      · have h := xif_t h hc
        refine lv_bipush (v := (-2 : Int32)) hx hb dX3_entry_53 (by decide) ?_
        exact xr_ireturn h hX hI dX3_entry_55
      · have h := xif_f h hc
        refine lv_aload_n hx hb dX3_entry_43 rfl (lv_at hl 0 rfl) ?_
        refine lv_iload_n hx hb dX3_entry_44 rfl (lv_at hl 1 rfl) ?_
        refine lv_iload_n hx hb dX3_entry_45 rfl (lv_at hl 2 rfl) ?_
        refine lv_iload_n hx hb dX3_entry_46 rfl (lv_at hl 3 rfl) ?_
        refine xr_callV (iv := (fun b => some (.int b))) (As := [.int a1, .int a2, .int a3]) (rest := []) h hX hI (fun _ _ h => w_X3_entryOf h) (fun _ _ h => o_X3_entryOf h) rfl 3 (lw_V q2177 q2179 qs50 q87 q2180) ⟨rfl, xd_X3_entryOf⟩ ⟨rfl, rfl⟩ rfl hl.1 (Nat.le_of_ble_eq_true rfl) dX3_entry_47 (fun v12 H locs σ cells slots h hI => ?_)
        refine W.eq (g2 := F0 m 50 ls [.int v12]) rfl ?_
        refine lv_goto (tgt := 55) hx hb dX3_entry_50 (by decide) ?_
        exact xr_ireturn h hX hI dX3_entry_55
    · have h := xif_t h hc
      refine lv_iconst (v := (-1 : Int32)) hx hb dX3_entry_32 (by decide) ?_
      exact xr_ireturn h hX hI dX3_entry_33
/-! PayMatch.wouldMatch(IIII)I  -/
theorem o_X0_wouldMatch {a0 : Nat} {a1 : Int32} {a2 : Int32} {a3 : Int32} {a4 : Int32} {r : Int32} {σ σ9 : xS} (h : (f_X0_wouldMatch a0 a1 a2 a3 a4).1 σ = some (r, σ9)) : ∃ fs, σ.1 a0 = some (.inl (0, fs)) := xck_of h
theorem w_X0_wouldMatch {E : xE} {l : Launch} {a0 : Nat} {a1 : Int32} {a2 : Int32} {a3 : Int32} {a4 : Int32} {r : Int32} {σ σ9 : xS} (h : (f_X0_wouldMatch a0 a1 a2 a3 a4).1 σ = some (r, σ9)) : xMet E l yX0_wouldMatch (ws_ yX0_wouldMatch cX0_wouldMatch 7 (some .int)) 14 438 [.ref a0, .int a1, .int a2, .int a3, .int a4] σ σ9 (some (.int r)) := by
  refine xstart (by decide +kernel) ((f_X0_wouldMatch a0 a1 a2 a3 a4).2 _ _ _ h) (Nat.le_of_ble_eq_true rfl) ?_
  intro p e s m args below meth c H locs cells slots ls R hX hI hl
  have hx := hX.1.1
  have hb := hX.1.2.1
  have hl : lv_has ls 7 [(0, .ref a0), (1, .int a1), (2, .int a2), (3, .int a3), (4, .int a4)] := hl
  generalize hσ0 : σ = σ0 at hX hI ⊢
  have h : (f_X0_wouldMatch a0 a1 a2 a3 a4).1 σ0 = some (r, σ9) := by rw [← hσ0]; exact h
  clear hσ0
  delta f_X0_wouldMatch at h
  have h := (xck_bd h).2
  refine lv_aload_n hx hb dX0_wouldMatch_0 rfl (lv_at hl 0 rfl) ?_
  refine xr_gN h hX hI xl_X0_22_0.g dX0_wouldMatch_1 (fun v14 h => ?_)
  refine lv_iload_n hx hb dX0_wouldMatch_4 rfl (lv_at hl 1 rfl) ?_
  refine lv_iload_n hx hb dX0_wouldMatch_5 rfl (lv_at hl 2 rfl) ?_
  refine xr_callV (iv := (fun b => some (.int b))) (As := [.int a1, .int a2]) (rest := []) h hX hI (fun _ _ h => w_X1_hasLine h) (fun _ _ h => o_X1_hasLine h) rfl 2 (lw_V q1318 q1319 q1320 q75 q1321) ⟨rfl, xd_X1_hasLine⟩ ⟨rfl, rfl⟩ rfl hl.1 (Nat.le_of_ble_eq_true rfl) dX0_wouldMatch_6 (fun v15 H locs σ cells slots h hI => ?_)
  refine W.eq (g2 := F0 m 9 ls [.int v15]) rfl ?_
  refine lv_if_ne (tgt := 14) hx hb dX0_wouldMatch_9 (by decide) (fun hc => ?_) (fun hc => ?_)
  · have h := xif_f h hc
    refine lv_iload_n hx hb dX0_wouldMatch_14 rfl (lv_at hl 3 rfl) ?_
    refine xr_callS (iv := (fun b => some (.int b))) (As := [.int a3]) (rest := []) h hX hI (fun _ _ h => w_X0_areUnits h) 1 (lw_S q1302 q1303 q74 q1304) xd_X0_areUnits ⟨rfl, rfl⟩ rfl hl.1 (Nat.le_of_ble_eq_true rfl) dX0_wouldMatch_15 (fun v16 H locs σ cells slots h hI => ?_)
    refine W.eq (g2 := F0 m 18 ls [.int v16]) rfl ?_
    refine lv_if_eq (tgt := 29) hx hb dX0_wouldMatch_18 (by decide) (fun hc => ?_) (fun hc => ?_)
    · have h := xif_t h hc
      refine lv_bipush (v := (-2 : Int32)) hx hb dX0_wouldMatch_29 (by decide) ?_
      exact xr_ireturn h hX hI dX0_wouldMatch_31
    · have h := xif_f h hc
      refine lv_iload hx hb dX0_wouldMatch_21 (lv_at hl 4 rfl) ?_
      refine xr_callS (iv := (fun b => some (.int b))) (As := [.int a4]) (rest := []) h hX hI (fun _ _ h => w_X0_isPrice h) 1 (lw_S q1305 q1306 q74 q1307) xd_X0_isPrice ⟨rfl, rfl⟩ rfl hl.1 (Nat.le_of_ble_eq_true rfl) dX0_wouldMatch_23 (fun v17 H locs σ cells slots h hI => ?_)
      refine W.eq (g2 := F0 m 26 ls [.int v17]) rfl ?_
      refine lv_if_ne (tgt := 32) hx hb dX0_wouldMatch_26 (by decide) (fun hc => ?_) (fun hc => ?_)
      · have h := xif_f h hc
        refine lv_aload_n hx hb dX0_wouldMatch_32 rfl (lv_at hl 0 rfl) ?_
        refine xr_gN h hX hI xl_X0_22_0.g dX0_wouldMatch_33 (fun v18 h => ?_)
        refine xr_callV (iv := (fun b => some (.ref b))) (As := []) (rest := []) h hX hI (fun _ _ h => w_X1_copy h) (fun _ _ h => o_X1_copy h) rfl 0 (lw_V q323 q324 q325 q75 q326) ⟨rfl, xd_X1_copy⟩ ⟨rfl, rfl⟩ rfl hl.1 (Nat.le_of_ble_eq_true rfl) dX0_wouldMatch_36 (fun v19 H locs σ cells slots h hI => ?_)
        refine W.eq (g2 := F0 m 39 ls [.ref v19]) rfl ?_
        refine lv_astore (lv' := [(5, .ref v19), (0, .ref a0), (1, .int a1), (2, .int a2), (3, .int a3), (4, .int a4)]) hx hb dX0_wouldMatch_39 hl (Nat.le_of_ble_eq_true rfl) rfl (fun ls hl => ?_)
        refine xr_nw h hX hI xn_X0_261 dX0_wouldMatch_41 (fun v20 H σ cells slots h hI => ?_)
        refine lv_dup hx hb dX0_wouldMatch_44 rfl ?_
        refine lv_aload hx hb dX0_wouldMatch_45 (lv_at hl 0 rfl) ?_
        refine xr_gN h hX hI xl_X0_211_1.g dX0_wouldMatch_47 (fun v21 h => ?_)
        refine xr_callV (iv := (fun b => some (.int b))) (As := []) (rest := [.ref v20, .ref v20]) h hX hI (fun _ _ h => w_X2_size h) (fun _ _ h => o_X2_size h) rfl 0 (lw_V q303 q304 q305 q76 q306) ⟨rfl, xd_X2_size⟩ ⟨rfl, rfl⟩ rfl hl.1 (Nat.le_of_ble_eq_true rfl) dX0_wouldMatch_50 (fun v22 H locs σ cells slots h hI => ?_)
        refine W.eq (g2 := F0 m 53 ls [.int v22, .ref v20, .ref v20]) rfl ?_
        refine lv_bipush (v := (-5 : Int32)) hx hb dX0_wouldMatch_53 (by decide) ?_
        refine lv_iload_n hx hb dX0_wouldMatch_55 rfl (lv_at hl 2 rfl) ?_
        refine lv_aload hx hb dX0_wouldMatch_56 (lv_at hl 0 rfl) ?_
        refine xr_gI h hX hI xl_X0_290_1.g dX0_wouldMatch_58 (fun v23 h => ?_)
        refine lv_iconst (v := (1 : Int32)) hx hb dX0_wouldMatch_61 (by decide) ?_
        refine xr_nq h hX hI q1510 (by decide) dX0_wouldMatch_62 (fun v24 H σ cells slots h hI => ?_)
        refine lv_dup hx hb dX0_wouldMatch_65 rfl ?_
        refine lv_iconst (v := (0 : Int32)) hx hb dX0_wouldMatch_66 (by decide) ?_
        refine xr_nw h hX hI xn_X0_218 dX0_wouldMatch_67 (fun v25 H σ cells slots h hI => ?_)
        refine lv_dup hx hb dX0_wouldMatch_70 rfl ?_
        refine lv_iload_n hx hb dX0_wouldMatch_71 rfl (lv_at hl 3 rfl) ?_
        refine lv_iload_n hx hb dX0_wouldMatch_72 rfl (lv_at hl 4 rfl) ?_
        refine lv_iload hx hb dX0_wouldMatch_73 (lv_at hl 5 rfl) ?_
        refine xr_callI2 20 (As := [.int a2, .int a3, .int a4]) (rest := [.ref v25, .int (0 : Int32), .ref v24, .ref v24, .int v23, .int a1, .int (-5 : Int32), .int v22, .ref v20, .ref v20]) h hX hI (fun _ _ h => w_X10_init h) 3 q1512 q1514 q113 q1513 rfl xd_X10_init ⟨rfl, rfl⟩ rfl hl.1 (Nat.le_of_ble_eq_true rfl) dX0_wouldMatch_75 (fun _ H locs σ cells slots h hI => ?_)
        refine xr_stR h hX hI (by decide) dX0_wouldMatch_78 (fun H locs σ h hI => ?_)
        refine xr_callI (As := [.int v22, .int (-5 : Int32), .int a1, .int v23, .ref v24]) (rest := [.ref v20]) h hX hI (fun _ _ h => w_X4_init h) 5 q1893 q873 q105 q872 rfl xd_X4_init ⟨rfl, rfl⟩ rfl hl.1 (Nat.le_of_ble_eq_true rfl) dX0_wouldMatch_79 (fun _ H locs σ cells slots h hI => ?_)
        refine lv_astore (lv' := [(6, .ref v20), (5, .ref v19), (0, .ref a0), (1, .int a1), (2, .int a2), (3, .int a3), (4, .int a4)]) hx hb dX0_wouldMatch_82 hl (Nat.le_of_ble_eq_true rfl) rfl (fun ls hl => ?_)
        refine lv_aload hx hb dX0_wouldMatch_84 (lv_at hl 1 rfl) ?_
        refine lv_aload hx hb dX0_wouldMatch_86 (lv_at hl 0 rfl) ?_
        refine xr_callV (iv := (fun b => some (.int b))) (As := [.ref v20]) (rest := []) h hX hI (fun _ _ h => w_X1_against h) (fun _ _ h => o_X1_against h) rfl 1 (lw_V q1703 q1704 q1705 q75 q1706) ⟨rfl, xd_X1_against⟩ ⟨rfl, rfl⟩ rfl hl.1 (Nat.le_of_ble_eq_true rfl) dX0_wouldMatch_88 (fun v26 H locs σ cells slots h hI => ?_)
        refine W.eq (g2 := F0 m 91 ls [.int v26]) rfl ?_
        exact xr_ireturn h hX hI dX0_wouldMatch_91
      · have h := xif_t h hc
        refine lv_bipush (v := (-2 : Int32)) hx hb dX0_wouldMatch_29 (by decide) ?_
        exact xr_ireturn h hX hI dX0_wouldMatch_31
  · have h := xif_t h hc
    refine lv_iconst (v := (-1 : Int32)) hx hb dX0_wouldMatch_12 (by decide) ?_
    exact xr_ireturn h hX hI dX0_wouldMatch_13
/-! PayMatchModel.wouldMatch(IIII)I  -/
theorem w_X3_wouldMatch_b92 {t0 : Int32} {t1 : Int32} {r : Int32} (hX : xX E R p m c cX3_wouldMatch 5 s args RX3 "wouldMatch" meth (some .int) 5 149 σ0 σ9)
    (h : (f_X3_wouldMatch_b92 t0 t1).1 σ = some (r, σ9)) (hI : xI E σ0 σ s H locs cells slots) (hl : lv_has ls 5 []) : W p l e R s m args below meth c H locs cells slots (xMQ E below args s σ0 σ9 (some (.int r))) (F0 m 92 ls [.int t1, .int t0]) := by
  have hx := hX.1.1
  have hb := hX.1.2.1
  delta f_X3_wouldMatch_b92 at h
  refine lv_iadd hx hb dX3_wouldMatch_92 ?_
  exact xr_ireturn h hX hI dX3_wouldMatch_93
theorem w_X3_wouldMatch_b65 {t0 : Int32} {t1 : Int32} {a0 : Nat} {a1 : Int32} {a2 : Int32} {a3 : Int32} {r : Int32} (hX : xX E R p m c cX3_wouldMatch 5 s args RX3 "wouldMatch" meth (some .int) 5 149 σ0 σ9)
    (h : (f_X3_wouldMatch_b65 t0 t1 a0 a1 a2 a3).1 σ = some (r, σ9)) (hI : xI E σ0 σ s H locs cells slots) (hl : lv_has ls 5 [(0, .ref a0), (1, .int a1), (2, .int a2), (3, .int a3)]) : W p l e R s m args below meth c H locs cells slots (xMQ E below args s σ0 σ9 (some (.int r))) (F0 m 65 ls [.int t1, .int t0]) := by
  have hx := hX.1.1
  have hb := hX.1.2.1
  delta f_X3_wouldMatch_b65 at h
  refine lv_iadd hx hb dX3_wouldMatch_65 ?_
  refine lv_aload_n hx hb dX3_wouldMatch_66 rfl (lv_at hl 0 rfl) ?_
  refine lv_iload_n hx hb dX3_wouldMatch_67 rfl (lv_at hl 1 rfl) ?_
  refine lv_iload_n hx hb dX3_wouldMatch_68 rfl (lv_at hl 2 rfl) ?_
  refine lv_aload_n hx hb dX3_wouldMatch_69 rfl (lv_at hl 0 rfl) ?_
  refine lv_iload_n hx hb dX3_wouldMatch_70 rfl (lv_at hl 1 rfl) ?_
  refine lv_iload_n hx hb dX3_wouldMatch_71 rfl (lv_at hl 2 rfl) ?_
  refine lv_iconst (v := (5 : Int32)) hx hb dX3_wouldMatch_72 (by decide) ?_
  refine xr_callS (iv := (fun b => some (.int b))) (As := [.int a1, .int a2, .int (5 : Int32)]) (rest := [.ref a0, .int a2, .int a1, .ref a0, .int (t0 + t1)]) h hX hI (fun _ _ h => w_X3_ofLine h) 3 (lw_S q2103 q2104 q87 q2105) xd_X3_ofLine ⟨rfl, rfl⟩ rfl hl.1 (Nat.le_of_ble_eq_true rfl) dX3_wouldMatch_73 (fun v9 H locs σ cells slots h hI => ?_)
  refine W.eq (g2 := F0 m 76 ls [.int v9, .ref a0, .int a2, .int a1, .ref a0, .int (t0 + t1)]) rfl ?_
  refine xr_callV (iv := (fun b => some (.int b))) (As := [.int v9]) (rest := [.int a2, .int a1, .ref a0, .int (t0 + t1)]) h hX hI (fun _ _ h => w_X3_at h) (fun _ _ h => o_X3_at h) rfl 1 (lw_V q2022 q2024 qs31 q87 q2025) ⟨rfl, xd_X3_at⟩ ⟨rfl, rfl⟩ rfl hl.1 (Nat.le_of_ble_eq_true rfl) dX3_wouldMatch_76 (fun v10 H locs σ cells slots h hI => ?_)
  refine W.eq (g2 := F0 m 79 ls [.int v10, .int a2, .int a1, .ref a0, .int (t0 + t1)]) rfl ?_
  refine lv_iload_n hx hb dX3_wouldMatch_79 rfl (lv_at hl 3 rfl) ?_
  refine xr_callV (iv := (fun b => some (.int b))) (As := [.int a1, .int a2, .int v10, .int a3]) (rest := [.int (t0 + t1)]) h hX hI (fun _ _ h => w_X3_isMuch h) (fun _ _ h => o_X3_isMuch h) rfl 4 (lw_V q2205 q2207 qs56 q87 q2208) ⟨rfl, xd_X3_isMuch⟩ ⟨rfl, rfl⟩ rfl hl.1 (Nat.le_of_ble_eq_true rfl) dX3_wouldMatch_80 (fun v11 H locs σ cells slots h hI => ?_)
  refine W.eq (g2 := F0 m 83 ls [.int v11, .int (t0 + t1)]) rfl ?_
  refine lv_if_eq (tgt := 91) hx hb dX3_wouldMatch_83 (by decide) (fun hc => ?_) (fun hc => ?_)
  · have h := xif_t h hc
    refine lv_iconst (v := (0 : Int32)) hx hb dX3_wouldMatch_91 (by decide) ?_
    exact w_X3_wouldMatch_b92 hX h hI (lv_sub hl [] rfl)
  · have h := xif_f h hc
    refine lv_bipush (v := (16 : Int32)) hx hb dX3_wouldMatch_86 (by decide) ?_
    refine lv_goto (tgt := 92) hx hb dX3_wouldMatch_88 (by decide) ?_
    exact w_X3_wouldMatch_b92 hX h hI (lv_sub hl [] rfl)
theorem o_X3_wouldMatch {a0 : Nat} {a1 : Int32} {a2 : Int32} {a3 : Int32} {a4 : Int32} {r : Int32} {σ σ9 : xS} (h : (f_X3_wouldMatch a0 a1 a2 a3 a4).1 σ = some (r, σ9)) : ∃ fs, σ.1 a0 = some (.inl (3, fs)) := xck_of h
theorem w_X3_wouldMatch {E : xE} {l : Launch} {a0 : Nat} {a1 : Int32} {a2 : Int32} {a3 : Int32} {a4 : Int32} {r : Int32} {σ σ9 : xS} (h : (f_X3_wouldMatch a0 a1 a2 a3 a4).1 σ = some (r, σ9)) : xMet E l yX3_wouldMatch (ws_ yX3_wouldMatch cX3_wouldMatch 5 (some .int)) 5 149 [.ref a0, .int a1, .int a2, .int a3, .int a4] σ σ9 (some (.int r)) := by
  refine xstart (by decide +kernel) ((f_X3_wouldMatch a0 a1 a2 a3 a4).2 _ _ _ h) (Nat.le_of_ble_eq_true rfl) ?_
  intro p e s m args below meth c H locs cells slots ls R hX hI hl
  have hx := hX.1.1
  have hb := hX.1.2.1
  have hl : lv_has ls 5 [(0, .ref a0), (1, .int a1), (2, .int a2), (3, .int a3), (4, .int a4)] := hl
  generalize hσ0 : σ = σ0 at hX hI ⊢
  have h : (f_X3_wouldMatch a0 a1 a2 a3 a4).1 σ0 = some (r, σ9) := by rw [← hσ0]; exact h
  clear hσ0
  delta f_X3_wouldMatch at h
  have h := (xck_bd h).2
  refine lv_aload_n hx hb dX3_wouldMatch_0 rfl (lv_at hl 0 rfl) ?_
  refine lv_iconst (v := (0 : Int32)) hx hb dX3_wouldMatch_1 (by decide) ?_
  refine xr_pt h hX hI xl_X3_1_3 (Or.inl rfl) rfl rfl dX3_wouldMatch_2 (fun H locs σ h hI => ?_)
  refine lv_aload_n hx hb dX3_wouldMatch_5 rfl (lv_at hl 0 rfl) ?_
  refine lv_iload_n hx hb dX3_wouldMatch_6 rfl (lv_at hl 1 rfl) ?_
  refine lv_iload_n hx hb dX3_wouldMatch_7 rfl (lv_at hl 2 rfl) ?_
  refine xr_callV (iv := (fun b => some (.int b))) (As := [.int a1, .int a2]) (rest := []) h hX hI (fun _ _ h => w_X3_isLine h) (fun _ _ h => o_X3_isLine h) rfl 2 (lw_V q2110 q2112 qs39 q87 q2113) ⟨rfl, xd_X3_isLine⟩ ⟨rfl, rfl⟩ rfl hl.1 (Nat.le_of_ble_eq_true rfl) dX3_wouldMatch_8 (fun v12 H locs σ cells slots h hI => ?_)
  refine W.eq (g2 := F0 m 11 ls [.int v12]) rfl ?_
  refine lv_if_ne (tgt := 16) hx hb dX3_wouldMatch_11 (by decide) (fun hc => ?_) (fun hc => ?_)
  · have h := xif_f h hc
    refine lv_iload_n hx hb dX3_wouldMatch_16 rfl (lv_at hl 3 rfl) ?_
    refine lv_iconst (v := (1 : Int32)) hx hb dX3_wouldMatch_17 (by decide) ?_
    refine lv_sipush (v := (999 : Int32)) hx hb dX3_wouldMatch_18 (by decide) ?_
    refine xr_callS (iv := (fun b => some (.int b))) (As := [.int a3, .int (1 : Int32), .int (999 : Int32)]) (rest := []) h hX hI (fun _ _ h => w_X3_in h) 3 (lw_S q2043 q2044 q87 q2045) xd_X3_in ⟨rfl, rfl⟩ rfl hl.1 (Nat.le_of_ble_eq_true rfl) dX3_wouldMatch_21 (fun v13 H locs σ cells slots h hI => ?_)
    refine W.eq (g2 := F0 m 24 ls [.int v13]) rfl ?_
    refine lv_if_eq (tgt := 39) hx hb dX3_wouldMatch_24 (by decide) (fun hc => ?_) (fun hc => ?_)
    · have h := xif_t h hc
      refine lv_bipush (v := (-2 : Int32)) hx hb dX3_wouldMatch_39 (by decide) ?_
      exact xr_ireturn h hX hI dX3_wouldMatch_41
    · have h := xif_f h hc
      refine lv_iload hx hb dX3_wouldMatch_27 (lv_at hl 4 rfl) ?_
      refine lv_iconst (v := (1 : Int32)) hx hb dX3_wouldMatch_29 (by decide) ?_
      refine lv_sipush (v := (9999 : Int32)) hx hb dX3_wouldMatch_30 (by decide) ?_
      refine xr_callS (iv := (fun b => some (.int b))) (As := [.int a4, .int (1 : Int32), .int (9999 : Int32)]) (rest := []) h hX hI (fun _ _ h => w_X3_in h) 3 (lw_S q2043 q2044 q87 q2045) xd_X3_in ⟨rfl, rfl⟩ rfl hl.1 (Nat.le_of_ble_eq_true rfl) dX3_wouldMatch_33 (fun v14 H locs σ cells slots h hI => ?_)
      refine W.eq (g2 := F0 m 36 ls [.int v14]) rfl ?_
      refine lv_if_ne (tgt := 42) hx hb dX3_wouldMatch_36 (by decide) (fun hc => ?_) (fun hc => ?_)
      · have h := xif_f h hc
        refine lv_aload_n hx hb dX3_wouldMatch_42 rfl (lv_at hl 0 rfl) ?_
        refine lv_iload_n hx hb dX3_wouldMatch_43 rfl (lv_at hl 1 rfl) ?_
        refine xr_callV (iv := (fun b => some (.int b))) (As := [.int a1]) (rest := []) h hX hI (fun _ _ h => w_X3_reasonsOf h) (fun _ _ h => o_X3_reasonsOf h) rfl 1 (lw_V q2209 q2211 qs57 q87 q2212) ⟨rfl, xd_X3_reasonsOf⟩ ⟨rfl, rfl⟩ rfl hl.1 (Nat.le_of_ble_eq_true rfl) dX3_wouldMatch_44 (fun v15 H locs σ cells slots h hI => ?_)
        refine W.eq (g2 := F0 m 47 ls [.int v15]) rfl ?_
        refine lv_aload_n hx hb dX3_wouldMatch_47 rfl (lv_at hl 0 rfl) ?_
        refine lv_iload_n hx hb dX3_wouldMatch_48 rfl (lv_at hl 1 rfl) ?_
        refine lv_iload_n hx hb dX3_wouldMatch_49 rfl (lv_at hl 2 rfl) ?_
        refine lv_iload_n hx hb dX3_wouldMatch_50 rfl (lv_at hl 3 rfl) ?_
        refine lv_iload hx hb dX3_wouldMatch_51 (lv_at hl 4 rfl) ?_
        refine xr_callV (iv := (fun b => some (.int b))) (As := [.int a1, .int a2, .int a3, .int a4]) (rest := [.int v15]) h hX hI (fun _ _ h => w_X3_isDear h) (fun _ _ h => o_X3_isDear h) rfl 4 (lw_V q2197 q2199 qs54 q87 q2200) ⟨rfl, xd_X3_isDear⟩ ⟨rfl, rfl⟩ rfl hl.1 (Nat.le_of_ble_eq_true rfl) dX3_wouldMatch_53 (fun v16 H locs σ cells slots h hI => ?_)
        refine W.eq (g2 := F0 m 56 ls [.int v16, .int v15]) rfl ?_
        refine lv_if_eq (tgt := 64) hx hb dX3_wouldMatch_56 (by decide) (fun hc => ?_) (fun hc => ?_)
        · have h := xif_t h hc
          refine lv_iconst (v := (0 : Int32)) hx hb dX3_wouldMatch_64 (by decide) ?_
          exact w_X3_wouldMatch_b65 hX h hI (lv_sub hl [0, 1, 2, 3] rfl)
        · have h := xif_f h hc
          refine lv_bipush (v := (8 : Int32)) hx hb dX3_wouldMatch_59 (by decide) ?_
          refine lv_goto (tgt := 65) hx hb dX3_wouldMatch_61 (by decide) ?_
          exact w_X3_wouldMatch_b65 hX h hI (lv_sub hl [0, 1, 2, 3] rfl)
      · have h := xif_t h hc
        refine lv_bipush (v := (-2 : Int32)) hx hb dX3_wouldMatch_39 (by decide) ?_
        exact xr_ireturn h hX hI dX3_wouldMatch_41
  · have h := xif_t h hc
    refine lv_iconst (v := (-1 : Int32)) hx hb dX3_wouldMatch_14 (by decide) ?_
    exact xr_ireturn h hX hI dX3_wouldMatch_15
/-! PayMatch.greatestPrice(III)I  -/
theorem w_X0_greatestPrice_b39 {rec39 : Nat → Int32 → Int32 → Int32 → Nat → Int32 → xM Int32} {a0 : Nat} {a1 : Int32} {a2 : Int32} {a3 : Int32} {a4 : Nat} {a5 : Int32} {r : Int32} (hX : xX E R p m c cX0_greatestPrice 6 s args RX0 "greatestPrice" meth (some .int) 5 107 σ0 σ9) (hrec39 : ∀ (a0 : Nat) (a1 : Int32) (a2 : Int32) (a3 : Int32) (a4 : Nat) (a5 : Int32) (σ : xS) (H : Heap) (locs : List Loc) (cells slots : Nat) (ls : Array Slot), (rec39 a0 a1 a2 a3 a4 a5).1 σ = some (r, σ9) → xI E σ0 σ s H locs cells slots → lv_has ls 6 [(0, .ref a0), (1, .int a1), (2, .int a2), (3, .int a3), (4, .ref a4), (5, .int a5)] → W p l e R s m args below meth c H locs cells slots (xMQ E below args s σ0 σ9 (some (.int r))) (F0 m 39 ls []))
    (h : (f_X0_greatestPrice_b39 rec39 a0 a1 a2 a3 a4 a5).1 σ = some (r, σ9)) (hI : xI E σ0 σ s H locs cells slots) (hl : lv_has ls 6 [(0, .ref a0), (1, .int a1), (2, .int a2), (3, .int a3), (4, .ref a4), (5, .int a5)]) : W p l e R s m args below meth c H locs cells slots (xMQ E below args s σ0 σ9 (some (.int r))) (F0 m 39 ls []) := by
  have hx := hX.1.1
  have hb := hX.1.2.1
  delta f_X0_greatestPrice_b39 at h
  refine lv_aload hx hb dX0_greatestPrice_39 (lv_at hl 4 rfl) ?_
  refine lv_iload hx hb dX0_greatestPrice_41 (lv_at hl 5 rfl) ?_
  refine lv_iload_n hx hb dX0_greatestPrice_43 rfl (lv_at hl 3 rfl) ?_
  refine lv_aload_n hx hb dX0_greatestPrice_44 rfl (lv_at hl 0 rfl) ?_
  refine xr_gN h hX hI xl_X0_22_0.g dX0_greatestPrice_45 (fun v9 h => ?_)
  refine lv_iload_n hx hb dX0_greatestPrice_48 rfl (lv_at hl 1 rfl) ?_
  refine lv_iload_n hx hb dX0_greatestPrice_49 rfl (lv_at hl 2 rfl) ?_
  refine xr_callV (iv := (fun b => some (.ref b))) (As := [.int a1, .int a2]) (rest := [.int a3, .int a5, .ref a4]) h hX hI (fun _ _ h => w_X1_line h) (fun _ _ h => o_X1_line h) rfl 2 (lw_V q1323 q1324 q1325 q75 q1326) ⟨rfl, xd_X1_line⟩ ⟨rfl, rfl⟩ rfl hl.1 (Nat.le_of_ble_eq_true rfl) dX0_greatestPrice_50 (fun v10 H locs σ cells slots h hI => ?_)
  refine W.eq (g2 := F0 m 53 ls [.ref v10, .int a3, .int a5, .ref a4]) rfl ?_
  refine xr_callV (iv := (fun b => some (.int b))) (As := [.int a5, .int a3, .ref v10]) (rest := []) h hX hI (fun _ _ h => w_X7_isTooDear h) (fun _ _ h => o_X7_isTooDear h) rfl 3 (lw_V q1898 q1716 q1717 q108 q1718) ⟨rfl, xd_X7_isTooDear⟩ ⟨rfl, rfl⟩ rfl hl.1 (Nat.le_of_ble_eq_true rfl) dX0_greatestPrice_53 (fun v11 H locs σ cells slots h hI => ?_)
  refine W.eq (g2 := F0 m 56 ls [.int v11]) rfl ?_
  refine lv_if_eq (tgt := 65) hx hb dX0_greatestPrice_56 (by decide) (fun hc => ?_) (fun hc => ?_)
  · have h := xif_t h hc
    refine lv_iload hx hb dX0_greatestPrice_65 (lv_at hl 5 rfl) ?_
    exact xr_ireturn h hX hI dX0_greatestPrice_67
  · have h := xif_f h hc
    refine lv_iinc (k := 5) (lv' := [(5, .int (a5 - (1 : Int32))), (0, .ref a0), (1, .int a1), (2, .int a2), (3, .int a3), (4, .ref a4)]) hx hb dX0_greatestPrice_59 hl rfl (xidec (by decide)) (Nat.le_of_ble_eq_true rfl) rfl (fun ls hl => ?_)
    refine lv_goto (tgt := 39) hx hb dX0_greatestPrice_62 (by decide) ?_
    exact hrec39 a0 a1 a2 a3 a4 (a5 - (1 : Int32)) _ _ _ _ _ _ h hI (lv_sub hl [1, 2, 3, 4, 5, 0] rfl)
theorem w_X0_greatestPrice_L39 {r : Int32} (hX : xX E R p m c cX0_greatestPrice 6 s args RX0 "greatestPrice" meth (some .int) 5 107 σ0 σ9) : ∀ (n : Nat) (a0 : Nat) (a1 : Int32) (a2 : Int32) (a3 : Int32) (a4 : Nat) (a5 : Int32) (σ : xS) (H : Heap) (locs : List Loc) (cells slots : Nat) (ls : Array Slot), (f_X0_greatestPrice_L39 n a0 a1 a2 a3 a4 a5).1 σ = some (r, σ9) → xI E σ0 σ s H locs cells slots → lv_has ls 6 [(0, .ref a0), (1, .int a1), (2, .int a2), (3, .int a3), (4, .ref a4), (5, .int a5)] → W p l e R s m args below meth c H locs cells slots (xMQ E below args s σ0 σ9 (some (.int r))) (F0 m 39 ls []) := by
  intro n
  induction n with
  | zero =>
    intro a0 a1 a2 a3 a4 a5 σ H locs cells slots ls h
    exact xr_no h
  | succ n ih =>
    intro a0 a1 a2 a3 a4 a5 σ H locs cells slots ls h hI hl
    exact w_X0_greatestPrice_b39 hX ih h hI hl
theorem o_X0_greatestPrice {a0 : Nat} {a1 : Int32} {a2 : Int32} {a3 : Int32} {r : Int32} {σ σ9 : xS} (h : (f_X0_greatestPrice a0 a1 a2 a3).1 σ = some (r, σ9)) : ∃ fs, σ.1 a0 = some (.inl (0, fs)) := xck_of h
theorem w_X0_greatestPrice {E : xE} {l : Launch} {a0 : Nat} {a1 : Int32} {a2 : Int32} {a3 : Int32} {r : Int32} {σ σ9 : xS} (h : (f_X0_greatestPrice a0 a1 a2 a3).1 σ = some (r, σ9)) : xMet E l yX0_greatestPrice (ws_ yX0_greatestPrice cX0_greatestPrice 6 (some .int)) 5 107 [.ref a0, .int a1, .int a2, .int a3] σ σ9 (some (.int r)) := by
  refine xstart (by decide +kernel) ((f_X0_greatestPrice a0 a1 a2 a3).2 _ _ _ h) (Nat.le_of_ble_eq_true rfl) ?_
  intro p e s m args below meth c H locs cells slots ls R hX hI hl
  have hx := hX.1.1
  have hb := hX.1.2.1
  have hl : lv_has ls 6 [(0, .ref a0), (1, .int a1), (2, .int a2), (3, .int a3)] := hl
  generalize hσ0 : σ = σ0 at hX hI ⊢
  have h : (f_X0_greatestPrice a0 a1 a2 a3).1 σ0 = some (r, σ9) := by rw [← hσ0]; exact h
  clear hσ0
  delta f_X0_greatestPrice at h
  have h := (xck_bd h).2
  refine lv_aload_n hx hb dX0_greatestPrice_0 rfl (lv_at hl 0 rfl) ?_
  refine xr_gN h hX hI xl_X0_22_0.g dX0_greatestPrice_1 (fun v12 h => ?_)
  refine lv_iload_n hx hb dX0_greatestPrice_4 rfl (lv_at hl 1 rfl) ?_
  refine lv_iload_n hx hb dX0_greatestPrice_5 rfl (lv_at hl 2 rfl) ?_
  refine xr_callV (iv := (fun b => some (.int b))) (As := [.int a1, .int a2]) (rest := []) h hX hI (fun _ _ h => w_X1_hasLine h) (fun _ _ h => o_X1_hasLine h) rfl 2 (lw_V q1318 q1319 q1320 q75 q1321) ⟨rfl, xd_X1_hasLine⟩ ⟨rfl, rfl⟩ rfl hl.1 (Nat.le_of_ble_eq_true rfl) dX0_greatestPrice_6 (fun v13 H locs σ cells slots h hI => ?_)
  refine W.eq (g2 := F0 m 9 ls [.int v13]) rfl ?_
  refine lv_if_ne (tgt := 14) hx hb dX0_greatestPrice_9 (by decide) (fun hc => ?_) (fun hc => ?_)
  · have h := xif_f h hc
    refine lv_iload_n hx hb dX0_greatestPrice_14 rfl (lv_at hl 3 rfl) ?_
    refine xr_callS (iv := (fun b => some (.int b))) (As := [.int a3]) (rest := []) h hX hI (fun _ _ h => w_X0_areUnits h) 1 (lw_S q1302 q1303 q74 q1304) xd_X0_areUnits ⟨rfl, rfl⟩ rfl hl.1 (Nat.le_of_ble_eq_true rfl) dX0_greatestPrice_15 (fun v14 H locs σ cells slots h hI => ?_)
    refine W.eq (g2 := F0 m 18 ls [.int v14]) rfl ?_
    refine lv_if_ne (tgt := 24) hx hb dX0_greatestPrice_18 (by decide) (fun hc => ?_) (fun hc => ?_)
    · have h := xif_f h hc
      refine lv_aload_n hx hb dX0_greatestPrice_24 rfl (lv_at hl 0 rfl) ?_
      refine xr_gN h hX hI xl_X0_22_0.g dX0_greatestPrice_25 (fun v15 h => ?_)
      refine lv_iload_n hx hb dX0_greatestPrice_28 rfl (lv_at hl 1 rfl) ?_
      refine xr_callV (iv := (fun b => some (.ref b))) (As := [.int a1]) (rest := []) h hX hI (fun _ _ h => w_X1_supplierOf h) (fun _ _ h => o_X1_supplierOf h) rfl 1 (lw_V q1434 q1435 q1436 q75 q1437) ⟨rfl, xd_X1_supplierOf⟩ ⟨rfl, rfl⟩ rfl hl.1 (Nat.le_of_ble_eq_true rfl) dX0_greatestPrice_29 (fun v16 H locs σ cells slots h hI => ?_)
      refine W.eq (g2 := F0 m 32 ls [.ref v16]) rfl ?_
      refine lv_astore (lv' := [(4, .ref v16), (0, .ref a0), (1, .int a1), (2, .int a2), (3, .int a3)]) hx hb dX0_greatestPrice_32 hl (Nat.le_of_ble_eq_true rfl) rfl (fun ls hl => ?_)
      refine lv_sipush (v := (9999 : Int32)) hx hb dX0_greatestPrice_34 (by decide) ?_
      refine lv_istore (lv' := [(5, .int (9999 : Int32)), (4, .ref v16), (0, .ref a0), (1, .int a1), (2, .int a2), (3, .int a3)]) hx hb dX0_greatestPrice_37 hl (Nat.le_of_ble_eq_true rfl) rfl (fun ls hl => ?_)
      exact w_X0_greatestPrice_L39 hX xFU a0 a1 a2 a3 v16 (9999 : Int32) _ _ _ _ _ _ h hI (lv_sub hl [2, 3, 4, 5, 1, 0] rfl)
    · have h := xif_t h hc
      refine lv_bipush (v := (-2 : Int32)) hx hb dX0_greatestPrice_21 (by decide) ?_
      exact xr_ireturn h hX hI dX0_greatestPrice_23
  · have h := xif_t h hc
    refine lv_iconst (v := (-1 : Int32)) hx hb dX0_greatestPrice_12 (by decide) ?_
    exact xr_ireturn h hX hI dX0_greatestPrice_13
/-! PayMatchModel.greatestPrice(III)I  -/
theorem w_X3_greatestPrice_b35 {rec35 : Nat → Int32 → Int32 → Int32 → Int32 → xM Int32} {a0 : Nat} {a1 : Int32} {a2 : Int32} {a3 : Int32} {a4 : Int32} {r : Int32} (hX : xX E R p m c cX3_greatestPrice 5 s args RX3 "greatestPrice" meth (some .int) 3 107 σ0 σ9) (hrec35 : ∀ (a0 : Nat) (a1 : Int32) (a2 : Int32) (a3 : Int32) (a4 : Int32) (σ : xS) (H : Heap) (locs : List Loc) (cells slots : Nat) (ls : Array Slot), (rec35 a0 a1 a2 a3 a4).1 σ = some (r, σ9) → xI E σ0 σ s H locs cells slots → lv_has ls 5 [(0, .ref a0), (1, .int a1), (2, .int a2), (3, .int a3), (4, .int a4)] → W p l e R s m args below meth c H locs cells slots (xMQ E below args s σ0 σ9 (some (.int r))) (F0 m 35 ls []))
    (h : (f_X3_greatestPrice_b35 rec35 a0 a1 a2 a3 a4).1 σ = some (r, σ9)) (hI : xI E σ0 σ s H locs cells slots) (hl : lv_has ls 5 [(0, .ref a0), (1, .int a1), (2, .int a2), (3, .int a3), (4, .int a4)]) : W p l e R s m args below meth c H locs cells slots (xMQ E below args s σ0 σ9 (some (.int r))) (F0 m 35 ls []) := by
  have hx := hX.1.1
  have hb := hX.1.2.1
  delta f_X3_greatestPrice_b35 at h
  refine lv_aload_n hx hb dX3_greatestPrice_35 rfl (lv_at hl 0 rfl) ?_
  refine lv_iload_n hx hb dX3_greatestPrice_36 rfl (lv_at hl 1 rfl) ?_
  refine lv_iload_n hx hb dX3_greatestPrice_37 rfl (lv_at hl 2 rfl) ?_
  refine lv_iload_n hx hb dX3_greatestPrice_38 rfl (lv_at hl 3 rfl) ?_
  refine lv_iload hx hb dX3_greatestPrice_39 (lv_at hl 4 rfl) ?_
  refine xr_callV (iv := (fun b => some (.int b))) (As := [.int a1, .int a2, .int a3, .int a4]) (rest := []) h hX hI (fun _ _ h => w_X3_isDear h) (fun _ _ h => o_X3_isDear h) rfl 4 (lw_V q2197 q2199 qs54 q87 q2200) ⟨rfl, xd_X3_isDear⟩ ⟨rfl, rfl⟩ rfl hl.1 (Nat.le_of_ble_eq_true rfl) dX3_greatestPrice_41 (fun v4 H locs σ cells slots h hI => ?_)
  refine W.eq (g2 := F0 m 44 ls [.int v4]) rfl ?_
  refine lv_if_eq (tgt := 53) hx hb dX3_greatestPrice_44 (by decide) (fun hc => ?_) (fun hc => ?_)
  · have h := xif_t h hc
    refine lv_iload hx hb dX3_greatestPrice_53 (lv_at hl 4 rfl) ?_
    exact xr_ireturn h hX hI dX3_greatestPrice_55
  · have h := xif_f h hc
    refine lv_iinc (k := 4) (lv' := [(4, .int (a4 - (1 : Int32))), (0, .ref a0), (1, .int a1), (2, .int a2), (3, .int a3)]) hx hb dX3_greatestPrice_47 hl rfl (xidec (by decide)) (Nat.le_of_ble_eq_true rfl) rfl (fun ls hl => ?_)
    refine lv_goto (tgt := 35) hx hb dX3_greatestPrice_50 (by decide) ?_
    exact hrec35 a0 a1 a2 a3 (a4 - (1 : Int32)) _ _ _ _ _ _ h hI (lv_sub hl [1, 2, 3, 4, 0] rfl)
theorem w_X3_greatestPrice_L35 {r : Int32} (hX : xX E R p m c cX3_greatestPrice 5 s args RX3 "greatestPrice" meth (some .int) 3 107 σ0 σ9) : ∀ (n : Nat) (a0 : Nat) (a1 : Int32) (a2 : Int32) (a3 : Int32) (a4 : Int32) (σ : xS) (H : Heap) (locs : List Loc) (cells slots : Nat) (ls : Array Slot), (f_X3_greatestPrice_L35 n a0 a1 a2 a3 a4).1 σ = some (r, σ9) → xI E σ0 σ s H locs cells slots → lv_has ls 5 [(0, .ref a0), (1, .int a1), (2, .int a2), (3, .int a3), (4, .int a4)] → W p l e R s m args below meth c H locs cells slots (xMQ E below args s σ0 σ9 (some (.int r))) (F0 m 35 ls []) := by
  intro n
  induction n with
  | zero =>
    intro a0 a1 a2 a3 a4 σ H locs cells slots ls h
    exact xr_no h
  | succ n ih =>
    intro a0 a1 a2 a3 a4 σ H locs cells slots ls h hI hl
    exact w_X3_greatestPrice_b35 hX ih h hI hl
theorem o_X3_greatestPrice {a0 : Nat} {a1 : Int32} {a2 : Int32} {a3 : Int32} {r : Int32} {σ σ9 : xS} (h : (f_X3_greatestPrice a0 a1 a2 a3).1 σ = some (r, σ9)) : ∃ fs, σ.1 a0 = some (.inl (3, fs)) := xck_of h
theorem w_X3_greatestPrice {E : xE} {l : Launch} {a0 : Nat} {a1 : Int32} {a2 : Int32} {a3 : Int32} {r : Int32} {σ σ9 : xS} (h : (f_X3_greatestPrice a0 a1 a2 a3).1 σ = some (r, σ9)) : xMet E l yX3_greatestPrice (ws_ yX3_greatestPrice cX3_greatestPrice 5 (some .int)) 3 107 [.ref a0, .int a1, .int a2, .int a3] σ σ9 (some (.int r)) := by
  refine xstart (by decide +kernel) ((f_X3_greatestPrice a0 a1 a2 a3).2 _ _ _ h) (Nat.le_of_ble_eq_true rfl) ?_
  intro p e s m args below meth c H locs cells slots ls R hX hI hl
  have hx := hX.1.1
  have hb := hX.1.2.1
  have hl : lv_has ls 5 [(0, .ref a0), (1, .int a1), (2, .int a2), (3, .int a3)] := hl
  generalize hσ0 : σ = σ0 at hX hI ⊢
  have h : (f_X3_greatestPrice a0 a1 a2 a3).1 σ0 = some (r, σ9) := by rw [← hσ0]; exact h
  clear hσ0
  delta f_X3_greatestPrice at h
  have h := (xck_bd h).2
  refine lv_aload_n hx hb dX3_greatestPrice_0 rfl (lv_at hl 0 rfl) ?_
  refine lv_iconst (v := (0 : Int32)) hx hb dX3_greatestPrice_1 (by decide) ?_
  refine xr_pt h hX hI xl_X3_1_3 (Or.inl rfl) rfl rfl dX3_greatestPrice_2 (fun H locs σ h hI => ?_)
  refine lv_aload_n hx hb dX3_greatestPrice_5 rfl (lv_at hl 0 rfl) ?_
  refine lv_iload_n hx hb dX3_greatestPrice_6 rfl (lv_at hl 1 rfl) ?_
  refine lv_iload_n hx hb dX3_greatestPrice_7 rfl (lv_at hl 2 rfl) ?_
  refine xr_callV (iv := (fun b => some (.int b))) (As := [.int a1, .int a2]) (rest := []) h hX hI (fun _ _ h => w_X3_isLine h) (fun _ _ h => o_X3_isLine h) rfl 2 (lw_V q2110 q2112 qs39 q87 q2113) ⟨rfl, xd_X3_isLine⟩ ⟨rfl, rfl⟩ rfl hl.1 (Nat.le_of_ble_eq_true rfl) dX3_greatestPrice_8 (fun v5 H locs σ cells slots h hI => ?_)
  refine W.eq (g2 := F0 m 11 ls [.int v5]) rfl ?_
  refine lv_if_ne (tgt := 16) hx hb dX3_greatestPrice_11 (by decide) (fun hc => ?_) (fun hc => ?_)
  · have h := xif_f h hc
    refine lv_iload_n hx hb dX3_greatestPrice_16 rfl (lv_at hl 3 rfl) ?_
    refine lv_iconst (v := (1 : Int32)) hx hb dX3_greatestPrice_17 (by decide) ?_
    refine lv_sipush (v := (999 : Int32)) hx hb dX3_greatestPrice_18 (by decide) ?_
    refine xr_callS (iv := (fun b => some (.int b))) (As := [.int a3, .int (1 : Int32), .int (999 : Int32)]) (rest := []) h hX hI (fun _ _ h => w_X3_in h) 3 (lw_S q2043 q2044 q87 q2045) xd_X3_in ⟨rfl, rfl⟩ rfl hl.1 (Nat.le_of_ble_eq_true rfl) dX3_greatestPrice_21 (fun v6 H locs σ cells slots h hI => ?_)
    refine W.eq (g2 := F0 m 24 ls [.int v6]) rfl ?_
    refine lv_if_ne (tgt := 30) hx hb dX3_greatestPrice_24 (by decide) (fun hc => ?_) (fun hc => ?_)
    · have h := xif_f h hc
      refine lv_sipush (v := (9999 : Int32)) hx hb dX3_greatestPrice_30 (by decide) ?_
      refine lv_istore (lv' := [(4, .int (9999 : Int32)), (0, .ref a0), (1, .int a1), (2, .int a2), (3, .int a3)]) hx hb dX3_greatestPrice_33 hl (Nat.le_of_ble_eq_true rfl) rfl (fun ls hl => ?_)
      exact w_X3_greatestPrice_L35 hX xFU a0 a1 a2 a3 (9999 : Int32) _ _ _ _ _ _ h hI (lv_sub hl [1, 2, 3, 4, 0] rfl)
    · have h := xif_t h hc
      refine lv_bipush (v := (-2 : Int32)) hx hb dX3_greatestPrice_27 (by decide) ?_
      exact xr_ireturn h hX hI dX3_greatestPrice_29
  · have h := xif_t h hc
    refine lv_iconst (v := (-1 : Int32)) hx hb dX3_greatestPrice_14 (by decide) ?_
    exact xr_ireturn h hX hI dX3_greatestPrice_15
/-! PayMatch$State.firstShare()D  -/
theorem w_X1_firstShare_b62 {rec12 : Int32 → Int32 → Nat → xM UInt64} {t0 : Int32} {t1 : Int32} {a2 : Int32} {a3 : Nat} {r : UInt64} (hX : xX E R p m c cX1_firstShare 5 s args RX1 "firstShare" meth (some .double) 4 121 σ0 σ9) (hrec12 : ∀ (a1 : Int32) (a2 : Int32) (a3 : Nat) (σ : xS) (H : Heap) (locs : List Loc) (cells slots : Nat) (ls : Array Slot), (rec12 a1 a2 a3).1 σ = some (r, σ9) → xI E σ0 σ s H locs cells slots → lv_has ls 5 [(1, .int a1), (2, .int a2), (3, .ref a3)] → W p l e R s m args below meth c H locs cells slots (xMQ E below args s σ0 σ9 (some (.double r))) (F0 m 12 ls []))
    (h : (f_X1_firstShare_b62 rec12 t0 t1 a2 a3).1 σ = some (r, σ9)) (hI : xI E σ0 σ s H locs cells slots) (hl : lv_has ls 5 [(2, .int a2), (3, .ref a3)]) : W p l e R s m args below meth c H locs cells slots (xMQ E below args s σ0 σ9 (some (.double r))) (F0 m 62 ls [.int t1, .int t0]) := by
  have hx := hX.1.1
  have hb := hX.1.2.1
  delta f_X1_firstShare_b62 at h
  refine lv_iadd hx hb dX1_firstShare_62 ?_
  refine lv_istore_n (lv' := [(1, .int (t0 + t1)), (2, .int a2), (3, .ref a3)]) hx hb dX1_firstShare_63 rfl hl (Nat.le_of_ble_eq_true rfl) rfl (fun ls hl => ?_)
  refine lv_goto (tgt := 12) hx hb dX1_firstShare_64 (by decide) ?_
  exact hrec12 (t0 + t1) a2 a3 _ _ _ _ _ _ h hI (lv_sub hl [0, 1, 2] rfl)
theorem w_X1_firstShare_b46 {rec12 : Int32 → Int32 → Nat → xM UInt64} {t0 : Int32} {t1 : Int32} {a1 : Int32} {a3 : Nat} {a4 : Nat} {r : UInt64} (hX : xX E R p m c cX1_firstShare 5 s args RX1 "firstShare" meth (some .double) 4 121 σ0 σ9) (hrec12 : ∀ (a1 : Int32) (a2 : Int32) (a3 : Nat) (σ : xS) (H : Heap) (locs : List Loc) (cells slots : Nat) (ls : Array Slot), (rec12 a1 a2 a3).1 σ = some (r, σ9) → xI E σ0 σ s H locs cells slots → lv_has ls 5 [(1, .int a1), (2, .int a2), (3, .ref a3)] → W p l e R s m args below meth c H locs cells slots (xMQ E below args s σ0 σ9 (some (.double r))) (F0 m 12 ls []))
    (h : (f_X1_firstShare_b46 rec12 t0 t1 a1 a3 a4).1 σ = some (r, σ9)) (hI : xI E σ0 σ s H locs cells slots) (hl : lv_has ls 5 [(1, .int a1), (3, .ref a3), (4, .ref a4)]) : W p l e R s m args below meth c H locs cells slots (xMQ E below args s σ0 σ9 (some (.double r))) (F0 m 46 ls [.int t1, .int t0]) := by
  have hx := hX.1.1
  have hb := hX.1.2.1
  delta f_X1_firstShare_b46 at h
  refine lv_iadd hx hb dX1_firstShare_46 ?_
  refine lv_istore_n (lv' := [(2, .int (t0 + t1)), (1, .int a1), (3, .ref a3), (4, .ref a4)]) hx hb dX1_firstShare_47 rfl hl (Nat.le_of_ble_eq_true rfl) rfl (fun ls hl => ?_)
  refine lv_iload_n hx hb dX1_firstShare_48 rfl (lv_at hl 1 rfl) ?_
  refine lv_aload hx hb dX1_firstShare_49 (lv_at hl 3 rfl) ?_
  refine xr_gI h hX hI xl_X1_216_4.g dX1_firstShare_51 (fun v10 h => ?_)
  refine lv_if_eq (tgt := 61) hx hb dX1_firstShare_54 (by decide) (fun hc => ?_) (fun hc => ?_)
  · have h := xif_t h hc
    refine lv_iconst (v := (0 : Int32)) hx hb dX1_firstShare_61 (by decide) ?_
    exact w_X1_firstShare_b62 hX hrec12 h hI (lv_sub hl [0, 2] rfl)
  · have h := xif_f h hc
    refine lv_iconst (v := (1 : Int32)) hx hb dX1_firstShare_57 (by decide) ?_
    refine lv_goto (tgt := 62) hx hb dX1_firstShare_58 (by decide) ?_
    exact w_X1_firstShare_b62 hX hrec12 h hI (lv_sub hl [0, 2] rfl)
theorem w_X1_firstShare_b67 {a1 : Int32} {a2 : Int32} {r : UInt64} (hX : xX E R p m c cX1_firstShare 5 s args RX1 "firstShare" meth (some .double) 4 121 σ0 σ9)
    (h : (f_X1_firstShare_b67 a1 a2).1 σ = some (r, σ9)) (hI : xI E σ0 σ s H locs cells slots) (hl : lv_has ls 5 [(1, .int a1), (2, .int a2)]) : W p l e R s m args below meth c H locs cells slots (xMQ E below args s σ0 σ9 (some (.double r))) (F0 m 67 ls []) := by
  have hx := hX.1.1
  have hb := hX.1.2.1
  delta f_X1_firstShare_b67 at h
  refine lv_iload_n hx hb dX1_firstShare_67 rfl (lv_at hl 1 rfl) ?_
  refine lv_if_ne (tgt := 75) hx hb dX1_firstShare_68 (by decide) (fun hc => ?_) (fun hc => ?_)
  · have h := xif_f h hc
    refine lv_iload_n hx hb dX1_firstShare_75 rfl (lv_at hl 0 rfl) ?_
    refine lv_i2d hx hb dX1_firstShare_76 ?_
    refine lv_iload_n hx hb dX1_firstShare_77 rfl (lv_at hl 1 rfl) ?_
    refine lv_i2d hx hb dX1_firstShare_78 ?_
    refine xr_ddiv h hx hb dX1_firstShare_79 (fun h => ?_)
    exact xr_dreturn h hX hI dX1_firstShare_80
  · have h := xif_t h hc
    refine lv_dconst0 hx hb dX1_firstShare_71 ?_
    refine lv_goto (tgt := 80) hx hb dX1_firstShare_72 (by decide) ?_
    exact xr_dreturn h hX hI dX1_firstShare_80
theorem w_X1_firstShare_b12 {rec12 : Int32 → Int32 → Nat → xM UInt64} {a1 : Int32} {a2 : Int32} {a3 : Nat} {r : UInt64} (hX : xX E R p m c cX1_firstShare 5 s args RX1 "firstShare" meth (some .double) 4 121 σ0 σ9) (hrec12 : ∀ (a1 : Int32) (a2 : Int32) (a3 : Nat) (σ : xS) (H : Heap) (locs : List Loc) (cells slots : Nat) (ls : Array Slot), (rec12 a1 a2 a3).1 σ = some (r, σ9) → xI E σ0 σ s H locs cells slots → lv_has ls 5 [(1, .int a1), (2, .int a2), (3, .ref a3)] → W p l e R s m args below meth c H locs cells slots (xMQ E below args s σ0 σ9 (some (.double r))) (F0 m 12 ls []))
    (h : (f_X1_firstShare_b12 rec12 a1 a2 a3).1 σ = some (r, σ9)) (hI : xI E σ0 σ s H locs cells slots) (hl : lv_has ls 5 [(1, .int a1), (2, .int a2), (3, .ref a3)]) : W p l e R s m args below meth c H locs cells slots (xMQ E below args s σ0 σ9 (some (.double r))) (F0 m 12 ls []) := by
  have hx := hX.1.1
  have hb := hX.1.2.1
  delta f_X1_firstShare_b12 at h
  refine lv_aload_n hx hb dX1_firstShare_12 rfl (lv_at hl 2 rfl) ?_
  refine xr_callF (iv := (fun b => some (.int b))) (As := []) (rest := []) h hX hI (fun _ _ h => w_J10_hasNext h) (fun _ _ h => o_J10_hasNext h) rfl 0 xfw_4 q1168 q460 q462 q89 q464 xdi_4 ⟨rfl, rfl⟩ rfl hl.1 (Nat.le_of_ble_eq_true rfl) dX1_firstShare_13 (fun v7 H locs σ cells slots h hI => ?_)
  refine W.eq (g2 := F0 m 18 ls [.int v7]) rfl ?_
  refine lv_if_eq (tgt := 67) hx hb dX1_firstShare_18 (by decide) (fun hc => ?_) (fun hc => ?_)
  · have h := xif_t h hc
    exact w_X1_firstShare_b67 hX h hI (lv_sub hl [0, 1] rfl)
  · have h := xif_f h hc
    refine lv_aload_n hx hb dX1_firstShare_21 rfl (lv_at hl 2 rfl) ?_
    refine xr_callF (iv := (fun b => some (.ref b))) (As := []) (rest := []) h hX hI (fun _ _ h => w_J10_next h) (fun _ _ h => o_J10_next h) rfl 0 xfw_6 q1170 q828 q830 q89 q832 xdi_6 ⟨rfl, rfl⟩ rfl hl.1 (Nat.le_of_ble_eq_true rfl) dX1_firstShare_22 (fun v8 H locs σ cells slots h hI => ?_)
    refine W.eq (g2 := F0 m 27 ls [.ref v8]) rfl ?_
    refine xr_cks h hX hI xc_X1_109 dX1_firstShare_27 (fun h => ?_)
    refine lv_astore (lv' := [(4, .ref v8), (1, .int a1), (2, .int a2), (3, .ref a3)]) hx hb dX1_firstShare_30 hl (Nat.le_of_ble_eq_true rfl) rfl (fun ls hl => ?_)
    refine lv_iload_n hx hb dX1_firstShare_32 rfl (lv_at hl 2 rfl) ?_
    refine lv_aload hx hb dX1_firstShare_33 (lv_at hl 0 rfl) ?_
    refine xr_gI h hX hI xl_X1_213_4.g dX1_firstShare_35 (fun v9 h => ?_)
    refine lv_if_eq (tgt := 45) hx hb dX1_firstShare_38 (by decide) (fun hc => ?_) (fun hc => ?_)
    · have h := xif_t h hc
      refine lv_iconst (v := (0 : Int32)) hx hb dX1_firstShare_45 (by decide) ?_
      exact w_X1_firstShare_b46 hX hrec12 h hI (lv_sub hl [1, 3, 0] rfl)
    · have h := xif_f h hc
      refine lv_iconst (v := (1 : Int32)) hx hb dX1_firstShare_41 (by decide) ?_
      refine lv_goto (tgt := 46) hx hb dX1_firstShare_42 (by decide) ?_
      exact w_X1_firstShare_b46 hX hrec12 h hI (lv_sub hl [1, 3, 0] rfl)
theorem w_X1_firstShare_L12 {r : UInt64} (hX : xX E R p m c cX1_firstShare 5 s args RX1 "firstShare" meth (some .double) 4 121 σ0 σ9) : ∀ (n : Nat) (a1 : Int32) (a2 : Int32) (a3 : Nat) (σ : xS) (H : Heap) (locs : List Loc) (cells slots : Nat) (ls : Array Slot), (f_X1_firstShare_L12 n a1 a2 a3).1 σ = some (r, σ9) → xI E σ0 σ s H locs cells slots → lv_has ls 5 [(1, .int a1), (2, .int a2), (3, .ref a3)] → W p l e R s m args below meth c H locs cells slots (xMQ E below args s σ0 σ9 (some (.double r))) (F0 m 12 ls []) := by
  intro n
  induction n with
  | zero =>
    intro a1 a2 a3 σ H locs cells slots ls h
    exact xr_no h
  | succ n ih =>
    intro a1 a2 a3 σ H locs cells slots ls h hI hl
    exact w_X1_firstShare_b12 hX ih h hI hl
theorem o_X1_firstShare {a0 : Nat} {r : UInt64} {σ σ9 : xS} (h : (f_X1_firstShare a0).1 σ = some (r, σ9)) : ∃ fs, σ.1 a0 = some (.inl (1, fs)) := xck_of h
theorem w_X1_firstShare {E : xE} {l : Launch} {a0 : Nat} {r : UInt64} {σ σ9 : xS} (h : (f_X1_firstShare a0).1 σ = some (r, σ9)) : xMet E l yX1_firstShare (ws_ yX1_firstShare cX1_firstShare 5 (some .double)) 4 121 [.ref a0] σ σ9 (some (.double r)) := by
  refine xstart (by decide +kernel) ((f_X1_firstShare a0).2 _ _ _ h) (Nat.le_of_ble_eq_true rfl) ?_
  intro p e s m args below meth c H locs cells slots ls R hX hI hl
  have hx := hX.1.1
  have hb := hX.1.2.1
  have hl : lv_has ls 5 [(0, .ref a0)] := hl
  generalize hσ0 : σ = σ0 at hX hI ⊢
  have h : (f_X1_firstShare a0).1 σ0 = some (r, σ9) := by rw [← hσ0]; exact h
  clear hσ0
  delta f_X1_firstShare at h
  have h := (xck_bd h).2
  refine lv_iconst (v := (0 : Int32)) hx hb dX1_firstShare_0 (by decide) ?_
  refine lv_istore_n (lv' := [(1, .int (0 : Int32)), (0, .ref a0)]) hx hb dX1_firstShare_1 rfl hl (Nat.le_of_ble_eq_true rfl) rfl (fun ls hl => ?_)
  refine lv_iconst (v := (0 : Int32)) hx hb dX1_firstShare_2 (by decide) ?_
  refine lv_istore_n (lv' := [(2, .int (0 : Int32)), (1, .int (0 : Int32)), (0, .ref a0)]) hx hb dX1_firstShare_3 rfl hl (Nat.le_of_ble_eq_true rfl) rfl (fun ls hl => ?_)
  refine lv_aload_n hx hb dX1_firstShare_4 rfl (lv_at hl 2 rfl) ?_
  refine xr_gN h hX hI xl_X1_21_1.g dX1_firstShare_5 (fun v11 h => ?_)
  refine xr_callV (iv := (fun b => some (.ref b))) (As := []) (rest := []) h hX hI (fun _ _ h => w_X2_iterator h) (fun _ _ h => o_X2_iterator h) rfl 0 (lw_V q1276 q1277 q1278 q76 q1279) ⟨rfl, xd_X2_iterator⟩ ⟨rfl, rfl⟩ rfl hl.1 (Nat.le_of_ble_eq_true rfl) dX1_firstShare_8 (fun v12 H locs σ cells slots h hI => ?_)
  refine W.eq (g2 := F0 m 11 ls [.ref v12]) rfl ?_
  refine lv_astore_n (lv' := [(3, .ref v12), (2, .int (0 : Int32)), (1, .int (0 : Int32)), (0, .ref a0)]) hx hb dX1_firstShare_11 rfl hl (Nat.le_of_ble_eq_true rfl) rfl (fun ls hl => ?_)
  exact w_X1_firstShare_L12 hX xFU (0 : Int32) (0 : Int32) v12 _ _ _ _ _ _ h hI (lv_sub hl [2, 1, 0] rfl)
/-! PayMatch$State.open(Z)D  -/
theorem w_X1_open_b125 {rec11 : Int32 → UInt64 → Nat → xM UInt64} {rec43 : Int32 → UInt64 → Nat → Nat → Nat → xM UInt64} {a1 : Int32} {a2 : UInt64} {a4 : Nat} {a5 : Nat} {a6 : Nat} {r : UInt64} (hX : xX E R p m c cX1_open 9 s args RX1 "open" meth (some .double) 4 121 σ0 σ9) (hrec11 : ∀ (a1 : Int32) (a2 : UInt64) (a4 : Nat) (σ : xS) (H : Heap) (locs : List Loc) (cells slots : Nat) (ls : Array Slot), (rec11 a1 a2 a4).1 σ = some (r, σ9) → xI E σ0 σ s H locs cells slots → lv_has ls 9 [(1, .int a1), (2, .double a2), (4, .ref a4)] → W p l e R s m args below meth c H locs cells slots (xMQ E below args s σ0 σ9 (some (.double r))) (F0 m 11 ls [])) (hrec43 : ∀ (a1 : Int32) (a2 : UInt64) (a4 : Nat) (a5 : Nat) (a6 : Nat) (σ : xS) (H : Heap) (locs : List Loc) (cells slots : Nat) (ls : Array Slot), (rec43 a1 a2 a4 a5 a6).1 σ = some (r, σ9) → xI E σ0 σ s H locs cells slots → lv_has ls 9 [(1, .int a1), (2, .double a2), (4, .ref a4), (5, .ref a5), (6, .ref a6)] → W p l e R s m args below meth c H locs cells slots (xMQ E below args s σ0 σ9 (some (.double r))) (F0 m 43 ls []))
    (h : (f_X1_open_b125 rec11 rec43 a1 a2 a4 a5 a6).1 σ = some (r, σ9)) (hI : xI E σ0 σ s H locs cells slots) (hl : lv_has ls 9 [(1, .int a1), (2, .double a2), (4, .ref a4), (5, .ref a5), (6, .ref a6)]) : W p l e R s m args below meth c H locs cells slots (xMQ E below args s σ0 σ9 (some (.double r))) (F0 m 125 ls []) := by
  have hx := hX.1.1
  have hb := hX.1.2.1
  delta f_X1_open_b125 at h
  refine lv_goto (tgt := 43) hx hb dX1_open_125 (by decide) ?_
  exact hrec43 a1 a2 a4 a5 a6 _ _ _ _ _ _ h hI (lv_sub hl [0, 1, 2, 3, 4] rfl)
theorem w_X1_open_b106 {rec11 : Int32 → UInt64 → Nat → xM UInt64} {rec43 : Int32 → UInt64 → Nat → Nat → Nat → xM UInt64} {t0 : Int32} {a1 : Int32} {a2 : UInt64} {a4 : Nat} {a5 : Nat} {a6 : Nat} {a7 : Nat} {r : UInt64} (hX : xX E R p m c cX1_open 9 s args RX1 "open" meth (some .double) 4 121 σ0 σ9) (hrec11 : ∀ (a1 : Int32) (a2 : UInt64) (a4 : Nat) (σ : xS) (H : Heap) (locs : List Loc) (cells slots : Nat) (ls : Array Slot), (rec11 a1 a2 a4).1 σ = some (r, σ9) → xI E σ0 σ s H locs cells slots → lv_has ls 9 [(1, .int a1), (2, .double a2), (4, .ref a4)] → W p l e R s m args below meth c H locs cells slots (xMQ E below args s σ0 σ9 (some (.double r))) (F0 m 11 ls [])) (hrec43 : ∀ (a1 : Int32) (a2 : UInt64) (a4 : Nat) (a5 : Nat) (a6 : Nat) (σ : xS) (H : Heap) (locs : List Loc) (cells slots : Nat) (ls : Array Slot), (rec43 a1 a2 a4 a5 a6).1 σ = some (r, σ9) → xI E σ0 σ s H locs cells slots → lv_has ls 9 [(1, .int a1), (2, .double a2), (4, .ref a4), (5, .ref a5), (6, .ref a6)] → W p l e R s m args below meth c H locs cells slots (xMQ E below args s σ0 σ9 (some (.double r))) (F0 m 43 ls []))
    (h : (f_X1_open_b106 rec11 rec43 t0 a1 a2 a4 a5 a6 a7).1 σ = some (r, σ9)) (hI : xI E σ0 σ s H locs cells slots) (hl : lv_has ls 9 [(1, .int a1), (2, .double a2), (4, .ref a4), (5, .ref a5), (6, .ref a6), (7, .ref a7)]) : W p l e R s m args below meth c H locs cells slots (xMQ E below args s σ0 σ9 (some (.double r))) (F0 m 106 ls [.int t0]) := by
  have hx := hX.1.1
  have hb := hX.1.2.1
  delta f_X1_open_b106 at h
  refine lv_istore (lv' := [(8, .int t0), (1, .int a1), (2, .double a2), (4, .ref a4), (5, .ref a5), (6, .ref a6), (7, .ref a7)]) hx hb dX1_open_106 hl (Nat.le_of_ble_eq_true rfl) rfl (fun ls hl => ?_)
  refine lv_iload hx hb dX1_open_108 (lv_at hl 0 rfl) ?_
  refine lv_if_le (tgt := 125) hx hb dX1_open_110 (by decide) (fun hc => ?_) (fun hc => ?_)
  · have h := xif_t h hc
    exact w_X1_open_b125 hX hrec11 hrec43 h hI (lv_sub hl [1, 2, 3, 4, 5] rfl)
  · have h := xif_f h hc
    refine lv_dload_n hx hb dX1_open_113 rfl (lv_at hl 2 rfl) ?_
    refine lv_iload hx hb dX1_open_114 (lv_at hl 0 rfl) ?_
    refine lv_aload hx hb dX1_open_116 (lv_at hl 6 rfl) ?_
    refine xr_gI h hX hI xl_X1_226_5.g dX1_open_118 (fun v26 h => ?_)
    refine lv_imul hx hb dX1_open_121 ?_
    refine lv_i2d hx hb dX1_open_122 ?_
    refine xr_dadd h hx hb dX1_open_123 (fun h => ?_)
    refine lv_dstore_n (lv' := [(2, .double (FP.dadd a2 (FP.i2d (t0 * v26)))), (8, .int t0), (1, .int a1), (4, .ref a4), (5, .ref a5), (6, .ref a6), (7, .ref a7)]) hx hb dX1_open_124 rfl hl (Nat.le_of_ble_eq_true rfl) rfl (fun ls hl => ?_)
    exact w_X1_open_b125 hX hrec11 hrec43 h hI (lv_sub hl [2, 0, 3, 4, 5] rfl)
theorem w_X1_open_b128 {rec11 : Int32 → UInt64 → Nat → xM UInt64} {a1 : Int32} {a2 : UInt64} {a4 : Nat} {r : UInt64} (hX : xX E R p m c cX1_open 9 s args RX1 "open" meth (some .double) 4 121 σ0 σ9) (hrec11 : ∀ (a1 : Int32) (a2 : UInt64) (a4 : Nat) (σ : xS) (H : Heap) (locs : List Loc) (cells slots : Nat) (ls : Array Slot), (rec11 a1 a2 a4).1 σ = some (r, σ9) → xI E σ0 σ s H locs cells slots → lv_has ls 9 [(1, .int a1), (2, .double a2), (4, .ref a4)] → W p l e R s m args below meth c H locs cells slots (xMQ E below args s σ0 σ9 (some (.double r))) (F0 m 11 ls []))
    (h : (f_X1_open_b128 rec11 a1 a2 a4).1 σ = some (r, σ9)) (hI : xI E σ0 σ s H locs cells slots) (hl : lv_has ls 9 [(1, .int a1), (2, .double a2), (4, .ref a4)]) : W p l e R s m args below meth c H locs cells slots (xMQ E below args s σ0 σ9 (some (.double r))) (F0 m 128 ls []) := by
  have hx := hX.1.1
  have hb := hX.1.2.1
  delta f_X1_open_b128 at h
  refine lv_goto (tgt := 11) hx hb dX1_open_128 (by decide) ?_
  exact hrec11 a1 a2 a4 _ _ _ _ _ _ h hI (lv_sub hl [0, 1, 2] rfl)
theorem w_X1_open_b43 {rec11 : Int32 → UInt64 → Nat → xM UInt64} {rec43 : Int32 → UInt64 → Nat → Nat → Nat → xM UInt64} {a1 : Int32} {a2 : UInt64} {a4 : Nat} {a5 : Nat} {a6 : Nat} {r : UInt64} (hX : xX E R p m c cX1_open 9 s args RX1 "open" meth (some .double) 4 121 σ0 σ9) (hrec11 : ∀ (a1 : Int32) (a2 : UInt64) (a4 : Nat) (σ : xS) (H : Heap) (locs : List Loc) (cells slots : Nat) (ls : Array Slot), (rec11 a1 a2 a4).1 σ = some (r, σ9) → xI E σ0 σ s H locs cells slots → lv_has ls 9 [(1, .int a1), (2, .double a2), (4, .ref a4)] → W p l e R s m args below meth c H locs cells slots (xMQ E below args s σ0 σ9 (some (.double r))) (F0 m 11 ls [])) (hrec43 : ∀ (a1 : Int32) (a2 : UInt64) (a4 : Nat) (a5 : Nat) (a6 : Nat) (σ : xS) (H : Heap) (locs : List Loc) (cells slots : Nat) (ls : Array Slot), (rec43 a1 a2 a4 a5 a6).1 σ = some (r, σ9) → xI E σ0 σ s H locs cells slots → lv_has ls 9 [(1, .int a1), (2, .double a2), (4, .ref a4), (5, .ref a5), (6, .ref a6)] → W p l e R s m args below meth c H locs cells slots (xMQ E below args s σ0 σ9 (some (.double r))) (F0 m 43 ls []))
    (h : (f_X1_open_b43 rec11 rec43 a1 a2 a4 a5 a6).1 σ = some (r, σ9)) (hI : xI E σ0 σ s H locs cells slots) (hl : lv_has ls 9 [(1, .int a1), (2, .double a2), (4, .ref a4), (5, .ref a5), (6, .ref a6)]) : W p l e R s m args below meth c H locs cells slots (xMQ E below args s σ0 σ9 (some (.double r))) (F0 m 43 ls []) := by
  have hx := hX.1.1
  have hb := hX.1.2.1
  delta f_X1_open_b43 at h
  refine lv_aload hx hb dX1_open_43 (lv_at hl 4 rfl) ?_
  refine xr_callF (iv := (fun b => some (.int b))) (As := []) (rest := []) h hX hI (fun _ _ h => w_J10_hasNext h) (fun _ _ h => o_J10_hasNext h) rfl 0 xfw_4 q1168 q460 q462 q89 q464 xdi_4 ⟨rfl, rfl⟩ rfl hl.1 (Nat.le_of_ble_eq_true rfl) dX1_open_45 (fun v19 H locs σ cells slots h hI => ?_)
  refine W.eq (g2 := F0 m 50 ls [.int v19]) rfl ?_
  refine lv_if_eq (tgt := 128) hx hb dX1_open_50 (by decide) (fun hc => ?_) (fun hc => ?_)
  · have h := xif_t h hc
    exact w_X1_open_b128 hX hrec11 h hI (lv_sub hl [0, 1, 2] rfl)
  · have h := xif_f h hc
    refine lv_aload hx hb dX1_open_53 (lv_at hl 4 rfl) ?_
    refine xr_callF (iv := (fun b => some (.ref b))) (As := []) (rest := []) h hX hI (fun _ _ h => w_J10_next h) (fun _ _ h => o_J10_next h) rfl 0 xfw_6 q1170 q828 q830 q89 q832 xdi_6 ⟨rfl, rfl⟩ rfl hl.1 (Nat.le_of_ble_eq_true rfl) dX1_open_55 (fun v20 H locs σ cells slots h hI => ?_)
    refine W.eq (g2 := F0 m 60 ls [.ref v20]) rfl ?_
    refine xr_cks h hX hI xc_X1_106 dX1_open_60 (fun h => ?_)
    refine lv_astore (lv' := [(7, .ref v20), (1, .int a1), (2, .double a2), (4, .ref a4), (5, .ref a5), (6, .ref a6)]) hx hb dX1_open_63 hl (Nat.le_of_ble_eq_true rfl) rfl (fun ls hl => ?_)
    refine lv_iload_n hx hb dX1_open_65 rfl (lv_at hl 1 rfl) ?_
    refine lv_if_eq (tgt := 83) hx hb dX1_open_66 (by decide) (fun hc => ?_) (fun hc => ?_)
    · have h := xif_t h hc
      refine lv_aload hx hb dX1_open_83 (lv_at hl 4 rfl) ?_
      refine xr_gI h hX hI xl_X1_189_6.g dX1_open_85 (fun v21 h => ?_)
      refine lv_if_ne (tgt := 105) hx hb dX1_open_88 (by decide) (fun hc => ?_) (fun hc => ?_)
      · have h := xif_f h hc
        refine lv_iconst (v := (0 : Int32)) hx hb dX1_open_105 (by decide) ?_
        exact w_X1_open_b106 hX hrec11 hrec43 h hI (lv_sub hl [1, 2, 3, 4, 5, 0] rfl)
      · have h := xif_t h hc
        refine lv_aload hx hb dX1_open_91 (lv_at hl 0 rfl) ?_
        refine xr_gI h hX hI xl_X1_267_5.g dX1_open_93 (fun v22 h => ?_)
        refine lv_aload hx hb dX1_open_96 (lv_at hl 0 rfl) ?_
        refine xr_gI h hX hI xl_X1_121_5.g dX1_open_98 (fun v23 h => ?_)
        refine lv_isub hx hb dX1_open_101 ?_
        refine lv_goto (tgt := 106) hx hb dX1_open_102 (by decide) ?_
        exact w_X1_open_b106 hX hrec11 hrec43 h hI (lv_sub hl [1, 2, 3, 4, 5, 0] rfl)
    · have h := xif_f h hc
      refine lv_aload hx hb dX1_open_69 (lv_at hl 0 rfl) ?_
      refine xr_gI h hX hI xl_X1_121_5.g dX1_open_71 (fun v24 h => ?_)
      refine lv_aload hx hb dX1_open_74 (lv_at hl 0 rfl) ?_
      refine xr_gI h hX hI xl_X1_148_5.g dX1_open_76 (fun v25 h => ?_)
      refine lv_isub hx hb dX1_open_79 ?_
      refine lv_goto (tgt := 106) hx hb dX1_open_80 (by decide) ?_
      exact w_X1_open_b106 hX hrec11 hrec43 h hI (lv_sub hl [1, 2, 3, 4, 5, 0] rfl)
theorem w_X1_open_L43 {rec11 : Int32 → UInt64 → Nat → xM UInt64} {r : UInt64} (hX : xX E R p m c cX1_open 9 s args RX1 "open" meth (some .double) 4 121 σ0 σ9) (hrec11 : ∀ (a1 : Int32) (a2 : UInt64) (a4 : Nat) (σ : xS) (H : Heap) (locs : List Loc) (cells slots : Nat) (ls : Array Slot), (rec11 a1 a2 a4).1 σ = some (r, σ9) → xI E σ0 σ s H locs cells slots → lv_has ls 9 [(1, .int a1), (2, .double a2), (4, .ref a4)] → W p l e R s m args below meth c H locs cells slots (xMQ E below args s σ0 σ9 (some (.double r))) (F0 m 11 ls [])) : ∀ (n : Nat) (a1 : Int32) (a2 : UInt64) (a4 : Nat) (a5 : Nat) (a6 : Nat) (σ : xS) (H : Heap) (locs : List Loc) (cells slots : Nat) (ls : Array Slot), (f_X1_open_L43 rec11 n a1 a2 a4 a5 a6).1 σ = some (r, σ9) → xI E σ0 σ s H locs cells slots → lv_has ls 9 [(1, .int a1), (2, .double a2), (4, .ref a4), (5, .ref a5), (6, .ref a6)] → W p l e R s m args below meth c H locs cells slots (xMQ E below args s σ0 σ9 (some (.double r))) (F0 m 43 ls []) := by
  intro n
  induction n with
  | zero =>
    intro a1 a2 a4 a5 a6 σ H locs cells slots ls h
    exact xr_no h
  | succ n ih =>
    intro a1 a2 a4 a5 a6 σ H locs cells slots ls h hI hl
    exact w_X1_open_b43 hX hrec11 ih h hI hl
theorem w_X1_open_b131 {a2 : UInt64} {r : UInt64} (hX : xX E R p m c cX1_open 9 s args RX1 "open" meth (some .double) 4 121 σ0 σ9)
    (h : (f_X1_open_b131 a2).1 σ = some (r, σ9)) (hI : xI E σ0 σ s H locs cells slots) (hl : lv_has ls 9 [(2, .double a2)]) : W p l e R s m args below meth c H locs cells slots (xMQ E below args s σ0 σ9 (some (.double r))) (F0 m 131 ls []) := by
  have hx := hX.1.1
  have hb := hX.1.2.1
  delta f_X1_open_b131 at h
  refine lv_dload_n hx hb dX1_open_131 rfl (lv_at hl 0 rfl) ?_
  exact xr_dreturn h hX hI dX1_open_132
theorem w_X1_open_b11 {rec11 : Int32 → UInt64 → Nat → xM UInt64} {a1 : Int32} {a2 : UInt64} {a4 : Nat} {r : UInt64} (hX : xX E R p m c cX1_open 9 s args RX1 "open" meth (some .double) 4 121 σ0 σ9) (hrec11 : ∀ (a1 : Int32) (a2 : UInt64) (a4 : Nat) (σ : xS) (H : Heap) (locs : List Loc) (cells slots : Nat) (ls : Array Slot), (rec11 a1 a2 a4).1 σ = some (r, σ9) → xI E σ0 σ s H locs cells slots → lv_has ls 9 [(1, .int a1), (2, .double a2), (4, .ref a4)] → W p l e R s m args below meth c H locs cells slots (xMQ E below args s σ0 σ9 (some (.double r))) (F0 m 11 ls []))
    (h : (f_X1_open_b11 rec11 a1 a2 a4).1 σ = some (r, σ9)) (hI : xI E σ0 σ s H locs cells slots) (hl : lv_has ls 9 [(1, .int a1), (2, .double a2), (4, .ref a4)]) : W p l e R s m args below meth c H locs cells slots (xMQ E below args s σ0 σ9 (some (.double r))) (F0 m 11 ls []) := by
  have hx := hX.1.1
  have hb := hX.1.2.1
  delta f_X1_open_b11 at h
  refine lv_aload hx hb dX1_open_11 (lv_at hl 2 rfl) ?_
  refine xr_callF (iv := (fun b => some (.int b))) (As := []) (rest := []) h hX hI (fun _ _ h => w_J10_hasNext h) (fun _ _ h => o_J10_hasNext h) rfl 0 xfw_4 q1168 q460 q462 q89 q464 xdi_4 ⟨rfl, rfl⟩ rfl hl.1 (Nat.le_of_ble_eq_true rfl) dX1_open_13 (fun v15 H locs σ cells slots h hI => ?_)
  refine W.eq (g2 := F0 m 18 ls [.int v15]) rfl ?_
  refine lv_if_eq (tgt := 131) hx hb dX1_open_18 (by decide) (fun hc => ?_) (fun hc => ?_)
  · have h := xif_t h hc
    exact w_X1_open_b131 hX h hI (lv_sub hl [1] rfl)
  · have h := xif_f h hc
    refine lv_aload hx hb dX1_open_21 (lv_at hl 2 rfl) ?_
    refine xr_callF (iv := (fun b => some (.ref b))) (As := []) (rest := []) h hX hI (fun _ _ h => w_J10_next h) (fun _ _ h => o_J10_next h) rfl 0 xfw_6 q1170 q828 q830 q89 q832 xdi_6 ⟨rfl, rfl⟩ rfl hl.1 (Nat.le_of_ble_eq_true rfl) dX1_open_23 (fun v16 H locs σ cells slots h hI => ?_)
    refine W.eq (g2 := F0 m 28 ls [.ref v16]) rfl ?_
    refine xr_cks h hX hI xc_X1_92 dX1_open_28 (fun h => ?_)
    refine lv_astore (lv' := [(5, .ref v16), (1, .int a1), (2, .double a2), (4, .ref a4)]) hx hb dX1_open_31 hl (Nat.le_of_ble_eq_true rfl) rfl (fun ls hl => ?_)
    refine lv_aload hx hb dX1_open_33 (lv_at hl 0 rfl) ?_
    refine xr_gN h hX hI xl_X1_103_6.g dX1_open_35 (fun v17 h => ?_)
    refine xr_callV (iv := (fun b => some (.ref b))) (As := []) (rest := []) h hX hI (fun _ _ h => w_X2_iterator h) (fun _ _ h => o_X2_iterator h) rfl 0 (lw_V q1276 q1277 q1278 q76 q1279) ⟨rfl, xd_X2_iterator⟩ ⟨rfl, rfl⟩ rfl hl.1 (Nat.le_of_ble_eq_true rfl) dX1_open_38 (fun v18 H locs σ cells slots h hI => ?_)
    refine W.eq (g2 := F0 m 41 ls [.ref v18]) rfl ?_
    refine lv_astore (lv' := [(6, .ref v18), (5, .ref v16), (1, .int a1), (2, .double a2), (4, .ref a4)]) hx hb dX1_open_41 hl (Nat.le_of_ble_eq_true rfl) rfl (fun ls hl => ?_)
    exact w_X1_open_L43 hX hrec11 xFU a1 a2 a4 v16 v18 _ _ _ _ _ _ h hI (lv_sub hl [2, 3, 4, 1, 0] rfl)
theorem w_X1_open_L11 {r : UInt64} (hX : xX E R p m c cX1_open 9 s args RX1 "open" meth (some .double) 4 121 σ0 σ9) : ∀ (n : Nat) (a1 : Int32) (a2 : UInt64) (a4 : Nat) (σ : xS) (H : Heap) (locs : List Loc) (cells slots : Nat) (ls : Array Slot), (f_X1_open_L11 n a1 a2 a4).1 σ = some (r, σ9) → xI E σ0 σ s H locs cells slots → lv_has ls 9 [(1, .int a1), (2, .double a2), (4, .ref a4)] → W p l e R s m args below meth c H locs cells slots (xMQ E below args s σ0 σ9 (some (.double r))) (F0 m 11 ls []) := by
  intro n
  induction n with
  | zero =>
    intro a1 a2 a4 σ H locs cells slots ls h
    exact xr_no h
  | succ n ih =>
    intro a1 a2 a4 σ H locs cells slots ls h hI hl
    exact w_X1_open_b11 hX ih h hI hl
theorem o_X1_open {a0 : Nat} {a1 : Int32} {r : UInt64} {σ σ9 : xS} (h : (f_X1_open a0 a1).1 σ = some (r, σ9)) : ∃ fs, σ.1 a0 = some (.inl (1, fs)) := xck_of h
theorem w_X1_open {E : xE} {l : Launch} {a0 : Nat} {a1 : Int32} {r : UInt64} {σ σ9 : xS} (h : (f_X1_open a0 a1).1 σ = some (r, σ9)) : xMet E l yX1_open (ws_ yX1_open cX1_open 9 (some .double)) 4 121 [.ref a0, .int a1] σ σ9 (some (.double r)) := by
  refine xstart (by decide +kernel) ((f_X1_open a0 a1).2 _ _ _ h) (Nat.le_of_ble_eq_true rfl) ?_
  intro p e s m args below meth c H locs cells slots ls R hX hI hl
  have hx := hX.1.1
  have hb := hX.1.2.1
  have hl : lv_has ls 9 [(0, .ref a0), (1, .int a1)] := hl
  generalize hσ0 : σ = σ0 at hX hI ⊢
  have h : (f_X1_open a0 a1).1 σ0 = some (r, σ9) := by rw [← hσ0]; exact h
  clear hσ0
  delta f_X1_open at h
  have h := (xck_bd h).2
  refine lv_dconst0 hx hb dX1_open_0 ?_
  refine lv_dstore_n (lv' := [(2, .double FP.dconst0), (0, .ref a0), (1, .int a1)]) hx hb dX1_open_1 rfl hl (Nat.le_of_ble_eq_true rfl) rfl (fun ls hl => ?_)
  refine lv_aload_n hx hb dX1_open_2 rfl (lv_at hl 1 rfl) ?_
  refine xr_gN h hX hI xl_X1_18_1.g dX1_open_3 (fun v27 h => ?_)
  refine xr_callV (iv := (fun b => some (.ref b))) (As := []) (rest := []) h hX hI (fun _ _ h => w_X2_iterator h) (fun _ _ h => o_X2_iterator h) rfl 0 (lw_V q1276 q1277 q1278 q76 q1279) ⟨rfl, xd_X2_iterator⟩ ⟨rfl, rfl⟩ rfl hl.1 (Nat.le_of_ble_eq_true rfl) dX1_open_6 (fun v28 H locs σ cells slots h hI => ?_)
  refine W.eq (g2 := F0 m 9 ls [.ref v28]) rfl ?_
  refine lv_astore (lv' := [(4, .ref v28), (2, .double FP.dconst0), (0, .ref a0), (1, .int a1)]) hx hb dX1_open_9 hl (Nat.le_of_ble_eq_true rfl) rfl (fun ls hl => ?_)
  exact w_X1_open_L11 hX xFU a1 FP.dconst0 v28 _ _ _ _ _ _ h hI (lv_sub hl [3, 1, 0] rfl)
/-! PayMatch.value(I)D  -/
theorem w_X0_value_b32 {a0 : Nat} {r : UInt64} (hX : xX E R p m c cX0_value 2 s args RX0 "value" meth (some .double) 5 149 σ0 σ9)
    (h : (f_X0_value_b32 a0).1 σ = some (r, σ9)) (hI : xI E σ0 σ s H locs cells slots) (hl : lv_has ls 2 [(0, .ref a0)]) : W p l e R s m args below meth c H locs cells slots (xMQ E below args s σ0 σ9 (some (.double r))) (F0 m 32 ls []) := by
  have hx := hX.1.1
  have hb := hX.1.2.1
  delta f_X0_value_b32 at h
  refine lv_aload_n hx hb dX0_value_32 rfl (lv_at hl 0 rfl) ?_
  refine xr_gN h hX hI xl_X0_22_0.g dX0_value_33 (fun v17 h => ?_)
  refine xr_gD h hX hI xl_X0_121_1.g dX0_value_36 (fun v18 h => ?_)
  refine lv_goto (tgt := 77) hx hb dX0_value_39 (by decide) ?_
  exact xr_dreturn h hX hI dX0_value_77
theorem w_X0_value_b42 {a0 : Nat} {r : UInt64} (hX : xX E R p m c cX0_value 2 s args RX0 "value" meth (some .double) 5 149 σ0 σ9)
    (h : (f_X0_value_b42 a0).1 σ = some (r, σ9)) (hI : xI E σ0 σ s H locs cells slots) (hl : lv_has ls 2 [(0, .ref a0)]) : W p l e R s m args below meth c H locs cells slots (xMQ E below args s σ0 σ9 (some (.double r))) (F0 m 42 ls []) := by
  have hx := hX.1.1
  have hb := hX.1.2.1
  delta f_X0_value_b42 at h
  refine lv_aload_n hx hb dX0_value_42 rfl (lv_at hl 0 rfl) ?_
  refine xr_gN h hX hI xl_X0_22_0.g dX0_value_43 (fun v15 h => ?_)
  refine lv_iconst (v := (1 : Int32)) hx hb dX0_value_46 (by decide) ?_
  refine xr_callV (iv := (fun b => some (.double b))) (As := [.int (1 : Int32)]) (rest := []) h hX hI (fun _ _ h => w_X1_open h) (fun _ _ h => o_X1_open h) rfl 1 (lw_V q1903 q1904 q1905 q75 q1906) ⟨rfl, xd_X1_open⟩ ⟨rfl, rfl⟩ rfl hl.1 (Nat.le_of_ble_eq_true rfl) dX0_value_47 (fun v16 H locs σ cells slots h hI => ?_)
  refine W.eq (g2 := F0 m 50 ls [.double v16]) rfl ?_
  refine lv_goto (tgt := 77) hx hb dX0_value_50 (by decide) ?_
  exact xr_dreturn h hX hI dX0_value_77
theorem w_X0_value_b53 {a0 : Nat} {r : UInt64} (hX : xX E R p m c cX0_value 2 s args RX0 "value" meth (some .double) 5 149 σ0 σ9)
    (h : (f_X0_value_b53 a0).1 σ = some (r, σ9)) (hI : xI E σ0 σ s H locs cells slots) (hl : lv_has ls 2 [(0, .ref a0)]) : W p l e R s m args below meth c H locs cells slots (xMQ E below args s σ0 σ9 (some (.double r))) (F0 m 53 ls []) := by
  have hx := hX.1.1
  have hb := hX.1.2.1
  delta f_X0_value_b53 at h
  refine lv_aload_n hx hb dX0_value_53 rfl (lv_at hl 0 rfl) ?_
  refine xr_gN h hX hI xl_X0_22_0.g dX0_value_54 (fun v13 h => ?_)
  refine lv_iconst (v := (0 : Int32)) hx hb dX0_value_57 (by decide) ?_
  refine xr_callV (iv := (fun b => some (.double b))) (As := [.int (0 : Int32)]) (rest := []) h hX hI (fun _ _ h => w_X1_open h) (fun _ _ h => o_X1_open h) rfl 1 (lw_V q1903 q1904 q1905 q75 q1906) ⟨rfl, xd_X1_open⟩ ⟨rfl, rfl⟩ rfl hl.1 (Nat.le_of_ble_eq_true rfl) dX0_value_58 (fun v14 H locs σ cells slots h hI => ?_)
  refine W.eq (g2 := F0 m 61 ls [.double v14]) rfl ?_
  refine lv_goto (tgt := 77) hx hb dX0_value_61 (by decide) ?_
  exact xr_dreturn h hX hI dX0_value_77
theorem w_X0_value_b64 {a0 : Nat} {r : UInt64} (hX : xX E R p m c cX0_value 2 s args RX0 "value" meth (some .double) 5 149 σ0 σ9)
    (h : (f_X0_value_b64 a0).1 σ = some (r, σ9)) (hI : xI E σ0 σ s H locs cells slots) (hl : lv_has ls 2 [(0, .ref a0)]) : W p l e R s m args below meth c H locs cells slots (xMQ E below args s σ0 σ9 (some (.double r))) (F0 m 64 ls []) := by
  have hx := hX.1.1
  have hb := hX.1.2.1
  delta f_X0_value_b64 at h
  refine lv_aload_n hx hb dX0_value_64 rfl (lv_at hl 0 rfl) ?_
  refine xr_gN h hX hI xl_X0_22_0.g dX0_value_65 (fun v11 h => ?_)
  refine xr_callV (iv := (fun b => some (.double b))) (As := []) (rest := []) h hX hI (fun _ _ h => w_X1_firstShare h) (fun _ _ h => o_X1_firstShare h) rfl 0 (lw_V q1907 q1908 q1909 q75 q1910) ⟨rfl, xd_X1_firstShare⟩ ⟨rfl, rfl⟩ rfl hl.1 (Nat.le_of_ble_eq_true rfl) dX0_value_68 (fun v12 H locs σ cells slots h hI => ?_)
  refine W.eq (g2 := F0 m 71 ls [.double v12]) rfl ?_
  refine lv_goto (tgt := 77) hx hb dX0_value_71 (by decide) ?_
  exact xr_dreturn h hX hI dX0_value_77
theorem w_X0_value_b74 {r : UInt64} (hX : xX E R p m c cX0_value 2 s args RX0 "value" meth (some .double) 5 149 σ0 σ9)
    (h : (f_X0_value_b74).1 σ = some (r, σ9)) (hI : xI E σ0 σ s H locs cells slots) (hl : lv_has ls 2 []) : W p l e R s m args below meth c H locs cells slots (xMQ E below args s σ0 σ9 (some (.double r))) (F0 m 74 ls []) := by
  have hx := hX.1.1
  have hb := hX.1.2.1
  delta f_X0_value_b74 at h
  refine xr_callS (iv := (fun b => some (.double b))) (As := []) (rest := []) h hX hI (fun _ _ h => w_X0_nothing h) 0 (lw_S q1245 q1246 q74 q1247) xd_X0_nothing ⟨rfl, rfl⟩ rfl hl.1 (Nat.le_of_ble_eq_true rfl) dX0_value_74 (fun v10 H locs σ cells slots h hI => ?_)
  refine W.eq (g2 := F0 m 77 ls [.double v10]) rfl ?_
  exact xr_dreturn h hX hI dX0_value_77
theorem o_X0_value {a0 : Nat} {a1 : Int32} {r : UInt64} {σ σ9 : xS} (h : (f_X0_value a0 a1).1 σ = some (r, σ9)) : ∃ fs, σ.1 a0 = some (.inl (0, fs)) := xck_of h
theorem w_X0_value {E : xE} {l : Launch} {a0 : Nat} {a1 : Int32} {r : UInt64} {σ σ9 : xS} (h : (f_X0_value a0 a1).1 σ = some (r, σ9)) : xMet E l yX0_value (ws_ yX0_value cX0_value 2 (some .double)) 5 149 [.ref a0, .int a1] σ σ9 (some (.double r)) := by
  refine xstart (by decide +kernel) ((f_X0_value a0 a1).2 _ _ _ h) (Nat.le_of_ble_eq_true rfl) ?_
  intro p e s m args below meth c H locs cells slots ls R hX hI hl
  have hx := hX.1.1
  have hb := hX.1.2.1
  have hl : lv_has ls 2 [(0, .ref a0), (1, .int a1)] := hl
  generalize hσ0 : σ = σ0 at hX hI ⊢
  have h : (f_X0_value a0 a1).1 σ0 = some (r, σ9) := by rw [← hσ0]; exact h
  clear hσ0
  delta f_X0_value at h
  have h := (xck_bd h).2
  refine lv_iload_n hx hb dX0_value_0 rfl (lv_at hl 1 rfl) ?_
  refine xif h (fun hc0 h => ?_) (fun hc0 h => ?_)
  · refine W.eq (g2 := F0 m 1 ls (.int (0 : Int32) :: [])) (by rw [hc0]) ?_
    refine lv_tableIn (tgt := 32) (off := 31) hx hb dX0_value_1 (by decide) (by decide) (by decide) (by decide) ?_
    exact w_X0_value_b32 hX h hI (lv_sub hl [0] rfl)
  · refine xif h (fun hc1 h => ?_) (fun hc1 h => ?_)
    · refine W.eq (g2 := F0 m 1 ls (.int (1 : Int32) :: [])) (by rw [hc1]) ?_
      refine lv_tableIn (tgt := 42) (off := 41) hx hb dX0_value_1 (by decide) (by decide) (by decide) (by decide) ?_
      exact w_X0_value_b42 hX h hI (lv_sub hl [0] rfl)
    · refine xif h (fun hc2 h => ?_) (fun hc2 h => ?_)
      · refine W.eq (g2 := F0 m 1 ls (.int (2 : Int32) :: [])) (by rw [hc2]) ?_
        refine lv_tableIn (tgt := 53) (off := 52) hx hb dX0_value_1 (by decide) (by decide) (by decide) (by decide) ?_
        exact w_X0_value_b53 hX h hI (lv_sub hl [0] rfl)
      · refine xif h (fun hc3 h => ?_) (fun hc3 h => ?_)
        · refine W.eq (g2 := F0 m 1 ls (.int (3 : Int32) :: [])) (by rw [hc3]) ?_
          refine lv_tableIn (tgt := 64) (off := 63) hx hb dX0_value_1 (by decide) (by decide) (by decide) (by decide) ?_
          exact w_X0_value_b64 hX h hI (lv_sub hl [0] rfl)
        · refine lv_tableOut (tgt := 74) hx hb dX0_value_1 (xtblo (L := [(0 : Int32), (1 : Int32), (2 : Int32), (3 : Int32)]) (by decide) (by decide) (List.forall_mem_cons.mpr ⟨hc0, (List.forall_mem_cons.mpr ⟨hc1, (List.forall_mem_cons.mpr ⟨hc2, (List.forall_mem_cons.mpr ⟨hc3, (fun _ h => absurd h List.not_mem_nil)⟩)⟩)⟩)⟩)) (by decide) ?_
          exact w_X0_value_b74 hX h hI (lv_sub hl [] rfl)
/-! PayMatchModel.worth(ZII)D  -/
theorem w_X3_worth_b100 {rec6 : Nat → Int32 → Int32 → Int32 → UInt64 → Int32 → xM UInt64} {rec19 : Nat → Int32 → Int32 → Int32 → UInt64 → Int32 → Int32 → xM UInt64} {a0 : Nat} {a1 : Int32} {a2 : Int32} {a3 : Int32} {a4 : UInt64} {a6 : Int32} {a7 : Int32} {r : UInt64} (hX : xX E R p m c cX3_worth 9 s args RX3 "worth" meth (some .double) 2 42 σ0 σ9) (hrec6 : ∀ (a0 : Nat) (a1 : Int32) (a2 : Int32) (a3 : Int32) (a4 : UInt64) (a6 : Int32) (σ : xS) (H : Heap) (locs : List Loc) (cells slots : Nat) (ls : Array Slot), (rec6 a0 a1 a2 a3 a4 a6).1 σ = some (r, σ9) → xI E σ0 σ s H locs cells slots → lv_has ls 9 [(0, .ref a0), (1, .int a1), (2, .int a2), (3, .int a3), (4, .double a4), (6, .int a6)] → W p l e R s m args below meth c H locs cells slots (xMQ E below args s σ0 σ9 (some (.double r))) (F0 m 6 ls [])) (hrec19 : ∀ (a0 : Nat) (a1 : Int32) (a2 : Int32) (a3 : Int32) (a4 : UInt64) (a6 : Int32) (a7 : Int32) (σ : xS) (H : Heap) (locs : List Loc) (cells slots : Nat) (ls : Array Slot), (rec19 a0 a1 a2 a3 a4 a6 a7).1 σ = some (r, σ9) → xI E σ0 σ s H locs cells slots → lv_has ls 9 [(0, .ref a0), (1, .int a1), (2, .int a2), (3, .int a3), (4, .double a4), (6, .int a6), (7, .int a7)] → W p l e R s m args below meth c H locs cells slots (xMQ E below args s σ0 σ9 (some (.double r))) (F0 m 19 ls []))
    (h : (f_X3_worth_b100 rec6 rec19 a0 a1 a2 a3 a4 a6 a7).1 σ = some (r, σ9)) (hI : xI E σ0 σ s H locs cells slots) (hl : lv_has ls 9 [(0, .ref a0), (1, .int a1), (2, .int a2), (3, .int a3), (4, .double a4), (6, .int a6), (7, .int a7)]) : W p l e R s m args below meth c H locs cells slots (xMQ E below args s σ0 σ9 (some (.double r))) (F0 m 100 ls []) := by
  have hx := hX.1.1
  have hb := hX.1.2.1
  delta f_X3_worth_b100 at h
  refine lv_iinc (k := 6) (lv' := [(7, .int (a7 + (1 : Int32))), (0, .ref a0), (1, .int a1), (2, .int a2), (3, .int a3), (4, .double a4), (6, .int a6)]) hx hb dX3_worth_100 hl rfl (xiinc (by decide)) (Nat.le_of_ble_eq_true rfl) rfl (fun ls hl => ?_)
  refine lv_goto (tgt := 19) hx hb dX3_worth_103 (by decide) ?_
  exact hrec19 a0 a1 a2 a3 a4 a6 (a7 + (1 : Int32)) _ _ _ _ _ _ h hI (lv_sub hl [1, 2, 3, 4, 5, 6, 0] rfl)
theorem w_X3_worth_b79 {rec6 : Nat → Int32 → Int32 → Int32 → UInt64 → Int32 → xM UInt64} {rec19 : Nat → Int32 → Int32 → Int32 → UInt64 → Int32 → Int32 → xM UInt64} {a0 : Nat} {a1 : Int32} {a2 : Int32} {a3 : Int32} {a4 : UInt64} {a6 : Int32} {a7 : Int32} {a8 : Int32} {r : UInt64} (hX : xX E R p m c cX3_worth 9 s args RX3 "worth" meth (some .double) 2 42 σ0 σ9) (hrec6 : ∀ (a0 : Nat) (a1 : Int32) (a2 : Int32) (a3 : Int32) (a4 : UInt64) (a6 : Int32) (σ : xS) (H : Heap) (locs : List Loc) (cells slots : Nat) (ls : Array Slot), (rec6 a0 a1 a2 a3 a4 a6).1 σ = some (r, σ9) → xI E σ0 σ s H locs cells slots → lv_has ls 9 [(0, .ref a0), (1, .int a1), (2, .int a2), (3, .int a3), (4, .double a4), (6, .int a6)] → W p l e R s m args below meth c H locs cells slots (xMQ E below args s σ0 σ9 (some (.double r))) (F0 m 6 ls [])) (hrec19 : ∀ (a0 : Nat) (a1 : Int32) (a2 : Int32) (a3 : Int32) (a4 : UInt64) (a6 : Int32) (a7 : Int32) (σ : xS) (H : Heap) (locs : List Loc) (cells slots : Nat) (ls : Array Slot), (rec19 a0 a1 a2 a3 a4 a6 a7).1 σ = some (r, σ9) → xI E σ0 σ s H locs cells slots → lv_has ls 9 [(0, .ref a0), (1, .int a1), (2, .int a2), (3, .int a3), (4, .double a4), (6, .int a6), (7, .int a7)] → W p l e R s m args below meth c H locs cells slots (xMQ E below args s σ0 σ9 (some (.double r))) (F0 m 19 ls []))
    (h : (f_X3_worth_b79 rec6 rec19 a0 a1 a2 a3 a4 a6 a7 a8).1 σ = some (r, σ9)) (hI : xI E σ0 σ s H locs cells slots) (hl : lv_has ls 9 [(0, .ref a0), (1, .int a1), (2, .int a2), (3, .int a3), (4, .double a4), (6, .int a6), (7, .int a7), (8, .int a8)]) : W p l e R s m args below meth c H locs cells slots (xMQ E below args s σ0 σ9 (some (.double r))) (F0 m 79 ls []) := by
  have hx := hX.1.1
  have hb := hX.1.2.1
  delta f_X3_worth_b79 at h
  refine lv_dload hx hb dX3_worth_79 (lv_at hl 4 rfl) ?_
  refine lv_iload hx hb dX3_worth_81 (lv_at hl 7 rfl) ?_
  refine lv_aload_n hx hb dX3_worth_83 rfl (lv_at hl 0 rfl) ?_
  refine lv_iload hx hb dX3_worth_84 (lv_at hl 5 rfl) ?_
  refine lv_iload hx hb dX3_worth_86 (lv_at hl 6 rfl) ?_
  refine lv_iconst (v := (2 : Int32)) hx hb dX3_worth_88 (by decide) ?_
  refine xr_callS (iv := (fun b => some (.int b))) (As := [.int a6, .int a7, .int (2 : Int32)]) (rest := [.ref a0, .int a8, .double a4]) h hX hI (fun _ _ h => w_X3_ofLine h) 3 (lw_S q2103 q2104 q87 q2105) xd_X3_ofLine ⟨rfl, rfl⟩ rfl hl.1 (Nat.le_of_ble_eq_true rfl) dX3_worth_89 (fun v19 H locs σ cells slots h hI => ?_)
  refine W.eq (g2 := F0 m 92 ls [.int v19, .ref a0, .int a8, .double a4]) rfl ?_
  refine xr_callV (iv := (fun b => some (.int b))) (As := [.int v19]) (rest := [.int a8, .double a4]) h hX hI (fun _ _ h => w_X3_at h) (fun _ _ h => o_X3_at h) rfl 1 (lw_V q2022 q2024 qs31 q87 q2025) ⟨rfl, xd_X3_at⟩ ⟨rfl, rfl⟩ rfl hl.1 (Nat.le_of_ble_eq_true rfl) dX3_worth_92 (fun v20 H locs σ cells slots h hI => ?_)
  refine W.eq (g2 := F0 m 95 ls [.int v20, .int a8, .double a4]) rfl ?_
  refine lv_imul hx hb dX3_worth_95 ?_
  refine lv_i2d hx hb dX3_worth_96 ?_
  refine xr_dadd h hx hb dX3_worth_97 (fun h => ?_)
  refine lv_dstore (lv' := [(4, .double (FP.dadd a4 (FP.i2d (a8 * v20)))), (0, .ref a0), (1, .int a1), (2, .int a2), (3, .int a3), (6, .int a6), (7, .int a7), (8, .int a8)]) hx hb dX3_worth_98 hl (Nat.le_of_ble_eq_true rfl) rfl (fun ls hl => ?_)
  exact w_X3_worth_b100 hX hrec6 hrec19 h hI (lv_sub hl [1, 2, 3, 4, 0, 5, 6] rfl)
theorem w_X3_worth_b106 {rec6 : Nat → Int32 → Int32 → Int32 → UInt64 → Int32 → xM UInt64} {a0 : Nat} {a1 : Int32} {a2 : Int32} {a3 : Int32} {a4 : UInt64} {a6 : Int32} {r : UInt64} (hX : xX E R p m c cX3_worth 9 s args RX3 "worth" meth (some .double) 2 42 σ0 σ9) (hrec6 : ∀ (a0 : Nat) (a1 : Int32) (a2 : Int32) (a3 : Int32) (a4 : UInt64) (a6 : Int32) (σ : xS) (H : Heap) (locs : List Loc) (cells slots : Nat) (ls : Array Slot), (rec6 a0 a1 a2 a3 a4 a6).1 σ = some (r, σ9) → xI E σ0 σ s H locs cells slots → lv_has ls 9 [(0, .ref a0), (1, .int a1), (2, .int a2), (3, .int a3), (4, .double a4), (6, .int a6)] → W p l e R s m args below meth c H locs cells slots (xMQ E below args s σ0 σ9 (some (.double r))) (F0 m 6 ls []))
    (h : (f_X3_worth_b106 rec6 a0 a1 a2 a3 a4 a6).1 σ = some (r, σ9)) (hI : xI E σ0 σ s H locs cells slots) (hl : lv_has ls 9 [(0, .ref a0), (1, .int a1), (2, .int a2), (3, .int a3), (4, .double a4), (6, .int a6)]) : W p l e R s m args below meth c H locs cells slots (xMQ E below args s σ0 σ9 (some (.double r))) (F0 m 106 ls []) := by
  have hx := hX.1.1
  have hb := hX.1.2.1
  delta f_X3_worth_b106 at h
  refine lv_iinc (k := 5) (lv' := [(6, .int (a6 + (1 : Int32))), (0, .ref a0), (1, .int a1), (2, .int a2), (3, .int a3), (4, .double a4)]) hx hb dX3_worth_106 hl rfl (xiinc (by decide)) (Nat.le_of_ble_eq_true rfl) rfl (fun ls hl => ?_)
  refine lv_goto (tgt := 6) hx hb dX3_worth_109 (by decide) ?_
  exact hrec6 a0 a1 a2 a3 a4 (a6 + (1 : Int32)) _ _ _ _ _ _ h hI (lv_sub hl [1, 2, 3, 4, 5, 0] rfl)
theorem w_X3_worth_b19 {rec6 : Nat → Int32 → Int32 → Int32 → UInt64 → Int32 → xM UInt64} {rec19 : Nat → Int32 → Int32 → Int32 → UInt64 → Int32 → Int32 → xM UInt64} {a0 : Nat} {a1 : Int32} {a2 : Int32} {a3 : Int32} {a4 : UInt64} {a6 : Int32} {a7 : Int32} {r : UInt64} (hX : xX E R p m c cX3_worth 9 s args RX3 "worth" meth (some .double) 2 42 σ0 σ9) (hrec6 : ∀ (a0 : Nat) (a1 : Int32) (a2 : Int32) (a3 : Int32) (a4 : UInt64) (a6 : Int32) (σ : xS) (H : Heap) (locs : List Loc) (cells slots : Nat) (ls : Array Slot), (rec6 a0 a1 a2 a3 a4 a6).1 σ = some (r, σ9) → xI E σ0 σ s H locs cells slots → lv_has ls 9 [(0, .ref a0), (1, .int a1), (2, .int a2), (3, .int a3), (4, .double a4), (6, .int a6)] → W p l e R s m args below meth c H locs cells slots (xMQ E below args s σ0 σ9 (some (.double r))) (F0 m 6 ls [])) (hrec19 : ∀ (a0 : Nat) (a1 : Int32) (a2 : Int32) (a3 : Int32) (a4 : UInt64) (a6 : Int32) (a7 : Int32) (σ : xS) (H : Heap) (locs : List Loc) (cells slots : Nat) (ls : Array Slot), (rec19 a0 a1 a2 a3 a4 a6 a7).1 σ = some (r, σ9) → xI E σ0 σ s H locs cells slots → lv_has ls 9 [(0, .ref a0), (1, .int a1), (2, .int a2), (3, .int a3), (4, .double a4), (6, .int a6), (7, .int a7)] → W p l e R s m args below meth c H locs cells slots (xMQ E below args s σ0 σ9 (some (.double r))) (F0 m 19 ls []))
    (h : (f_X3_worth_b19 rec6 rec19 a0 a1 a2 a3 a4 a6 a7).1 σ = some (r, σ9)) (hI : xI E σ0 σ s H locs cells slots) (hl : lv_has ls 9 [(0, .ref a0), (1, .int a1), (2, .int a2), (3, .int a3), (4, .double a4), (6, .int a6), (7, .int a7)]) : W p l e R s m args below meth c H locs cells slots (xMQ E below args s σ0 σ9 (some (.double r))) (F0 m 19 ls []) := by
  have hx := hX.1.1
  have hb := hX.1.2.1
  delta f_X3_worth_b19 at h
  refine lv_iload hx hb dX3_worth_19 (lv_at hl 6 rfl) ?_
  refine lv_aload_n hx hb dX3_worth_21 rfl (lv_at hl 0 rfl) ?_
  refine lv_iload hx hb dX3_worth_22 (lv_at hl 5 rfl) ?_
  refine lv_iconst (v := (1 : Int32)) hx hb dX3_worth_24 (by decide) ?_
  refine xr_callS (iv := (fun b => some (.int b))) (As := [.int a6, .int (1 : Int32)]) (rest := [.ref a0, .int a7]) h hX hI (fun _ _ h => w_X3_ofOrder h) 2 (lw_S q2075 q2076 q87 q2077) xd_X3_ofOrder ⟨rfl, rfl⟩ rfl hl.1 (Nat.le_of_ble_eq_true rfl) dX3_worth_25 (fun v12 H locs σ cells slots h hI => ?_)
  refine W.eq (g2 := F0 m 28 ls [.int v12, .ref a0, .int a7]) rfl ?_
  refine xr_callV (iv := (fun b => some (.int b))) (As := [.int v12]) (rest := [.int a7]) h hX hI (fun _ _ h => w_X3_at h) (fun _ _ h => o_X3_at h) rfl 1 (lw_V q2022 q2024 qs31 q87 q2025) ⟨rfl, xd_X3_at⟩ ⟨rfl, rfl⟩ rfl hl.1 (Nat.le_of_ble_eq_true rfl) dX3_worth_28 (fun v13 H locs σ cells slots h hI => ?_)
  refine W.eq (g2 := F0 m 31 ls [.int v13, .int a7]) rfl ?_
  refine lv_icmp_ge (tgt := 106) hx hb dX3_worth_31 (by decide) (fun hc => ?_) (fun hc => ?_)
  · have h := xif_t h hc
    exact w_X3_worth_b106 hX hrec6 h hI (lv_sub hl [0, 1, 2, 3, 4, 5] rfl)
  · have h := xif_f h hc
    refine lv_aload_n hx hb dX3_worth_34 rfl (lv_at hl 0 rfl) ?_
    refine lv_iload hx hb dX3_worth_35 (lv_at hl 5 rfl) ?_
    refine lv_iload hx hb dX3_worth_37 (lv_at hl 6 rfl) ?_
    refine lv_iload_n hx hb dX3_worth_39 rfl (lv_at hl 2 rfl) ?_
    refine xr_callS (iv := (fun b => some (.int b))) (As := [.int a6, .int a7, .int a2]) (rest := [.ref a0]) h hX hI (fun _ _ h => w_X3_ofLine h) 3 (lw_S q2103 q2104 q87 q2105) xd_X3_ofLine ⟨rfl, rfl⟩ rfl hl.1 (Nat.le_of_ble_eq_true rfl) dX3_worth_40 (fun v14 H locs σ cells slots h hI => ?_)
    refine W.eq (g2 := F0 m 43 ls [.int v14, .ref a0]) rfl ?_
    refine xr_callV (iv := (fun b => some (.int b))) (As := [.int v14]) (rest := []) h hX hI (fun _ _ h => w_X3_at h) (fun _ _ h => o_X3_at h) rfl 1 (lw_V q2022 q2024 qs31 q87 q2025) ⟨rfl, xd_X3_at⟩ ⟨rfl, rfl⟩ rfl hl.1 (Nat.le_of_ble_eq_true rfl) dX3_worth_43 (fun v15 H locs σ cells slots h hI => ?_)
    refine W.eq (g2 := F0 m 46 ls [.int v15]) rfl ?_
    refine lv_aload_n hx hb dX3_worth_46 rfl (lv_at hl 0 rfl) ?_
    refine lv_iload hx hb dX3_worth_47 (lv_at hl 5 rfl) ?_
    refine lv_iload hx hb dX3_worth_49 (lv_at hl 6 rfl) ?_
    refine lv_iload_n hx hb dX3_worth_51 rfl (lv_at hl 3 rfl) ?_
    refine xr_callS (iv := (fun b => some (.int b))) (As := [.int a6, .int a7, .int a3]) (rest := [.ref a0, .int v15]) h hX hI (fun _ _ h => w_X3_ofLine h) 3 (lw_S q2103 q2104 q87 q2105) xd_X3_ofLine ⟨rfl, rfl⟩ rfl hl.1 (Nat.le_of_ble_eq_true rfl) dX3_worth_52 (fun v16 H locs σ cells slots h hI => ?_)
    refine W.eq (g2 := F0 m 55 ls [.int v16, .ref a0, .int v15]) rfl ?_
    refine xr_callV (iv := (fun b => some (.int b))) (As := [.int v16]) (rest := [.int v15]) h hX hI (fun _ _ h => w_X3_at h) (fun _ _ h => o_X3_at h) rfl 1 (lw_V q2022 q2024 qs31 q87 q2025) ⟨rfl, xd_X3_at⟩ ⟨rfl, rfl⟩ rfl hl.1 (Nat.le_of_ble_eq_true rfl) dX3_worth_55 (fun v17 H locs σ cells slots h hI => ?_)
    refine W.eq (g2 := F0 m 58 ls [.int v17, .int v15]) rfl ?_
    refine lv_isub hx hb dX3_worth_58 ?_
    refine lv_istore (lv' := [(8, .int (v15 - v17)), (0, .ref a0), (1, .int a1), (2, .int a2), (3, .int a3), (4, .double a4), (6, .int a6), (7, .int a7)]) hx hb dX3_worth_59 hl (Nat.le_of_ble_eq_true rfl) rfl (fun ls hl => ?_)
    refine lv_iload hx hb dX3_worth_61 (lv_at hl 0 rfl) ?_
    refine lv_if_le (tgt := 100) hx hb dX3_worth_63 (by decide) (fun hc => ?_) (fun hc => ?_)
    · have h := xif_t h hc
      exact w_X3_worth_b100 hX hrec6 hrec19 h hI (lv_sub hl [1, 2, 3, 4, 5, 6, 7] rfl)
    · have h := xif_f h hc
      refine lv_iload_n hx hb dX3_worth_66 rfl (lv_at hl 2 rfl) ?_
      refine lv_if_eq (tgt := 79) hx hb dX3_worth_67 (by decide) (fun hc => ?_) (fun hc => ?_)
      · have h := xif_t h hc
        exact w_X3_worth_b79 hX hrec6 hrec19 h hI (lv_sub hl [1, 2, 3, 4, 5, 6, 7, 0] rfl)
      · have h := xif_f h hc
        refine lv_aload_n hx hb dX3_worth_70 rfl (lv_at hl 1 rfl) ?_
        refine lv_iload hx hb dX3_worth_71 (lv_at hl 6 rfl) ?_
        refine xr_callV (iv := (fun b => some (.int b))) (As := [.int a6]) (rest := []) h hX hI (fun _ _ h => w_X3_isOpen h) (fun _ _ h => o_X3_isOpen h) rfl 1 (lw_V q2099 q2101 qs38 q87 q2102) ⟨rfl, xd_X3_isOpen⟩ ⟨rfl, rfl⟩ rfl hl.1 (Nat.le_of_ble_eq_true rfl) dX3_worth_73 (fun v18 H locs σ cells slots h hI => ?_)
        refine W.eq (g2 := F0 m 76 ls [.int v18]) rfl ?_
        refine lv_if_eq (tgt := 100) hx hb dX3_worth_76 (by decide) (fun hc => ?_) (fun hc => ?_)
        · have h := xif_t h hc
          exact w_X3_worth_b100 hX hrec6 hrec19 h hI (lv_sub hl [1, 2, 3, 4, 5, 6, 7] rfl)
        · have h := xif_f h hc
          exact w_X3_worth_b79 hX hrec6 hrec19 h hI (lv_sub hl [1, 2, 3, 4, 5, 6, 7, 0] rfl)
theorem w_X3_worth_L19 {rec6 : Nat → Int32 → Int32 → Int32 → UInt64 → Int32 → xM UInt64} {r : UInt64} (hX : xX E R p m c cX3_worth 9 s args RX3 "worth" meth (some .double) 2 42 σ0 σ9) (hrec6 : ∀ (a0 : Nat) (a1 : Int32) (a2 : Int32) (a3 : Int32) (a4 : UInt64) (a6 : Int32) (σ : xS) (H : Heap) (locs : List Loc) (cells slots : Nat) (ls : Array Slot), (rec6 a0 a1 a2 a3 a4 a6).1 σ = some (r, σ9) → xI E σ0 σ s H locs cells slots → lv_has ls 9 [(0, .ref a0), (1, .int a1), (2, .int a2), (3, .int a3), (4, .double a4), (6, .int a6)] → W p l e R s m args below meth c H locs cells slots (xMQ E below args s σ0 σ9 (some (.double r))) (F0 m 6 ls [])) : ∀ (n : Nat) (a0 : Nat) (a1 : Int32) (a2 : Int32) (a3 : Int32) (a4 : UInt64) (a6 : Int32) (a7 : Int32) (σ : xS) (H : Heap) (locs : List Loc) (cells slots : Nat) (ls : Array Slot), (f_X3_worth_L19 rec6 n a0 a1 a2 a3 a4 a6 a7).1 σ = some (r, σ9) → xI E σ0 σ s H locs cells slots → lv_has ls 9 [(0, .ref a0), (1, .int a1), (2, .int a2), (3, .int a3), (4, .double a4), (6, .int a6), (7, .int a7)] → W p l e R s m args below meth c H locs cells slots (xMQ E below args s σ0 σ9 (some (.double r))) (F0 m 19 ls []) := by
  intro n
  induction n with
  | zero =>
    intro a0 a1 a2 a3 a4 a6 a7 σ H locs cells slots ls h
    exact xr_no h
  | succ n ih =>
    intro a0 a1 a2 a3 a4 a6 a7 σ H locs cells slots ls h hI hl
    exact w_X3_worth_b19 hX hrec6 ih h hI hl
theorem w_X3_worth_b112 {a4 : UInt64} {r : UInt64} (hX : xX E R p m c cX3_worth 9 s args RX3 "worth" meth (some .double) 2 42 σ0 σ9)
    (h : (f_X3_worth_b112 a4).1 σ = some (r, σ9)) (hI : xI E σ0 σ s H locs cells slots) (hl : lv_has ls 9 [(4, .double a4)]) : W p l e R s m args below meth c H locs cells slots (xMQ E below args s σ0 σ9 (some (.double r))) (F0 m 112 ls []) := by
  have hx := hX.1.1
  have hb := hX.1.2.1
  delta f_X3_worth_b112 at h
  refine lv_dload hx hb dX3_worth_112 (lv_at hl 0 rfl) ?_
  exact xr_dreturn h hX hI dX3_worth_114
theorem w_X3_worth_b6 {rec6 : Nat → Int32 → Int32 → Int32 → UInt64 → Int32 → xM UInt64} {a0 : Nat} {a1 : Int32} {a2 : Int32} {a3 : Int32} {a4 : UInt64} {a6 : Int32} {r : UInt64} (hX : xX E R p m c cX3_worth 9 s args RX3 "worth" meth (some .double) 2 42 σ0 σ9) (hrec6 : ∀ (a0 : Nat) (a1 : Int32) (a2 : Int32) (a3 : Int32) (a4 : UInt64) (a6 : Int32) (σ : xS) (H : Heap) (locs : List Loc) (cells slots : Nat) (ls : Array Slot), (rec6 a0 a1 a2 a3 a4 a6).1 σ = some (r, σ9) → xI E σ0 σ s H locs cells slots → lv_has ls 9 [(0, .ref a0), (1, .int a1), (2, .int a2), (3, .int a3), (4, .double a4), (6, .int a6)] → W p l e R s m args below meth c H locs cells slots (xMQ E below args s σ0 σ9 (some (.double r))) (F0 m 6 ls []))
    (h : (f_X3_worth_b6 rec6 a0 a1 a2 a3 a4 a6).1 σ = some (r, σ9)) (hI : xI E σ0 σ s H locs cells slots) (hl : lv_has ls 9 [(0, .ref a0), (1, .int a1), (2, .int a2), (3, .int a3), (4, .double a4), (6, .int a6)]) : W p l e R s m args below meth c H locs cells slots (xMQ E below args s σ0 σ9 (some (.double r))) (F0 m 6 ls []) := by
  have hx := hX.1.1
  have hb := hX.1.2.1
  delta f_X3_worth_b6 at h
  refine lv_iload hx hb dX3_worth_6 (lv_at hl 5 rfl) ?_
  refine lv_aload_n hx hb dX3_worth_8 rfl (lv_at hl 0 rfl) ?_
  refine lv_iconst (v := (2 : Int32)) hx hb dX3_worth_9 (by decide) ?_
  refine xr_callV (iv := (fun b => some (.int b))) (As := [.int (2 : Int32)]) (rest := [.int a6]) h hX hI (fun _ _ h => w_X3_at h) (fun _ _ h => o_X3_at h) rfl 1 (lw_V q2022 q2024 qs31 q87 q2025) ⟨rfl, xd_X3_at⟩ ⟨rfl, rfl⟩ rfl hl.1 (Nat.le_of_ble_eq_true rfl) dX3_worth_10 (fun v11 H locs σ cells slots h hI => ?_)
  refine W.eq (g2 := F0 m 13 ls [.int v11, .int a6]) rfl ?_
  refine lv_icmp_ge (tgt := 112) hx hb dX3_worth_13 (by decide) (fun hc => ?_) (fun hc => ?_)
  · have h := xif_t h hc
    exact w_X3_worth_b112 hX h hI (lv_sub hl [4] rfl)
  · have h := xif_f h hc
    refine lv_iconst (v := (0 : Int32)) hx hb dX3_worth_16 (by decide) ?_
    refine lv_istore (lv' := [(7, .int (0 : Int32)), (0, .ref a0), (1, .int a1), (2, .int a2), (3, .int a3), (4, .double a4), (6, .int a6)]) hx hb dX3_worth_17 hl (Nat.le_of_ble_eq_true rfl) rfl (fun ls hl => ?_)
    exact w_X3_worth_L19 hX hrec6 xFU a0 a1 a2 a3 a4 a6 (0 : Int32) _ _ _ _ _ _ h hI (lv_sub hl [1, 2, 3, 4, 5, 6, 0] rfl)
theorem w_X3_worth_L6 {r : UInt64} (hX : xX E R p m c cX3_worth 9 s args RX3 "worth" meth (some .double) 2 42 σ0 σ9) : ∀ (n : Nat) (a0 : Nat) (a1 : Int32) (a2 : Int32) (a3 : Int32) (a4 : UInt64) (a6 : Int32) (σ : xS) (H : Heap) (locs : List Loc) (cells slots : Nat) (ls : Array Slot), (f_X3_worth_L6 n a0 a1 a2 a3 a4 a6).1 σ = some (r, σ9) → xI E σ0 σ s H locs cells slots → lv_has ls 9 [(0, .ref a0), (1, .int a1), (2, .int a2), (3, .int a3), (4, .double a4), (6, .int a6)] → W p l e R s m args below meth c H locs cells slots (xMQ E below args s σ0 σ9 (some (.double r))) (F0 m 6 ls []) := by
  intro n
  induction n with
  | zero =>
    intro a0 a1 a2 a3 a4 a6 σ H locs cells slots ls h
    exact xr_no h
  | succ n ih =>
    intro a0 a1 a2 a3 a4 a6 σ H locs cells slots ls h hI hl
    exact w_X3_worth_b6 hX ih h hI hl
theorem o_X3_worth {a0 : Nat} {a1 : Int32} {a2 : Int32} {a3 : Int32} {r : UInt64} {σ σ9 : xS} (h : (f_X3_worth a0 a1 a2 a3).1 σ = some (r, σ9)) : ∃ fs, σ.1 a0 = some (.inl (3, fs)) := xck_of h
theorem w_X3_worth {E : xE} {l : Launch} {a0 : Nat} {a1 : Int32} {a2 : Int32} {a3 : Int32} {r : UInt64} {σ σ9 : xS} (h : (f_X3_worth a0 a1 a2 a3).1 σ = some (r, σ9)) : xMet E l yX3_worth (ws_ yX3_worth cX3_worth 9 (some .double)) 2 42 [.ref a0, .int a1, .int a2, .int a3] σ σ9 (some (.double r)) := by
  refine xstart (by decide +kernel) ((f_X3_worth a0 a1 a2 a3).2 _ _ _ h) (Nat.le_of_ble_eq_true rfl) ?_
  intro p e s m args below meth c H locs cells slots ls R hX hI hl
  have hx := hX.1.1
  have hb := hX.1.2.1
  have hl : lv_has ls 9 [(0, .ref a0), (1, .int a1), (2, .int a2), (3, .int a3)] := hl
  generalize hσ0 : σ = σ0 at hX hI ⊢
  have h : (f_X3_worth a0 a1 a2 a3).1 σ0 = some (r, σ9) := by rw [← hσ0]; exact h
  clear hσ0
  delta f_X3_worth at h
  have h := (xck_bd h).2
  refine lv_dconst0 hx hb dX3_worth_0 ?_
  refine lv_dstore (lv' := [(4, .double FP.dconst0), (0, .ref a0), (1, .int a1), (2, .int a2), (3, .int a3)]) hx hb dX3_worth_1 hl (Nat.le_of_ble_eq_true rfl) rfl (fun ls hl => ?_)
  refine lv_iconst (v := (0 : Int32)) hx hb dX3_worth_3 (by decide) ?_
  refine lv_istore (lv' := [(6, .int (0 : Int32)), (4, .double FP.dconst0), (0, .ref a0), (1, .int a1), (2, .int a2), (3, .int a3)]) hx hb dX3_worth_4 hl (Nat.le_of_ble_eq_true rfl) rfl (fun ls hl => ?_)
  exact w_X3_worth_L6 hX xFU a0 a1 a2 a3 FP.dconst0 (0 : Int32) _ _ _ _ _ _ h hI (lv_sub hl [2, 3, 4, 5, 1, 0] rfl)
/-! PayMatchModel.value(I)D  -/
theorem w_X3_value_b36 {a0 : Nat} {r : UInt64} (hX : xX E R p m c cX3_value 2 s args RX3 "value" meth (some .double) 3 81 σ0 σ9)
    (h : (f_X3_value_b36 a0).1 σ = some (r, σ9)) (hI : xI E σ0 σ s H locs cells slots) (hl : lv_has ls 2 [(0, .ref a0)]) : W p l e R s m args below meth c H locs cells slots (xMQ E below args s σ0 σ9 (some (.double r))) (F0 m 36 ls []) := by
  have hx := hX.1.1
  have hb := hX.1.2.1
  delta f_X3_value_b36 at h
  refine lv_aload_n hx hb dX3_value_36 rfl (lv_at hl 0 rfl) ?_
  refine lv_iconst (v := (4 : Int32)) hx hb dX3_value_37 (by decide) ?_
  refine xr_callV (iv := (fun b => some (.double b))) (As := [.int (4 : Int32)]) (rest := []) h hX hI (fun _ _ h => w_X3_real h) (fun _ _ h => o_X3_real h) rfl 1 (lw_V q2135 q2137 qs42 q87 q2138) ⟨rfl, xd_X3_real⟩ ⟨rfl, rfl⟩ rfl hl.1 (Nat.le_of_ble_eq_true rfl) dX3_value_38 (fun v12 H locs σ cells slots h hI => ?_)
  refine W.eq (g2 := F0 m 41 ls [.double v12]) rfl ?_
  exact xr_dreturn h hX hI dX3_value_41
theorem w_X3_value_b42 {a0 : Nat} {r : UInt64} (hX : xX E R p m c cX3_value 2 s args RX3 "value" meth (some .double) 3 81 σ0 σ9)
    (h : (f_X3_value_b42 a0).1 σ = some (r, σ9)) (hI : xI E σ0 σ s H locs cells slots) (hl : lv_has ls 2 [(0, .ref a0)]) : W p l e R s m args below meth c H locs cells slots (xMQ E below args s σ0 σ9 (some (.double r))) (F0 m 42 ls []) := by
  have hx := hX.1.1
  have hb := hX.1.2.1
  delta f_X3_value_b42 at h
  refine lv_aload_n hx hb dX3_value_42 rfl (lv_at hl 0 rfl) ?_
  refine lv_iconst (v := (0 : Int32)) hx hb dX3_value_43 (by decide) ?_
  refine lv_iconst (v := (3 : Int32)) hx hb dX3_value_44 (by decide) ?_
  refine lv_iconst (v := (5 : Int32)) hx hb dX3_value_45 (by decide) ?_
  refine xr_callV (iv := (fun b => some (.double b))) (As := [.int (0 : Int32), .int (3 : Int32), .int (5 : Int32)]) (rest := []) h hX hI (fun _ _ h => w_X3_worth h) (fun _ _ h => o_X3_worth h) rfl 3 (lw_V q2343 q2345 qs70 q87 q2346) ⟨rfl, xd_X3_worth⟩ ⟨rfl, rfl⟩ rfl hl.1 (Nat.le_of_ble_eq_true rfl) dX3_value_46 (fun v11 H locs σ cells slots h hI => ?_)
  refine W.eq (g2 := F0 m 49 ls [.double v11]) rfl ?_
  exact xr_dreturn h hX hI dX3_value_49
theorem w_X3_value_b50 {a0 : Nat} {r : UInt64} (hX : xX E R p m c cX3_value 2 s args RX3 "value" meth (some .double) 3 81 σ0 σ9)
    (h : (f_X3_value_b50 a0).1 σ = some (r, σ9)) (hI : xI E σ0 σ s H locs cells slots) (hl : lv_has ls 2 [(0, .ref a0)]) : W p l e R s m args below meth c H locs cells slots (xMQ E below args s σ0 σ9 (some (.double r))) (F0 m 50 ls []) := by
  have hx := hX.1.1
  have hb := hX.1.2.1
  delta f_X3_value_b50 at h
  refine lv_aload_n hx hb dX3_value_50 rfl (lv_at hl 0 rfl) ?_
  refine lv_iconst (v := (1 : Int32)) hx hb dX3_value_51 (by decide) ?_
  refine lv_iconst (v := (1 : Int32)) hx hb dX3_value_52 (by decide) ?_
  refine lv_iconst (v := (3 : Int32)) hx hb dX3_value_53 (by decide) ?_
  refine xr_callV (iv := (fun b => some (.double b))) (As := [.int (1 : Int32), .int (1 : Int32), .int (3 : Int32)]) (rest := []) h hX hI (fun _ _ h => w_X3_worth h) (fun _ _ h => o_X3_worth h) rfl 3 (lw_V q2343 q2345 qs70 q87 q2346) ⟨rfl, xd_X3_worth⟩ ⟨rfl, rfl⟩ rfl hl.1 (Nat.le_of_ble_eq_true rfl) dX3_value_54 (fun v10 H locs σ cells slots h hI => ?_)
  refine W.eq (g2 := F0 m 57 ls [.double v10]) rfl ?_
  exact xr_dreturn h hX hI dX3_value_57
theorem w_X3_value_b58 {a0 : Nat} {r : UInt64} (hX : xX E R p m c cX3_value 2 s args RX3 "value" meth (some .double) 3 81 σ0 σ9)
    (h : (f_X3_value_b58 a0).1 σ = some (r, σ9)) (hI : xI E σ0 σ s H locs cells slots) (hl : lv_has ls 2 [(0, .ref a0)]) : W p l e R s m args below meth c H locs cells slots (xMQ E below args s σ0 σ9 (some (.double r))) (F0 m 58 ls []) := by
  have hx := hX.1.1
  have hb := hX.1.2.1
  delta f_X3_value_b58 at h
  refine lv_aload_n hx hb dX3_value_58 rfl (lv_at hl 0 rfl) ?_
  refine lv_bipush (v := (8 : Int32)) hx hb dX3_value_59 (by decide) ?_
  refine xr_callV (iv := (fun b => some (.int b))) (As := [.int (8 : Int32)]) (rest := []) h hX hI (fun _ _ h => w_X3_at h) (fun _ _ h => o_X3_at h) rfl 1 (lw_V q2022 q2024 qs31 q87 q2025) ⟨rfl, xd_X3_at⟩ ⟨rfl, rfl⟩ rfl hl.1 (Nat.le_of_ble_eq_true rfl) dX3_value_61 (fun v7 H locs σ cells slots h hI => ?_)
  refine W.eq (g2 := F0 m 64 ls [.int v7]) rfl ?_
  refine lv_if_ne (tgt := 71) hx hb dX3_value_64 (by decide) (fun hc => ?_) (fun hc => ?_)
  · have h := xif_f h hc
    refine lv_aload_n hx hb dX3_value_71 rfl (lv_at hl 0 rfl) ?_
    refine lv_bipush (v := (7 : Int32)) hx hb dX3_value_72 (by decide) ?_
    refine xr_callV (iv := (fun b => some (.int b))) (As := [.int (7 : Int32)]) (rest := []) h hX hI (fun _ _ h => w_X3_at h) (fun _ _ h => o_X3_at h) rfl 1 (lw_V q2022 q2024 qs31 q87 q2025) ⟨rfl, xd_X3_at⟩ ⟨rfl, rfl⟩ rfl hl.1 (Nat.le_of_ble_eq_true rfl) dX3_value_74 (fun v8 H locs σ cells slots h hI => ?_)
    refine W.eq (g2 := F0 m 77 ls [.int v8]) rfl ?_
    refine lv_i2d hx hb dX3_value_77 ?_
    refine lv_aload_n hx hb dX3_value_78 rfl (lv_at hl 0 rfl) ?_
    refine lv_bipush (v := (8 : Int32)) hx hb dX3_value_79 (by decide) ?_
    refine xr_callV (iv := (fun b => some (.int b))) (As := [.int (8 : Int32)]) (rest := [.double (FP.i2d v8)]) h hX hI (fun _ _ h => w_X3_at h) (fun _ _ h => o_X3_at h) rfl 1 (lw_V q2022 q2024 qs31 q87 q2025) ⟨rfl, xd_X3_at⟩ ⟨rfl, rfl⟩ rfl hl.1 (Nat.le_of_ble_eq_true rfl) dX3_value_81 (fun v9 H locs σ cells slots h hI => ?_)
    refine W.eq (g2 := F0 m 84 ls [.int v9, .double (FP.i2d v8)]) rfl ?_
    refine lv_i2d hx hb dX3_value_84 ?_
    refine xr_ddiv h hx hb dX3_value_85 (fun h => ?_)
    exact xr_dreturn h hX hI dX3_value_86
  · have h := xif_t h hc
    refine lv_dconst0 hx hb dX3_value_67 ?_
    refine lv_goto (tgt := 86) hx hb dX3_value_68 (by decide) ?_
    exact xr_dreturn h hX hI dX3_value_86
theorem w_X3_value_b87 {r : UInt64} (hX : xX E R p m c cX3_value 2 s args RX3 "value" meth (some .double) 3 81 σ0 σ9)
    (h : (f_X3_value_b87).1 σ = some (r, σ9)) (hI : xI E σ0 σ s H locs cells slots) (hl : lv_has ls 2 []) : W p l e R s m args below meth c H locs cells slots (xMQ E below args s σ0 σ9 (some (.double r))) (F0 m 87 ls []) := by
  have hx := hX.1.1
  have hb := hX.1.2.1
  delta f_X3_value_b87 at h
  refine lv_ldc2d (v := (9221120237041090560 : UInt64)) hx hb hX.1.2.2.2.1 (hX.1.2.2.2.2 _ q2307) dX3_value_87 ?_
  exact xr_dreturn h hX hI dX3_value_90
theorem o_X3_value {a0 : Nat} {a1 : Int32} {r : UInt64} {σ σ9 : xS} (h : (f_X3_value a0 a1).1 σ = some (r, σ9)) : ∃ fs, σ.1 a0 = some (.inl (3, fs)) := xck_of h
theorem w_X3_value {E : xE} {l : Launch} {a0 : Nat} {a1 : Int32} {r : UInt64} {σ σ9 : xS} (h : (f_X3_value a0 a1).1 σ = some (r, σ9)) : xMet E l yX3_value (ws_ yX3_value cX3_value 2 (some .double)) 3 81 [.ref a0, .int a1] σ σ9 (some (.double r)) := by
  refine xstart (by decide +kernel) ((f_X3_value a0 a1).2 _ _ _ h) (Nat.le_of_ble_eq_true rfl) ?_
  intro p e s m args below meth c H locs cells slots ls R hX hI hl
  have hx := hX.1.1
  have hb := hX.1.2.1
  have hl : lv_has ls 2 [(0, .ref a0), (1, .int a1)] := hl
  generalize hσ0 : σ = σ0 at hX hI ⊢
  have h : (f_X3_value a0 a1).1 σ0 = some (r, σ9) := by rw [← hσ0]; exact h
  clear hσ0
  delta f_X3_value at h
  have h := (xck_bd h).2
  refine lv_aload_n hx hb dX3_value_0 rfl (lv_at hl 0 rfl) ?_
  refine lv_iconst (v := (0 : Int32)) hx hb dX3_value_1 (by decide) ?_
  refine xr_pt h hX hI xl_X3_1_3 (Or.inl rfl) rfl rfl dX3_value_2 (fun H locs σ h hI => ?_)
  refine lv_iload_n hx hb dX3_value_5 rfl (lv_at hl 1 rfl) ?_
  refine xif h (fun hc0 h => ?_) (fun hc0 h => ?_)
  · refine W.eq (g2 := F0 m 6 ls (.int (0 : Int32) :: [])) (by rw [hc0]) ?_
    refine lv_tableIn (tgt := 36) (off := 30) hx hb dX3_value_6 (by decide) (by decide) (by decide) (by decide) ?_
    exact w_X3_value_b36 hX h hI (lv_sub hl [0] rfl)
  · refine xif h (fun hc1 h => ?_) (fun hc1 h => ?_)
    · refine W.eq (g2 := F0 m 6 ls (.int (1 : Int32) :: [])) (by rw [hc1]) ?_
      refine lv_tableIn (tgt := 42) (off := 36) hx hb dX3_value_6 (by decide) (by decide) (by decide) (by decide) ?_
      exact w_X3_value_b42 hX h hI (lv_sub hl [0] rfl)
    · refine xif h (fun hc2 h => ?_) (fun hc2 h => ?_)
      · refine W.eq (g2 := F0 m 6 ls (.int (2 : Int32) :: [])) (by rw [hc2]) ?_
        refine lv_tableIn (tgt := 50) (off := 44) hx hb dX3_value_6 (by decide) (by decide) (by decide) (by decide) ?_
        exact w_X3_value_b50 hX h hI (lv_sub hl [0] rfl)
      · refine xif h (fun hc3 h => ?_) (fun hc3 h => ?_)
        · refine W.eq (g2 := F0 m 6 ls (.int (3 : Int32) :: [])) (by rw [hc3]) ?_
          refine lv_tableIn (tgt := 58) (off := 52) hx hb dX3_value_6 (by decide) (by decide) (by decide) (by decide) ?_
          exact w_X3_value_b58 hX h hI (lv_sub hl [0] rfl)
        · refine lv_tableOut (tgt := 87) hx hb dX3_value_6 (xtblo (L := [(0 : Int32), (1 : Int32), (2 : Int32), (3 : Int32)]) (by decide) (by decide) (List.forall_mem_cons.mpr ⟨hc0, (List.forall_mem_cons.mpr ⟨hc1, (List.forall_mem_cons.mpr ⟨hc2, (List.forall_mem_cons.mpr ⟨hc3, (fun _ h => absurd h List.not_mem_nil)⟩)⟩)⟩)⟩)) (by decide) ?_
          exact w_X3_value_b87 hX h hI (lv_sub hl [] rfl)
end
