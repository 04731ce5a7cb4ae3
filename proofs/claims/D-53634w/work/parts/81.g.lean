/-! walks, printed by gen.py -/
set_option maxRecDepth 100000
section
variable {E : xE} {p : Program} {l : Launch} {e : Env} {R : Room} {s : State} {m : MethodId} {args : Array Value} {below : List Frame} {meth : Method} {c : Code} {H : Heap} {locs : List Loc} {cells slots : Nat} {ls : Array Slot} {σ0 σ σ9 : xS}
/-! PayMatch.takes(IZI)I  -/
theorem w_X0_takes_b98 {t0 : Nat} {t1 : Int32} {t2 : Nat} {r : Int32} (hX : xX E R p m c cX0_takes 6 s args RX0 "takes" meth (some .int) 7 10250 σ0 σ9) (hE : c.exceptionTable.toList = tableOf [((66 : Nat), (100 : Nat), (101 : Nat), (397 : Nat))]) (hl0 : l.stackTraces = false)
    (h : (f_X0_takes_b98 t0 t1 t2).1 σ = some (r, σ9)) (hI : xI E σ0 σ s H locs cells slots) (hl : lv_has ls 6 []) : W p l e R s m args below meth c H locs cells slots (xMQ E below args s σ0 σ9 (some (.int r))) (F0 m 98 ls [.ref t2, .int t1, .ref t0]) := by
  have hx := hX.1.1
  have hb := hX.1.2.1
  delta f_X0_takes_b98 at h
  refine xr_ak (rest := []) hl0 h hX hI hE rfl (by decide) rfl q1915 hl.1 ⟨rfl, rfl⟩ (Nat.le_of_ble_eq_true rfl) dX0_takes_98 (fun h => ?_) (fun h => ?_) (fun q H σ cells slots h hI => ?_)
  · refine xr_stR h hX hI (by decide) dX0_takes_98 (fun H locs σ h hI => ?_)
    refine lv_iconst (v := (1 : Int32)) hx hb dX0_takes_99 (by decide) ?_
    exact xr_ireturn h hX hI dX0_takes_100
  · refine xr_stR h hX hI (by decide) dX0_takes_98 (fun H locs σ h hI => ?_)
    refine lv_iconst (v := (1 : Int32)) hx hb dX0_takes_99 (by decide) ?_
    exact xr_ireturn h hX hI dX0_takes_100
  · refine lv_astore (lv' := [(5, .ref q)]) hx hb dX0_takes_101 hl (Nat.le_of_ble_eq_true rfl) rfl (fun ls hl => ?_)
    refine lv_iconst (v := (0 : Int32)) hx hb dX0_takes_103 (by decide) ?_
    exact xr_ireturn h hX hI dX0_takes_104
theorem w_X0_takes_b64 {t0 : Nat} {a0 : Nat} {a2 : Int32} {a3 : Int32} {r : Int32} (hX : xX E R p m c cX0_takes 6 s args RX0 "takes" meth (some .int) 7 10250 σ0 σ9) (hE : c.exceptionTable.toList = tableOf [((66 : Nat), (100 : Nat), (101 : Nat), (397 : Nat))]) (hl0 : l.stackTraces = false)
    (h : (f_X0_takes_b64 t0 a0 a2 a3).1 σ = some (r, σ9)) (hI : xI E σ0 σ s H locs cells slots) (hl : lv_has ls 6 [(0, .ref a0), (2, .int a2), (3, .int a3)]) : W p l e R s m args below meth c H locs cells slots (xMQ E below args s σ0 σ9 (some (.int r))) (F0 m 64 ls [.ref t0]) := by
  have hx := hX.1.1
  have hb := hX.1.2.1
  delta f_X0_takes_b64 at h
  refine lv_astore (lv' := [(4, .ref t0), (0, .ref a0), (2, .int a2), (3, .int a3)]) hx hb dX0_takes_64 hl (Nat.le_of_ble_eq_true rfl) rfl (fun ls hl => ?_)
  refine lv_aload hx hb dX0_takes_66 (lv_at hl 0 rfl) ?_
  refine lv_iconst (v := (0 : Int32)) hx hb dX0_takes_68 (by decide) ?_
  refine lv_iload_n hx hb dX0_takes_69 rfl (lv_at hl 2 rfl) ?_
  refine lv_if_eq (tgt := 87) hx hb dX0_takes_70 (by decide) (fun hc => ?_) (fun hc => ?_)
  · have h := xif_t h hc
    refine lv_aload_n hx hb dX0_takes_87 rfl (lv_at hl 1 rfl) ?_
    refine xr_gN h hX hI xl_X0_22_0.g dX0_takes_88 (fun v19 h => ?_)
    refine xr_gN h hX hI xl_X0_130_1.g dX0_takes_91 (fun v20 h => ?_)
    refine lv_iload_n hx hb dX0_takes_94 rfl (lv_at hl 3 rfl) ?_
    refine xr_callV (iv := (fun b => some (.ref b))) (As := [.int a3]) (rest := [.int (0 : Int32), .ref t0]) h hX hI (fun _ _ h => w_X2_get h) (fun _ _ h => o_X2_get h) rfl 1 (lw_V q1249 q1250 q1251 q76 q1252) ⟨rfl, xd_X2_get⟩ ⟨rfl, rfl⟩ rfl hl.1 (Nat.le_of_ble_eq_true rfl) dX0_takes_95 (fun v21 H locs σ cells slots h hI => ?_)
    refine W.eq (g2 := F0 m 98 ls [.ref v21, .int (0 : Int32), .ref t0]) rfl ?_
    exact w_X0_takes_b98 hX hE hl0 h hI (lv_sub hl [] rfl)
  · have h := xif_f h hc
    refine lv_aload_n hx hb dX0_takes_73 rfl (lv_at hl 1 rfl) ?_
    refine xr_gN h hX hI xl_X0_22_0.g dX0_takes_74 (fun v22 h => ?_)
    refine xr_gN h hX hI xl_X0_211_1.g dX0_takes_77 (fun v23 h => ?_)
    refine lv_iload_n hx hb dX0_takes_80 rfl (lv_at hl 3 rfl) ?_
    refine xr_callV (iv := (fun b => some (.ref b))) (As := [.int a3]) (rest := [.int (0 : Int32), .ref t0]) h hX hI (fun _ _ h => w_X2_get h) (fun _ _ h => o_X2_get h) rfl 1 (lw_V q1249 q1250 q1251 q76 q1252) ⟨rfl, xd_X2_get⟩ ⟨rfl, rfl⟩ rfl hl.1 (Nat.le_of_ble_eq_true rfl) dX0_takes_81 (fun v24 H locs σ cells slots h hI => ?_)
    refine W.eq (g2 := F0 m 84 ls [.ref v24, .int (0 : Int32), .ref t0]) rfl ?_
    refine lv_goto (tgt := 98) hx hb dX0_takes_84 (by decide) ?_
    exact w_X0_takes_b98 hX hE hl0 h hI (lv_sub hl [] rfl)
theorem w_X0_takes_b37 {a0 : Nat} {a1 : Int32} {a2 : Int32} {a3 : Int32} {r : Int32} (hX : xX E R p m c cX0_takes 6 s args RX0 "takes" meth (some .int) 7 10250 σ0 σ9) (hE : c.exceptionTable.toList = tableOf [((66 : Nat), (100 : Nat), (101 : Nat), (397 : Nat))]) (hl0 : l.stackTraces = false)
    (h : (f_X0_takes_b37 a0 a1 a2 a3).1 σ = some (r, σ9)) (hI : xI E σ0 σ s H locs cells slots) (hl : lv_has ls 6 [(0, .ref a0), (1, .int a1), (2, .int a2), (3, .int a3)]) : W p l e R s m args below meth c H locs cells slots (xMQ E below args s σ0 σ9 (some (.int r))) (F0 m 37 ls []) := by
  have hx := hX.1.1
  have hb := hX.1.2.1
  delta f_X0_takes_b37 at h
  refine lv_iload_n hx hb dX0_takes_37 rfl (lv_at hl 1 rfl) ?_
  refine lv_iconst (v := (0 : Int32)) hx hb dX0_takes_38 (by decide) ?_
  refine lv_iconst (v := (1 : Int32)) hx hb dX0_takes_39 (by decide) ?_
  refine xr_callS (iv := (fun b => some (.int b))) (As := [.int a1, .int (0 : Int32), .int (1 : Int32)]) (rest := []) h hX hI (fun _ _ h => w_X0_inRange h) 3 (lw_S q1267 q1230 q74 q1231) xd_X0_inRange ⟨rfl, rfl⟩ rfl hl.1 (Nat.le_of_ble_eq_true rfl) dX0_takes_40 (fun v16 H locs σ cells slots h hI => ?_)
  refine W.eq (g2 := F0 m 43 ls [.int v16]) rfl ?_
  refine lv_if_ne (tgt := 49) hx hb dX0_takes_43 (by decide) (fun hc => ?_) (fun hc => ?_)
  · have h := xif_f h hc
    refine lv_iload_n hx hb dX0_takes_49 rfl (lv_at hl 1 rfl) ?_
    refine lv_if_ne (tgt := 60) hx hb dX0_takes_50 (by decide) (fun hc => ?_) (fun hc => ?_)
    · have h := xif_f h hc
      refine lv_iconst (v := (1 : Int32)) hx hb dX0_takes_60 (by decide) ?_
      refine xr_nq h hX hI q1698 (by decide) dX0_takes_61 (fun v17 H σ cells slots h hI => ?_)
      exact w_X0_takes_b64 hX hE hl0 h hI (lv_sub hl [0, 2, 3] rfl)
    · have h := xif_t h hc
      refine lv_iconst (v := (1 : Int32)) hx hb dX0_takes_53 (by decide) ?_
      refine xr_nq h hX hI q1296 (by decide) dX0_takes_54 (fun v18 H σ cells slots h hI => ?_)
      refine lv_goto (tgt := 64) hx hb dX0_takes_57 (by decide) ?_
      exact w_X0_takes_b64 hX hE hl0 h hI (lv_sub hl [0, 2, 3] rfl)
  · have h := xif_t h hc
    refine lv_bipush (v := (-2 : Int32)) hx hb dX0_takes_46 (by decide) ?_
    exact xr_ireturn h hX hI dX0_takes_48
theorem o_X0_takes {a0 : Nat} {a1 : Int32} {a2 : Int32} {a3 : Int32} {r : Int32} {σ σ9 : xS} (h : (f_X0_takes a0 a1 a2 a3).1 σ = some (r, σ9)) : ∃ fs, σ.1 a0 = some (.inl (0, fs)) := xck_of h
theorem w_X0_takes {E : xE} {l : Launch} {a0 : Nat} {a1 : Int32} {a2 : Int32} {a3 : Int32} {r : Int32} {σ σ9 : xS} (hl0 : l.stackTraces = false) (h : (f_X0_takes a0 a1 a2 a3).1 σ = some (r, σ9)) : xMet E l yX0_takes (wsW_ yX0_takes cX0_takes 6 (some .int) [((66 : Nat), (100 : Nat), (101 : Nat), (397 : Nat))]) 7 10250 [.ref a0, .int a1, .int a2, .int a3] σ σ9 (some (.int r)) := by
  refine xstartH (by decide +kernel) ((f_X0_takes a0 a1 a2 a3).2 _ _ _ h) (Nat.le_of_ble_eq_true rfl) ?_
  intro p e s m args below meth c H locs cells slots ls R hX hE hI hl
  have hx := hX.1.1
  have hb := hX.1.2.1
  have hl : lv_has ls 6 [(0, .ref a0), (1, .int a1), (2, .int a2), (3, .int a3)] := hl
  generalize hσ0 : σ = σ0 at hX hI ⊢
  have h : (f_X0_takes a0 a1 a2 a3).1 σ0 = some (r, σ9) := by rw [← hσ0]; exact h
  clear hσ0
  delta f_X0_takes at h
  have h := (xck_bd h).2
  refine lv_iload_n hx hb dX0_takes_0 rfl (lv_at hl 2 rfl) ?_
  refine lv_if_eq (tgt := 21) hx hb dX0_takes_1 (by decide) (fun hc => ?_) (fun hc => ?_)
  · have h := xif_t h hc
    refine lv_aload_n hx hb dX0_takes_21 rfl (lv_at hl 0 rfl) ?_
    refine xr_gN h hX hI xl_X0_22_0.g dX0_takes_22 (fun v25 h => ?_)
    refine xr_gN h hX hI xl_X0_130_1.g dX0_takes_25 (fun v26 h => ?_)
    refine lv_iload_n hx hb dX0_takes_28 rfl (lv_at hl 3 rfl) ?_
    refine xr_callV (iv := (fun b => some (.int b))) (As := [.int a3]) (rest := []) h hX hI (fun _ _ h => w_X2_has h) (fun _ _ h => o_X2_has h) rfl 1 (lw_V q1225 q1226 q1227 q76 q1228) ⟨rfl, xd_X2_has⟩ ⟨rfl, rfl⟩ rfl hl.1 (Nat.le_of_ble_eq_true rfl) dX0_takes_29 (fun v27 H locs σ cells slots h hI => ?_)
    refine W.eq (g2 := F0 m 32 ls [.int v27]) rfl ?_
    refine lv_if_ne (tgt := 37) hx hb dX0_takes_32 (by decide) (fun hc => ?_) (fun hc => ?_)
    · have h := xif_f h hc
      exact w_X0_takes_b37 hX hE hl0 h hI (lv_sub hl [0, 1, 2, 3] rfl)
    · have h := xif_t h hc
      refine lv_iconst (v := (-1 : Int32)) hx hb dX0_takes_35 (by decide) ?_
      exact xr_ireturn h hX hI dX0_takes_36
  · have h := xif_f h hc
    refine lv_aload_n hx hb dX0_takes_4 rfl (lv_at hl 0 rfl) ?_
    refine xr_gN h hX hI xl_X0_22_0.g dX0_takes_5 (fun v28 h => ?_)
    refine xr_gN h hX hI xl_X0_211_1.g dX0_takes_8 (fun v29 h => ?_)
    refine lv_iload_n hx hb dX0_takes_11 rfl (lv_at hl 3 rfl) ?_
    refine xr_callV (iv := (fun b => some (.int b))) (As := [.int a3]) (rest := []) h hX hI (fun _ _ h => w_X2_has h) (fun _ _ h => o_X2_has h) rfl 1 (lw_V q1225 q1226 q1227 q76 q1228) ⟨rfl, xd_X2_has⟩ ⟨rfl, rfl⟩ rfl hl.1 (Nat.le_of_ble_eq_true rfl) dX0_takes_12 (fun v30 H locs σ cells slots h hI => ?_)
    refine W.eq (g2 := F0 m 15 ls [.int v30]) rfl ?_
    refine lv_if_ne (tgt := 37) hx hb dX0_takes_15 (by decide) (fun hc => ?_) (fun hc => ?_)
    · have h := xif_f h hc
      exact w_X0_takes_b37 hX hE hl0 h hI (lv_sub hl [0, 1, 2, 3] rfl)
    · have h := xif_t h hc
      refine lv_goto (tgt := 35) hx hb dX0_takes_18 (by decide) ?_
      refine lv_iconst (v := (-1 : Int32)) hx hb dX0_takes_35 (by decide) ?_
      exact xr_ireturn h hX hI dX0_takes_36
/-! PayMatchModel.takes(IZI)I  -/
theorem w_X3_takes_b54 {t0 : Int32} {a2 : Int32} {r : Int32} (hX : xX E R p m c cX3_takes 4 s args RX3 "takes" meth (some .int) 2 43 σ0 σ9)
    (h : (f_X3_takes_b54 t0 a2).1 σ = some (r, σ9)) (hI : xI E σ0 σ s H locs cells slots) (hl : lv_has ls 4 [(2, .int a2)]) : W p l e R s m args below meth c H locs cells slots (xMQ E below args s σ0 σ9 (some (.int r))) (F0 m 54 ls [.int t0]) := by
  have hx := hX.1.1
  have hb := hX.1.2.1
  delta f_X3_takes_b54 at h
  refine lv_iload_n hx hb dX3_takes_54 rfl (lv_at hl 0 rfl) ?_
  refine lv_icmp_ne (tgt := 62) hx hb dX3_takes_55 (by decide) (fun hc => ?_) (fun hc => ?_)
  · have h := xif_f h hc
    refine lv_iconst (v := (0 : Int32)) hx hb dX3_takes_62 (by decide) ?_
    exact xr_ireturn h hX hI dX3_takes_63
  · have h := xif_t h hc
    refine lv_iconst (v := (1 : Int32)) hx hb dX3_takes_58 (by decide) ?_
    refine lv_goto (tgt := 63) hx hb dX3_takes_59 (by decide) ?_
    exact xr_ireturn h hX hI dX3_takes_63
theorem w_X3_takes_b30 {a1 : Int32} {a2 : Int32} {r : Int32} (hX : xX E R p m c cX3_takes 4 s args RX3 "takes" meth (some .int) 2 43 σ0 σ9)
    (h : (f_X3_takes_b30 a1 a2).1 σ = some (r, σ9)) (hI : xI E σ0 σ s H locs cells slots) (hl : lv_has ls 4 [(1, .int a1), (2, .int a2)]) : W p l e R s m args below meth c H locs cells slots (xMQ E below args s σ0 σ9 (some (.int r))) (F0 m 30 ls []) := by
  have hx := hX.1.1
  have hb := hX.1.2.1
  delta f_X3_takes_b30 at h
  refine lv_iload_n hx hb dX3_takes_30 rfl (lv_at hl 0 rfl) ?_
  refine lv_iconst (v := (0 : Int32)) hx hb dX3_takes_31 (by decide) ?_
  refine lv_iconst (v := (1 : Int32)) hx hb dX3_takes_32 (by decide) ?_
  refine xr_callS (iv := (fun b => some (.int b))) (As := [.int a1, .int (0 : Int32), .int (1 : Int32)]) (rest := []) h hX hI (fun _ _ h => w_X3_in h) 3 (lw_S q2043 q2044 q87 q2045) xd_X3_in ⟨rfl, rfl⟩ rfl hl.1 (Nat.le_of_ble_eq_true rfl) dX3_takes_33 (fun v4 H locs σ cells slots h hI => ?_)
  refine W.eq (g2 := F0 m 36 ls [.int v4]) rfl ?_
  refine lv_if_ne (tgt := 44) hx hb dX3_takes_36 (by decide) (fun hc => ?_) (fun hc => ?_)
  · have h := xif_f h hc
    refine lv_iload_n hx hb dX3_takes_44 rfl (lv_at hl 0 rfl) ?_
    refine lv_iconst (v := (1 : Int32)) hx hb dX3_takes_45 (by decide) ?_
    refine lv_icmp_ne (tgt := 53) hx hb dX3_takes_46 (by decide) (fun hc => ?_) (fun hc => ?_)
    · have h := xif_f h hc
      refine lv_iconst (v := (0 : Int32)) hx hb dX3_takes_53 (by decide) ?_
      exact w_X3_takes_b54 hX h hI (lv_sub hl [1] rfl)
    · have h := xif_t h hc
      refine lv_iconst (v := (1 : Int32)) hx hb dX3_takes_49 (by decide) ?_
      refine lv_goto (tgt := 54) hx hb dX3_takes_50 (by decide) ?_
      exact w_X3_takes_b54 hX h hI (lv_sub hl [1] rfl)
  · have h := xif_t h hc
    refine lv_bipush (v := (-2 : Int32)) hx hb dX3_takes_39 (by decide) ?_
    refine lv_goto (tgt := 63) hx hb dX3_takes_41 (by decide) ?_
    exact xr_ireturn h hX hI dX3_takes_63
theorem o_X3_takes {a0 : Nat} {a1 : Int32} {a2 : Int32} {a3 : Int32} {r : Int32} {σ σ9 : xS} (h : (f_X3_takes a0 a1 a2 a3).1 σ = some (r, σ9)) : ∃ fs, σ.1 a0 = some (.inl (3, fs)) := xck_of h
theorem w_X3_takes {E : xE} {l : Launch} {a0 : Nat} {a1 : Int32} {a2 : Int32} {a3 : Int32} {r : Int32} {σ σ9 : xS} (h : (f_X3_takes a0 a1 a2 a3).1 σ = some (r, σ9)) : xMet E l yX3_takes (ws_ yX3_takes cX3_takes 4 (some .int)) 2 43 [.ref a0, .int a1, .int a2, .int a3] σ σ9 (some (.int r)) := by
  refine xstart (by decide +kernel) ((f_X3_takes a0 a1 a2 a3).2 _ _ _ h) (Nat.le_of_ble_eq_true rfl) ?_
  intro p e s m args below meth c H locs cells slots ls R hX hI hl
  have hx := hX.1.1
  have hb := hX.1.2.1
  have hl : lv_has ls 4 [(0, .ref a0), (1, .int a1), (2, .int a2), (3, .int a3)] := hl
  generalize hσ0 : σ = σ0 at hX hI ⊢
  have h : (f_X3_takes a0 a1 a2 a3).1 σ0 = some (r, σ9) := by rw [← hσ0]; exact h
  clear hσ0
  delta f_X3_takes at h
  have h := (xck_bd h).2
  refine lv_aload_n hx hb dX3_takes_0 rfl (lv_at hl 0 rfl) ?_
  refine lv_iconst (v := (0 : Int32)) hx hb dX3_takes_1 (by decide) ?_
  refine xr_pt h hX hI xl_X3_1_3 (Or.inl rfl) rfl rfl dX3_takes_2 (fun H locs σ h hI => ?_)
  refine lv_iload_n hx hb dX3_takes_5 rfl (lv_at hl 2 rfl) ?_
  refine lv_if_eq (tgt := 20) hx hb dX3_takes_6 (by decide) (fun hc => ?_) (fun hc => ?_)
  · have h := xif_t h hc
    refine lv_aload_n hx hb dX3_takes_20 rfl (lv_at hl 0 rfl) ?_
    refine lv_iload_n hx hb dX3_takes_21 rfl (lv_at hl 3 rfl) ?_
    refine xr_callV (iv := (fun b => some (.int b))) (As := [.int a3]) (rest := []) h hX hI (fun _ _ h => w_X3_isOrder h) (fun _ _ h => o_X3_isOrder h) rfl 1 (lw_V q2095 q2097 qs37 q87 q2098) ⟨rfl, xd_X3_isOrder⟩ ⟨rfl, rfl⟩ rfl hl.1 (Nat.le_of_ble_eq_true rfl) dX3_takes_22 (fun v5 H locs σ cells slots h hI => ?_)
    refine W.eq (g2 := F0 m 25 ls [.int v5]) rfl ?_
    refine lv_if_ne (tgt := 30) hx hb dX3_takes_25 (by decide) (fun hc => ?_) (fun hc => ?_)
    · have h := xif_f h hc
      exact w_X3_takes_b30 hX h hI (lv_sub hl [1, 2] rfl)
    · have h := xif_t h hc
      refine lv_iconst (v := (-1 : Int32)) hx hb dX3_takes_28 (by decide) ?_
      exact xr_ireturn h hX hI dX3_takes_29
  · have h := xif_f h hc
    refine lv_aload_n hx hb dX3_takes_9 rfl (lv_at hl 0 rfl) ?_
    refine lv_iload_n hx hb dX3_takes_10 rfl (lv_at hl 3 rfl) ?_
    refine xr_callV (iv := (fun b => some (.int b))) (As := [.int a3]) (rest := []) h hX hI (fun _ _ h => w_X3_isInvoice h) (fun _ _ h => o_X3_isInvoice h) rfl 1 (lw_V q2185 q2187 qs51 q87 q2188) ⟨rfl, xd_X3_isInvoice⟩ ⟨rfl, rfl⟩ rfl hl.1 (Nat.le_of_ble_eq_true rfl) dX3_takes_11 (fun v6 H locs σ cells slots h hI => ?_)
    refine W.eq (g2 := F0 m 14 ls [.int v6]) rfl ?_
    refine lv_if_ne (tgt := 30) hx hb dX3_takes_14 (by decide) (fun hc => ?_) (fun hc => ?_)
    · have h := xif_f h hc
      exact w_X3_takes_b30 hX h hI (lv_sub hl [1, 2] rfl)
    · have h := xif_t h hc
      refine lv_goto (tgt := 28) hx hb dX3_takes_17 (by decide) ?_
      refine lv_iconst (v := (-1 : Int32)) hx hb dX3_takes_28 (by decide) ?_
      exact xr_ireturn h hX hI dX3_takes_29
/-! java/util/LinkedList.isElementIndex(I)Z  -/
theorem o_J4_isElementIndex {a0 : Nat} {a1 : Int32} {r : Int32} {σ σ9 : xS} (h : (f_J4_isElementIndex a0 a1).1 σ = some (r, σ9)) : ∃ fs, σ.1 a0 = some (.inl (13, fs)) := xck_of h
theorem w_J4_isElementIndex {E : xE} {l : Launch} {a0 : Nat} {a1 : Int32} {r : Int32} {σ σ9 : xS} (h : (f_J4_isElementIndex a0 a1).1 σ = some (r, σ9)) : xMet E l yJ4_isElementIndex (ws_ yJ4_isElementIndex cJ4_isElementIndex 2 (some .boolean)) 0 0 [.ref a0, .int a1] σ σ9 (some (.int r)) := by
  refine xstart (by decide +kernel) ((f_J4_isElementIndex a0 a1).2 _ _ _ h) (Nat.le_of_ble_eq_true rfl) ?_
  intro p e s m args below meth c H locs cells slots ls R hX hI hl
  have hx := hX.1.1
  have hb := hX.1.2.1
  have hl : lv_has ls 2 [(0, .ref a0), (1, .int a1)] := hl
  generalize hσ0 : σ = σ0 at hX hI ⊢
  have h : (f_J4_isElementIndex a0 a1).1 σ0 = some (r, σ9) := by rw [← hσ0]; exact h
  clear hσ0
  delta f_J4_isElementIndex at h
  have h := (xck_bd h).2
  refine lv_iload_n hx hb dJ4_isElementIndex_0 rfl (lv_at hl 1 rfl) ?_
  refine lv_if_lt (tgt := 16) hx hb dJ4_isElementIndex_1 (by decide) (fun hc => ?_) (fun hc => ?_)
  · have h := xif_t h hc
    refine lv_iconst (v := (0 : Int32)) hx hb dJ4_isElementIndex_16 (by decide) ?_
    exact xr_zreturn h hX hI dJ4_isElementIndex_17
  · have h := xif_f h hc
    refine lv_iload_n hx hb dJ4_isElementIndex_4 rfl (lv_at hl 1 rfl) ?_
    refine lv_aload_n hx hb dJ4_isElementIndex_5 rfl (lv_at hl 0 rfl) ?_
    refine xr_gI h hX hI xl_J4_7_13.g dJ4_isElementIndex_6 (fun v2 h => ?_)
    refine lv_icmp_ge (tgt := 16) hx hb dJ4_isElementIndex_9 (by decide) (fun hc => ?_) (fun hc => ?_)
    · have h := xif_t h hc
      refine lv_iconst (v := (0 : Int32)) hx hb dJ4_isElementIndex_16 (by decide) ?_
      exact xr_zreturn h hX hI dJ4_isElementIndex_17
    · have h := xif_f h hc
      refine lv_iconst (v := (1 : Int32)) hx hb dJ4_isElementIndex_12 (by decide) ?_
      refine lv_goto (tgt := 17) hx hb dJ4_isElementIndex_13 (by decide) ?_
      exact xr_zreturn h hX hI dJ4_isElementIndex_17
/-! java/util/LinkedList.checkElementIndex(I)V  -/
theorem o_J4_checkElementIndex {a0 : Nat} {a1 : Int32} {r : Unit} {σ σ9 : xS} (h : (f_J4_checkElementIndex a0 a1).1 σ = some (r, σ9)) : ∃ fs, σ.1 a0 = some (.inl (13, fs)) := xck_of h
theorem w_J4_checkElementIndex {E : xE} {l : Launch} {a0 : Nat} {a1 : Int32} {r : Unit} {σ σ9 : xS} (h : (f_J4_checkElementIndex a0 a1).1 σ = some (r, σ9)) : xMet E l yJ4_checkElementIndex (ws_ yJ4_checkElementIndex cJ4_checkElementIndex 2 none) 1 21 [.ref a0, .int a1] σ σ9 none := by
  refine xstart (by decide +kernel) ((f_J4_checkElementIndex a0 a1).2 _ _ _ h) (Nat.le_of_ble_eq_true rfl) ?_
  intro p e s m args below meth c H locs cells slots ls R hX hI hl
  have hx := hX.1.1
  have hb := hX.1.2.1
  have hl : lv_has ls 2 [(0, .ref a0), (1, .int a1)] := hl
  generalize hσ0 : σ = σ0 at hX hI ⊢
  have h : (f_J4_checkElementIndex a0 a1).1 σ0 = some (r, σ9) := by rw [← hσ0]; exact h
  clear hσ0
  delta f_J4_checkElementIndex at h
  have h := (xck_bd h).2
  refine lv_aload_n hx hb dJ4_checkElementIndex_0 rfl (lv_at hl 0 rfl) ?_
  refine lv_iload_n hx hb dJ4_checkElementIndex_1 rfl (lv_at hl 1 rfl) ?_
  refine xr_callV (iv := (fun b => some (.int b))) (As := [.int a1]) (rest := []) h hX hI (fun _ _ h => w_J4_isElementIndex h) (fun _ _ h => o_J4_isElementIndex h) rfl 1 (lw_V q511 q513 qs4 q81 q514) ⟨rfl, xd_J4_isElementIndex⟩ ⟨rfl, rfl⟩ rfl hl.1 (Nat.le_of_ble_eq_true rfl) dJ4_checkElementIndex_2 (fun v2 H locs σ cells slots h hI => ?_)
  refine W.eq (g2 := F0 m 5 ls [.int v2]) rfl ?_
  refine lv_if_ne (tgt := 21) hx hb dJ4_checkElementIndex_5 (by decide) (fun hc => ?_) (fun hc => ?_)
  · have h := xif_f h hc
    exact xr_return h hX hI dJ4_checkElementIndex_21
  · have h := xif_t h hc
    exact xr_no h
/-! java/util/LinkedList.get(I)Ljava/lang/Object;  -/
theorem o_J4_get {a0 : Nat} {a1 : Int32} {r : Nat} {σ σ9 : xS} (h : (f_J4_get a0 a1).1 σ = some (r, σ9)) : ∃ fs, σ.1 a0 = some (.inl (13, fs)) := xck_of h
theorem w_J4_get {E : xE} {l : Launch} {a0 : Nat} {a1 : Int32} {r : Nat} {σ σ9 : xS} (h : (f_J4_get a0 a1).1 σ = some (r, σ9)) : xMet E l yJ4_get (ws_ yJ4_get cJ4_get 2 (some (.object "java/lang/Object"))) 2 42 [.ref a0, .int a1] σ σ9 (some (.ref r)) := by
  refine xstart (by decide +kernel) ((f_J4_get a0 a1).2 _ _ _ h) (Nat.le_of_ble_eq_true rfl) ?_
  intro p e s m args below meth c H locs cells slots ls R hX hI hl
  have hx := hX.1.1
  have hb := hX.1.2.1
  have hl : lv_has ls 2 [(0, .ref a0), (1, .int a1)] := hl
  generalize hσ0 : σ = σ0 at hX hI ⊢
  have h : (f_J4_get a0 a1).1 σ0 = some (r, σ9) := by rw [← hσ0]; exact h
  clear hσ0
  delta f_J4_get at h
  have h := (xck_bd h).2
  refine lv_aload_n hx hb dJ4_get_0 rfl (lv_at hl 0 rfl) ?_
  refine lv_iload_n hx hb dJ4_get_1 rfl (lv_at hl 1 rfl) ?_
  refine xr_callV (iv := (fun _ => none)) (As := [.int a1]) (rest := []) h hX hI (fun _ _ h => w_J4_checkElementIndex h) (fun _ _ h => o_J4_checkElementIndex h) rfl 1 (lw_V q507 q509 qs3 q81 q510) ⟨rfl, xd_J4_checkElementIndex⟩ ⟨rfl, rfl⟩ rfl hl.1 (Nat.le_of_ble_eq_true rfl) dJ4_get_2 (fun _ H locs σ cells slots h hI => ?_)
  refine lv_aload_n hx hb dJ4_get_5 rfl (lv_at hl 0 rfl) ?_
  refine lv_iload_n hx hb dJ4_get_6 rfl (lv_at hl 1 rfl) ?_
  refine xr_callV (iv := (fun b => some (.ref b))) (As := [.int a1]) (rest := []) h hX hI (fun _ _ h => w_J4_node h) (fun _ _ h => o_J4_node h) rfl 1 (lw_V q515 q418 q419 q81 q420) ⟨rfl, xd_J4_node⟩ ⟨rfl, rfl⟩ rfl hl.1 (Nat.le_of_ble_eq_true rfl) dJ4_get_7 (fun v3 H locs σ cells slots h hI => ?_)
  refine W.eq (g2 := F0 m 10 ls [.ref v3]) rfl ?_
  refine xr_gN h hX hI xl_J4_39_18.g dJ4_get_10 (fun v4 h => ?_)
  exact xr_areturn h hX hI (Or.inl ⟨_, rfl⟩) dJ4_get_13
/-! PayMatch$Event.told(I)I  -/
theorem w_X9_told_b28 {a0 : Nat} {r : Int32} (hX : xX E R p m c cX9_told 2 s args RX9 "told" meth (some .int) 0 0 σ0 σ9)
    (h : (f_X9_told_b28 a0).1 σ = some (r, σ9)) (hI : xI E σ0 σ s H locs cells slots) (hl : lv_has ls 2 [(0, .ref a0)]) : W p l e R s m args below meth c H locs cells slots (xMQ E below args s σ0 σ9 (some (.int r))) (F0 m 28 ls []) := by
  have hx := hX.1.1
  have hb := hX.1.2.1
  delta f_X9_told_b28 at h
  refine lv_aload_n hx hb dX9_told_28 rfl (lv_at hl 0 rfl) ?_
  refine xr_gI h hX hI xl_X9_7_8.g dX9_told_29 (fun v8 h => ?_)
  refine lv_goto (tgt := 53) hx hb dX9_told_32 (by decide) ?_
  exact xr_ireturn h hX hI dX9_told_53
theorem w_X9_told_b35 {a0 : Nat} {r : Int32} (hX : xX E R p m c cX9_told 2 s args RX9 "told" meth (some .int) 0 0 σ0 σ9)
    (h : (f_X9_told_b35 a0).1 σ = some (r, σ9)) (hI : xI E σ0 σ s H locs cells slots) (hl : lv_has ls 2 [(0, .ref a0)]) : W p l e R s m args below meth c H locs cells slots (xMQ E below args s σ0 σ9 (some (.int r))) (F0 m 35 ls []) := by
  have hx := hX.1.1
  have hb := hX.1.2.1
  delta f_X9_told_b35 at h
  refine lv_aload_n hx hb dX9_told_35 rfl (lv_at hl 0 rfl) ?_
  refine xr_gI h hX hI xl_X9_13_8.g dX9_told_36 (fun v7 h => ?_)
  refine lv_goto (tgt := 53) hx hb dX9_told_39 (by decide) ?_
  exact xr_ireturn h hX hI dX9_told_53
theorem w_X9_told_b42 {a0 : Nat} {r : Int32} (hX : xX E R p m c cX9_told 2 s args RX9 "told" meth (some .int) 0 0 σ0 σ9)
    (h : (f_X9_told_b42 a0).1 σ = some (r, σ9)) (hI : xI E σ0 σ s H locs cells slots) (hl : lv_has ls 2 [(0, .ref a0)]) : W p l e R s m args below meth c H locs cells slots (xMQ E below args s σ0 σ9 (some (.int r))) (F0 m 42 ls []) := by
  have hx := hX.1.1
  have hb := hX.1.2.1
  delta f_X9_told_b42 at h
  refine lv_aload_n hx hb dX9_told_42 rfl (lv_at hl 0 rfl) ?_
  refine xr_gI h hX hI xl_X9_16_8.g dX9_told_43 (fun v6 h => ?_)
  refine lv_goto (tgt := 53) hx hb dX9_told_46 (by decide) ?_
  exact xr_ireturn h hX hI dX9_told_53
theorem w_X9_told_b49 {a0 : Nat} {r : Int32} (hX : xX E R p m c cX9_told 2 s args RX9 "told" meth (some .int) 0 0 σ0 σ9)
    (h : (f_X9_told_b49 a0).1 σ = some (r, σ9)) (hI : xI E σ0 σ s H locs cells slots) (hl : lv_has ls 2 [(0, .ref a0)]) : W p l e R s m args below meth c H locs cells slots (xMQ E below args s σ0 σ9 (some (.int r))) (F0 m 49 ls []) := by
  have hx := hX.1.1
  have hb := hX.1.2.1
  delta f_X9_told_b49 at h
  refine lv_aload_n hx hb dX9_told_49 rfl (lv_at hl 0 rfl) ?_
  refine xr_gI h hX hI xl_X9_19_8.g dX9_told_50 (fun v5 h => ?_)
  exact xr_ireturn h hX hI dX9_told_53
theorem o_X9_told {a0 : Nat} {a1 : Int32} {r : Int32} {σ σ9 : xS} (h : (f_X9_told a0 a1).1 σ = some (r, σ9)) : ∃ fs, σ.1 a0 = some (.inl (8, fs)) := xck_of h
theorem w_X9_told {E : xE} {l : Launch} {a0 : Nat} {a1 : Int32} {r : Int32} {σ σ9 : xS} (h : (f_X9_told a0 a1).1 σ = some (r, σ9)) : xMet E l yX9_told (ws_ yX9_told cX9_told 2 (some .int)) 0 0 [.ref a0, .int a1] σ σ9 (some (.int r)) := by
  refine xstart (by decide +kernel) ((f_X9_told a0 a1).2 _ _ _ h) (Nat.le_of_ble_eq_true rfl) ?_
  intro p e s m args below meth c H locs cells slots ls R hX hI hl
  have hx := hX.1.1
  have hb := hX.1.2.1
  have hl : lv_has ls 2 [(0, .ref a0), (1, .int a1)] := hl
  generalize hσ0 : σ = σ0 at hX hI ⊢
  have h : (f_X9_told a0 a1).1 σ0 = some (r, σ9) := by rw [← hσ0]; exact h
  clear hσ0
  delta f_X9_told at h
  have h := (xck_bd h).2
  refine lv_iload_n hx hb dX9_told_0 rfl (lv_at hl 1 rfl) ?_
  refine xif h (fun hc0 h => ?_) (fun hc0 h => ?_)
  · refine W.eq (g2 := F0 m 1 ls (.int (0 : Int32) :: [])) (by rw [hc0]) ?_
    refine lv_tableIn (tgt := 28) (off := 27) hx hb dX9_told_1 (by decide) (by decide) (by decide) (by decide) ?_
    exact w_X9_told_b28 hX h hI (lv_sub hl [0] rfl)
  · refine xif h (fun hc1 h => ?_) (fun hc1 h => ?_)
    · refine W.eq (g2 := F0 m 1 ls (.int (1 : Int32) :: [])) (by rw [hc1]) ?_
      refine lv_tableIn (tgt := 35) (off := 34) hx hb dX9_told_1 (by decide) (by decide) (by decide) (by decide) ?_
      exact w_X9_told_b35 hX h hI (lv_sub hl [0] rfl)
    · refine xif h (fun hc2 h => ?_) (fun hc2 h => ?_)
      · refine W.eq (g2 := F0 m 1 ls (.int (2 : Int32) :: [])) (by rw [hc2]) ?_
        refine lv_tableIn (tgt := 42) (off := 41) hx hb dX9_told_1 (by decide) (by decide) (by decide) (by decide) ?_
        exact w_X9_told_b42 hX h hI (lv_sub hl [0] rfl)
      · refine lv_tableOut (tgt := 49) hx hb dX9_told_1 (xtblo (L := [(0 : Int32), (1 : Int32), (2 : Int32)]) (by decide) (by decide) (List.forall_mem_cons.mpr ⟨hc0, (List.forall_mem_cons.mpr ⟨hc1, (List.forall_mem_cons.mpr ⟨hc2, (fun _ h => absurd h List.not_mem_nil)⟩)⟩)⟩)) (by decide) ?_
        exact w_X9_told_b49 hX h hI (lv_sub hl [0] rfl)
/-! PayMatch.event(II)I  -/
theorem o_X0_event {a0 : Nat} {a1 : Int32} {a2 : Int32} {r : Int32} {σ σ9 : xS} (h : (f_X0_event a0 a1 a2).1 σ = some (r, σ9)) : ∃ fs, σ.1 a0 = some (.inl (0, fs)) := xck_of h
theorem w_X0_event {E : xE} {l : Launch} {a0 : Nat} {a1 : Int32} {a2 : Int32} {r : Int32} {σ σ9 : xS} (h : (f_X0_event a0 a1 a2).1 σ = some (r, σ9)) : xMet E l yX0_event (ws_ yX0_event cX0_event 3 (some .int)) 3 63 [.ref a0, .int a1, .int a2] σ σ9 (some (.int r)) := by
  refine xstart (by decide +kernel) ((f_X0_event a0 a1 a2).2 _ _ _ h) (Nat.le_of_ble_eq_true rfl) ?_
  intro p e s m args below meth c H locs cells slots ls R hX hI hl
  have hx := hX.1.1
  have hb := hX.1.2.1
  have hl : lv_has ls 3 [(0, .ref a0), (1, .int a1), (2, .int a2)] := hl
  generalize hσ0 : σ = σ0 at hX hI ⊢
  have h : (f_X0_event a0 a1 a2).1 σ0 = some (r, σ9) := by rw [← hσ0]; exact h
  clear hσ0
  delta f_X0_event at h
  have h := (xck_bd h).2
  refine lv_iload_n hx hb dX0_event_0 rfl (lv_at hl 1 rfl) ?_
  refine lv_if_lt (tgt := 13) hx hb dX0_event_1 (by decide) (fun hc => ?_) (fun hc => ?_)
  · have h := xif_t h hc
    refine lv_bipush (v := (-2 : Int32)) hx hb dX0_event_13 (by decide) ?_
    exact xr_ireturn h hX hI dX0_event_15
  · have h := xif_f h hc
    refine lv_iload_n hx hb dX0_event_4 rfl (lv_at hl 2 rfl) ?_
    refine lv_iconst (v := (0 : Int32)) hx hb dX0_event_5 (by decide) ?_
    refine lv_iconst (v := (3 : Int32)) hx hb dX0_event_6 (by decide) ?_
    refine xr_callS (iv := (fun b => some (.int b))) (As := [.int a2, .int (0 : Int32), .int (3 : Int32)]) (rest := []) h hX hI (fun _ _ h => w_X0_inRange h) 3 (lw_S q1267 q1230 q74 q1231) xd_X0_inRange ⟨rfl, rfl⟩ rfl hl.1 (Nat.le_of_ble_eq_true rfl) dX0_event_7 (fun v9 H locs σ cells slots h hI => ?_)
    refine W.eq (g2 := F0 m 10 ls [.int v9]) rfl ?_
    refine lv_if_ne (tgt := 16) hx hb dX0_event_10 (by decide) (fun hc => ?_) (fun hc => ?_)
    · have h := xif_f h hc
      refine lv_iload_n hx hb dX0_event_16 rfl (lv_at hl 1 rfl) ?_
      refine lv_aload_n hx hb dX0_event_17 rfl (lv_at hl 0 rfl) ?_
      refine xr_gN h hX hI xl_X0_22_0.g dX0_event_18 (fun v10 h => ?_)
      refine xr_gN h hX hI xl_X0_399_1 dX0_event_21 (fun v11 h => ?_)
      refine xr_callV (iv := (fun b => some (.int b))) (As := []) (rest := [.int a1]) h hX hI (fun _ _ h => w_J4_size h) (fun _ _ h => o_J4_size h) rfl 0 (lw_V q1943 q320 q2377 q81 q322) ⟨rfl, xd_J4_size⟩ ⟨rfl, rfl⟩ rfl hl.1 (Nat.le_of_ble_eq_true rfl) dX0_event_24 (fun v12 H locs σ cells slots h hI => ?_)
      refine W.eq (g2 := F0 m 27 ls [.int v12, .int a1]) rfl ?_
      refine lv_icmp_ge (tgt := 51) hx hb dX0_event_27 (by decide) (fun hc => ?_) (fun hc => ?_)
      · have h := xif_t h hc
        refine lv_bipush (v := (-5 : Int32)) hx hb dX0_event_51 (by decide) ?_
        exact xr_ireturn h hX hI dX0_event_53
      · have h := xif_f h hc
        refine lv_aload_n hx hb dX0_event_30 rfl (lv_at hl 0 rfl) ?_
        refine xr_gN h hX hI xl_X0_22_0.g dX0_event_31 (fun v13 h => ?_)
        refine xr_gN h hX hI xl_X0_399_1 dX0_event_34 (fun v14 h => ?_)
        refine lv_iload_n hx hb dX0_event_37 rfl (lv_at hl 1 rfl) ?_
        refine xr_callV (iv := (fun b => some (.ref b))) (As := [.int a1]) (rest := []) h hX hI (fun _ _ h => w_J4_get h) (fun _ _ h => o_J4_get h) rfl 1 (lw_V q1944 q505 q2382 q81 q506) ⟨rfl, xd_J4_get⟩ ⟨rfl, rfl⟩ rfl hl.1 (Nat.le_of_ble_eq_true rfl) dX0_event_38 (fun v15 H locs σ cells slots h hI => ?_)
        refine W.eq (g2 := F0 m 41 ls [.ref v15]) rfl ?_
        refine xr_cks h hX hI xc_X0_409 dX0_event_41 (fun h => ?_)
        refine lv_iload_n hx hb dX0_event_44 rfl (lv_at hl 2 rfl) ?_
        refine xr_callV (iv := (fun b => some (.int b))) (As := [.int a2]) (rest := []) h hX hI (fun _ _ h => w_X9_told h) (fun _ _ h => o_X9_told h) rfl 1 (lw_V q1946 q1947 q1948 q112 q1949) ⟨rfl, xd_X9_told⟩ ⟨rfl, rfl⟩ rfl hl.1 (Nat.le_of_ble_eq_true rfl) dX0_event_45 (fun v16 H locs σ cells slots h hI => ?_)
        refine W.eq (g2 := F0 m 48 ls [.int v16]) rfl ?_
        refine lv_goto (tgt := 53) hx hb dX0_event_48 (by decide) ?_
        exact xr_ireturn h hX hI dX0_event_53
    · have h := xif_t h hc
      refine lv_bipush (v := (-2 : Int32)) hx hb dX0_event_13 (by decide) ?_
      exact xr_ireturn h hX hI dX0_event_15
/-! PayMatchModel.event(II)I  -/
theorem o_X3_event {a0 : Nat} {a1 : Int32} {a2 : Int32} {r : Int32} {σ σ9 : xS} (h : (f_X3_event a0 a1 a2).1 σ = some (r, σ9)) : ∃ fs, σ.1 a0 = some (.inl (3, fs)) := xck_of h
theorem w_X3_event {E : xE} {l : Launch} {a0 : Nat} {a1 : Int32} {a2 : Int32} {r : Int32} {σ σ9 : xS} (h : (f_X3_event a0 a1 a2).1 σ = some (r, σ9)) : xMet E l yX3_event (ws_ yX3_event cX3_event 3 (some .int)) 1 22 [.ref a0, .int a1, .int a2] σ σ9 (some (.int r)) := by
  refine xstart (by decide +kernel) ((f_X3_event a0 a1 a2).2 _ _ _ h) (Nat.le_of_ble_eq_true rfl) ?_
  intro p e s m args below meth c H locs cells slots ls R hX hI hl
  have hx := hX.1.1
  have hb := hX.1.2.1
  have hl : lv_has ls 3 [(0, .ref a0), (1, .int a1), (2, .int a2)] := hl
  generalize hσ0 : σ = σ0 at hX hI ⊢
  have h : (f_X3_event a0 a1 a2).1 σ0 = some (r, σ9) := by rw [← hσ0]; exact h
  clear hσ0
  delta f_X3_event at h
  have h := (xck_bd h).2
  refine lv_aload_n hx hb dX3_event_0 rfl (lv_at hl 0 rfl) ?_
  refine lv_iconst (v := (0 : Int32)) hx hb dX3_event_1 (by decide) ?_
  refine xr_pt h hX hI xl_X3_1_3 (Or.inl rfl) rfl rfl dX3_event_2 (fun H locs σ h hI => ?_)
  refine lv_iload_n hx hb dX3_event_5 rfl (lv_at hl 1 rfl) ?_
  refine lv_if_lt (tgt := 18) hx hb dX3_event_6 (by decide) (fun hc => ?_) (fun hc => ?_)
  · have h := xif_t h hc
    refine lv_bipush (v := (-2 : Int32)) hx hb dX3_event_18 (by decide) ?_
    exact xr_ireturn h hX hI dX3_event_20
  · have h := xif_f h hc
    refine lv_iload_n hx hb dX3_event_9 rfl (lv_at hl 2 rfl) ?_
    refine lv_iconst (v := (0 : Int32)) hx hb dX3_event_10 (by decide) ?_
    refine lv_iconst (v := (3 : Int32)) hx hb dX3_event_11 (by decide) ?_
    refine xr_callS (iv := (fun b => some (.int b))) (As := [.int a2, .int (0 : Int32), .int (3 : Int32)]) (rest := []) h hX hI (fun _ _ h => w_X3_in h) 3 (lw_S q2043 q2044 q87 q2045) xd_X3_in ⟨rfl, rfl⟩ rfl hl.1 (Nat.le_of_ble_eq_true rfl) dX3_event_12 (fun v4 H locs σ cells slots h hI => ?_)
    refine W.eq (g2 := F0 m 15 ls [.int v4]) rfl ?_
    refine lv_if_ne (tgt := 21) hx hb dX3_event_15 (by decide) (fun hc => ?_) (fun hc => ?_)
    · have h := xif_f h hc
      refine lv_iload_n hx hb dX3_event_21 rfl (lv_at hl 1 rfl) ?_
      refine lv_bipush (v := (10 : Int32)) hx hb dX3_event_22 (by decide) ?_
      refine lv_icmp_ge (tgt := 53) hx hb dX3_event_24 (by decide) (fun hc => ?_) (fun hc => ?_)
      · have h := xif_t h hc
        refine lv_bipush (v := (-5 : Int32)) hx hb dX3_event_53 (by decide) ?_
        exact xr_ireturn h hX hI dX3_event_55
      · have h := xif_f h hc
        refine lv_iload_n hx hb dX3_event_27 rfl (lv_at hl 1 rfl) ?_
        refine lv_aload_n hx hb dX3_event_28 rfl (lv_at hl 0 rfl) ?_
        refine lv_bipush (v := (10 : Int32)) hx hb dX3_event_29 (by decide) ?_
        refine xr_callV (iv := (fun b => some (.int b))) (As := [.int (10 : Int32)]) (rest := [.int a1]) h hX hI (fun _ _ h => w_X3_at h) (fun _ _ h => o_X3_at h) rfl 1 (lw_V q2022 q2024 qs31 q87 q2025) ⟨rfl, xd_X3_at⟩ ⟨rfl, rfl⟩ rfl hl.1 (Nat.le_of_ble_eq_true rfl) dX3_event_31 (fun v5 H locs σ cells slots h hI => ?_)
        refine W.eq (g2 := F0 m 34 ls [.int v5, .int a1]) rfl ?_
        refine lv_icmp_ge (tgt := 53) hx hb dX3_event_34 (by decide) (fun hc => ?_) (fun hc => ?_)
        · have h := xif_t h hc
          refine lv_bipush (v := (-5 : Int32)) hx hb dX3_event_53 (by decide) ?_
          exact xr_ireturn h hX hI dX3_event_55
        · have h := xif_f h hc
          refine lv_aload_n hx hb dX3_event_37 rfl (lv_at hl 0 rfl) ?_
          refine lv_sipush (v := (1371 : Int32)) hx hb dX3_event_38 (by decide) ?_
          refine lv_iconst (v := (4 : Int32)) hx hb dX3_event_41 (by decide) ?_
          refine lv_iload_n hx hb dX3_event_42 rfl (lv_at hl 1 rfl) ?_
          refine lv_imul hx hb dX3_event_43 ?_
          refine lv_iadd hx hb dX3_event_44 ?_
          refine lv_iload_n hx hb dX3_event_45 rfl (lv_at hl 2 rfl) ?_
          refine lv_iadd hx hb dX3_event_46 ?_
          refine xr_callV (iv := (fun b => some (.int b))) (As := [.int (((1371 : Int32) + ((4 : Int32) * a1)) + a2)]) (rest := []) h hX hI (fun _ _ h => w_X3_at h) (fun _ _ h => o_X3_at h) rfl 1 (lw_V q2022 q2024 qs31 q87 q2025) ⟨rfl, xd_X3_at⟩ ⟨rfl, rfl⟩ rfl hl.1 (Nat.le_of_ble_eq_true rfl) dX3_event_47 (fun v6 H locs σ cells slots h hI => ?_)
          refine W.eq (g2 := F0 m 50 ls [.int v6]) rfl ?_
          refine lv_goto (tgt := 55) hx hb dX3_event_50 (by decide) ?_
          exact xr_ireturn h hX hI dX3_event_55
    · have h := xif_t h hc
      refine lv_bipush (v := (-2 : Int32)) hx hb dX3_event_18 (by decide) ?_
      exact xr_ireturn h hX hI dX3_event_20
/-! PayMatch$Supplier.weight()I  -/
theorem o_X7_weight {a0 : Nat} {r : Int32} {σ σ9 : xS} (h : (f_X7_weight a0).1 σ = some (r, σ9)) : ∃ fs, σ.1 a0 = some (.inl (7, fs)) := xck_of h
theorem w_X7_weight {E : xE} {l : Launch} {a0 : Nat} {r : Int32} {σ σ9 : xS} (h : (f_X7_weight a0).1 σ = some (r, σ9)) : xMet E l yX7_weight (ws_ yX7_weight cX7_weight 1 (some .int)) 0 0 [.ref a0] σ σ9 (some (.int r)) := by
  refine xstart (by decide +kernel) ((f_X7_weight a0).2 _ _ _ h) (Nat.le_of_ble_eq_true rfl) ?_
  intro p e s m args below meth c H locs cells slots ls R hX hI hl
  have hx := hX.1.1
  have hb := hX.1.2.1
  have hl : lv_has ls 1 [(0, .ref a0)] := hl
  generalize hσ0 : σ = σ0 at hX hI ⊢
  have h : (f_X7_weight a0).1 σ0 = some (r, σ9) := by rw [← hσ0]; exact h
  clear hσ0
  delta f_X7_weight at h
  have h := (xck_bd h).2
  refine lv_aload_n hx hb dX7_weight_0 rfl (lv_at hl 0 rfl) ?_
  refine xr_gI h hX hI xl_X7_28_7.g dX7_weight_1 (fun v2 h => ?_)
  exact xr_ireturn h hX hI dX7_weight_4
/-! PayMatch$Paper.weightOf(Ljava/lang/Iterable;)I 7 -/
theorem w_X8_weightOf_7_b9 {rec9 : Int32 → Nat → xM Int32} {a1 : Int32} {a2 : Nat} {r : Int32} (hX : xX E R p m c cX8_weightOf 4 s args RX8 "weightOf" meth (some .int) 4 121 σ0 σ9) (hrec9 : ∀ (a1 : Int32) (a2 : Nat) (σ : xS) (H : Heap) (locs : List Loc) (cells slots : Nat) (ls : Array Slot), (rec9 a1 a2).1 σ = some (r, σ9) → xI E σ0 σ s H locs cells slots → lv_has ls 4 [(1, .int a1), (2, .ref a2)] → W p l e R s m args below meth c H locs cells slots (xMQ E below args s σ0 σ9 (some (.int r))) (F0 m 9 ls []))
    (h : (f_X8_weightOf_7_b9 rec9 a1 a2).1 σ = some (r, σ9)) (hI : xI E σ0 σ s H locs cells slots) (hl : lv_has ls 4 [(1, .int a1), (2, .ref a2)]) : W p l e R s m args below meth c H locs cells slots (xMQ E below args s σ0 σ9 (some (.int r))) (F0 m 9 ls []) := by
  have hx := hX.1.1
  have hb := hX.1.2.1
  delta f_X8_weightOf_7_b9 at h
  refine lv_aload_n hx hb dX8_weightOf_9 rfl (lv_at hl 1 rfl) ?_
  refine xr_callF (iv := (fun b => some (.int b))) (As := []) (rest := []) h hX hI (fun _ _ h => w_J10_hasNext h) (fun _ _ h => o_J10_hasNext h) rfl 0 xfw_4 q1378 q460 q462 q89 q464 xdi_4 ⟨rfl, rfl⟩ rfl hl.1 (Nat.le_of_ble_eq_true rfl) dX8_weightOf_10 (fun v5 H locs σ cells slots h hI => ?_)
  refine W.eq (g2 := F0 m 15 ls [.int v5]) rfl ?_
  refine lv_if_eq (tgt := 40) hx hb dX8_weightOf_15 (by decide) (fun hc => ?_) (fun hc => ?_)
  · have h := xif_t h hc
    refine lv_iload_n hx hb dX8_weightOf_40 rfl (lv_at hl 0 rfl) ?_
    exact xr_ireturn h hX hI dX8_weightOf_41
  · have h := xif_f h hc
    refine lv_aload_n hx hb dX8_weightOf_18 rfl (lv_at hl 1 rfl) ?_
    refine xr_callF (iv := (fun b => some (.ref b))) (As := []) (rest := []) h hX hI (fun _ _ h => w_J10_next h) (fun _ _ h => o_J10_next h) rfl 0 xfw_6 q1380 q828 q830 q89 q832 xdi_6 ⟨rfl, rfl⟩ rfl hl.1 (Nat.le_of_ble_eq_true rfl) dX8_weightOf_19 (fun v6 H locs σ cells slots h hI => ?_)
    refine W.eq (g2 := F0 m 24 ls [.ref v6]) rfl ?_
    refine xr_cks h hX hI xc_X8_17 dX8_weightOf_24 (fun h => ?_)
    refine lv_astore_n (lv' := [(3, .ref v6), (1, .int a1), (2, .ref a2)]) hx hb dX8_weightOf_27 rfl hl (Nat.le_of_ble_eq_true rfl) rfl (fun ls hl => ?_)
    refine lv_iload_n hx hb dX8_weightOf_28 rfl (lv_at hl 1 rfl) ?_
    refine lv_aload_n hx hb dX8_weightOf_29 rfl (lv_at hl 0 rfl) ?_
    refine xr_callF (iv := (fun b => some (.int b))) (As := []) (rest := [.int a1]) h hX hI (fun _ _ h => w_X7_weight h) (fun _ _ h => o_X7_weight h) rfl 0 xfw_22 q1383 q1399 q1401 q108 q1403 xdi_22 ⟨rfl, rfl⟩ rfl hl.1 (Nat.le_of_ble_eq_true rfl) dX8_weightOf_30 (fun v7 H locs σ cells slots h hI => ?_)
    refine W.eq (g2 := F0 m 35 ls [.int v7, .int a1]) rfl ?_
    refine lv_iadd hx hb dX8_weightOf_35 ?_
    refine lv_istore_n (lv' := [(1, .int (a1 + v7)), (3, .ref v6), (2, .ref a2)]) hx hb dX8_weightOf_36 rfl hl (Nat.le_of_ble_eq_true rfl) rfl (fun ls hl => ?_)
    refine lv_goto (tgt := 9) hx hb dX8_weightOf_37 (by decide) ?_
    exact hrec9 (a1 + v7) a2 _ _ _ _ _ _ h hI (lv_sub hl [0, 2] rfl)
theorem w_X8_weightOf_7_L9 {r : Int32} (hX : xX E R p m c cX8_weightOf 4 s args RX8 "weightOf" meth (some .int) 4 121 σ0 σ9) : ∀ (n : Nat) (a1 : Int32) (a2 : Nat) (σ : xS) (H : Heap) (locs : List Loc) (cells slots : Nat) (ls : Array Slot), (f_X8_weightOf_7_L9 n a1 a2).1 σ = some (r, σ9) → xI E σ0 σ s H locs cells slots → lv_has ls 4 [(1, .int a1), (2, .ref a2)] → W p l e R s m args below meth c H locs cells slots (xMQ E below args s σ0 σ9 (some (.int r))) (F0 m 9 ls []) := by
  intro n
  induction n with
  | zero =>
    intro a1 a2 σ H locs cells slots ls h
    exact xr_no h
  | succ n ih =>
    intro a1 a2 σ H locs cells slots ls h hI hl
    exact w_X8_weightOf_7_b9 hX ih h hI hl
theorem w_X8_weightOf_7 {E : xE} {l : Launch} {a0 : Nat} {r : Int32} {σ σ9 : xS} (h : (f_X8_weightOf_7 a0).1 σ = some (r, σ9)) : xMet E l yX8_weightOf (ws_ yX8_weightOf cX8_weightOf 4 (some .int)) 4 121 [.ref a0] σ σ9 (some (.int r)) := by
  refine xstart (by decide +kernel) ((f_X8_weightOf_7 a0).2 _ _ _ h) (Nat.le_of_ble_eq_true rfl) ?_
  intro p e s m args below meth c H locs cells slots ls R hX hI hl
  have hx := hX.1.1
  have hb := hX.1.2.1
  have hl : lv_has ls 4 [(0, .ref a0)] := hl
  generalize hσ0 : σ = σ0 at hX hI ⊢
  have h : (f_X8_weightOf_7 a0).1 σ0 = some (r, σ9) := by rw [← hσ0]; exact h
  clear hσ0
  delta f_X8_weightOf_7 at h
  refine lv_iconst (v := (0 : Int32)) hx hb dX8_weightOf_0 (by decide) ?_
  refine lv_istore_n (lv' := [(1, .int (0 : Int32)), (0, .ref a0)]) hx hb dX8_weightOf_1 rfl hl (Nat.le_of_ble_eq_true rfl) rfl (fun ls hl => ?_)
  refine lv_aload_n hx hb dX8_weightOf_2 rfl (lv_at hl 1 rfl) ?_
  refine xr_callF (iv := (fun b => some (.ref b))) (As := []) (rest := []) h hX hI (fun _ _ h => w_X2_iterator h) (fun _ _ h => o_X2_iterator h) rfl 0 xfw_16 q1340 q1344 q1277 q76 q1279 xdi_16 ⟨rfl, rfl⟩ rfl hl.1 (Nat.le_of_ble_eq_true rfl) dX8_weightOf_3 (fun v8 H locs σ cells slots h hI => ?_)
  refine W.eq (g2 := F0 m 8 ls [.ref v8]) rfl ?_
  refine lv_astore_n (lv' := [(2, .ref v8), (1, .int (0 : Int32)), (0, .ref a0)]) hx hb dX8_weightOf_8 rfl hl (Nat.le_of_ble_eq_true rfl) rfl (fun ls hl => ?_)
  exact w_X8_weightOf_7_L9 hX xFU (0 : Int32) v8 _ _ _ _ _ _ h hI (lv_sub hl [1, 0] rfl)
/-! PayMatch$State.sum(I)I  -/
theorem w_X1_sum_b64 {rec10 : Int32 → Int32 → Nat → xM Int32} {t0 : Int32} {t1 : Int32} {a1 : Int32} {a3 : Nat} {r : Int32} (hX : xX E R p m c cX1_sum 5 s args RX1 "sum" meth (some .int) 4 121 σ0 σ9) (hrec10 : ∀ (a1 : Int32) (a2 : Int32) (a3 : Nat) (σ : xS) (H : Heap) (locs : List Loc) (cells slots : Nat) (ls : Array Slot), (rec10 a1 a2 a3).1 σ = some (r, σ9) → xI E σ0 σ s H locs cells slots → lv_has ls 5 [(1, .int a1), (2, .int a2), (3, .ref a3)] → W p l e R s m args below meth c H locs cells slots (xMQ E below args s σ0 σ9 (some (.int r))) (F0 m 10 ls []))
    (h : (f_X1_sum_b64 rec10 t0 t1 a1 a3).1 σ = some (r, σ9)) (hI : xI E σ0 σ s H locs cells slots) (hl : lv_has ls 5 [(1, .int a1), (3, .ref a3)]) : W p l e R s m args below meth c H locs cells slots (xMQ E below args s σ0 σ9 (some (.int r))) (F0 m 64 ls [.int t1, .int t0]) := by
  have hx := hX.1.1
  have hb := hX.1.2.1
  delta f_X1_sum_b64 at h
  refine lv_iadd hx hb dX1_sum_64 ?_
  refine lv_istore_n (lv' := [(2, .int (t0 + t1)), (1, .int a1), (3, .ref a3)]) hx hb dX1_sum_65 rfl hl (Nat.le_of_ble_eq_true rfl) rfl (fun ls hl => ?_)
  refine lv_goto (tgt := 10) hx hb dX1_sum_66 (by decide) ?_
  exact hrec10 a1 (t0 + t1) a3 _ _ _ _ _ _ h hI (lv_sub hl [1, 0, 2] rfl)
theorem w_X1_sum_b10 {rec10 : Int32 → Int32 → Nat → xM Int32} {a1 : Int32} {a2 : Int32} {a3 : Nat} {r : Int32} (hX : xX E R p m c cX1_sum 5 s args RX1 "sum" meth (some .int) 4 121 σ0 σ9) (hrec10 : ∀ (a1 : Int32) (a2 : Int32) (a3 : Nat) (σ : xS) (H : Heap) (locs : List Loc) (cells slots : Nat) (ls : Array Slot), (rec10 a1 a2 a3).1 σ = some (r, σ9) → xI E σ0 σ s H locs cells slots → lv_has ls 5 [(1, .int a1), (2, .int a2), (3, .ref a3)] → W p l e R s m args below meth c H locs cells slots (xMQ E below args s σ0 σ9 (some (.int r))) (F0 m 10 ls []))
    (h : (f_X1_sum_b10 rec10 a1 a2 a3).1 σ = some (r, σ9)) (hI : xI E σ0 σ s H locs cells slots) (hl : lv_has ls 5 [(1, .int a1), (2, .int a2), (3, .ref a3)]) : W p l e R s m args below meth c H locs cells slots (xMQ E below args s σ0 σ9 (some (.int r))) (F0 m 10 ls []) := by
  have hx := hX.1.1
  have hb := hX.1.2.1
  delta f_X1_sum_b10 at h
  refine lv_aload_n hx hb dX1_sum_10 rfl (lv_at hl 2 rfl) ?_
  refine xr_callF (iv := (fun b => some (.int b))) (As := []) (rest := []) h hX hI (fun _ _ h => w_J10_hasNext h) (fun _ _ h => o_J10_hasNext h) rfl 0 xfw_4 q1168 q460 q462 q89 q464 xdi_4 ⟨rfl, rfl⟩ rfl hl.1 (Nat.le_of_ble_eq_true rfl) dX1_sum_11 (fun v8 H locs σ cells slots h hI => ?_)
  refine W.eq (g2 := F0 m 16 ls [.int v8]) rfl ?_
  refine lv_if_eq (tgt := 69) hx hb dX1_sum_16 (by decide) (fun hc => ?_) (fun hc => ?_)
  · have h := xif_t h hc
    refine lv_iload_n hx hb dX1_sum_69 rfl (lv_at hl 1 rfl) ?_
    exact xr_ireturn h hX hI dX1_sum_70
  · have h := xif_f h hc
    refine lv_aload_n hx hb dX1_sum_19 rfl (lv_at hl 2 rfl) ?_
    refine xr_callF (iv := (fun b => some (.ref b))) (As := []) (rest := []) h hX hI (fun _ _ h => w_J10_next h) (fun _ _ h => o_J10_next h) rfl 0 xfw_6 q1170 q828 q830 q89 q832 xdi_6 ⟨rfl, rfl⟩ rfl hl.1 (Nat.le_of_ble_eq_true rfl) dX1_sum_20 (fun v9 H locs σ cells slots h hI => ?_)
    refine W.eq (g2 := F0 m 25 ls [.ref v9]) rfl ?_
    refine xr_cks h hX hI xc_X1_97 dX1_sum_25 (fun h => ?_)
    refine lv_astore (lv' := [(4, .ref v9), (1, .int a1), (2, .int a2), (3, .ref a3)]) hx hb dX1_sum_28 hl (Nat.le_of_ble_eq_true rfl) rfl (fun ls hl => ?_)
    refine lv_iload_n hx hb dX1_sum_30 rfl (lv_at hl 2 rfl) ?_
    refine lv_iload_n hx hb dX1_sum_31 rfl (lv_at hl 1 rfl) ?_
    refine lv_bipush (v := (9 : Int32)) hx hb dX1_sum_32 (by decide) ?_
    refine lv_icmp_ne (tgt := 45) hx hb dX1_sum_34 (by decide) (fun hc => ?_) (fun hc => ?_)
    · have h := xif_f h hc
      refine lv_iload_n hx hb dX1_sum_45 rfl (lv_at hl 1 rfl) ?_
      refine lv_bipush (v := (12 : Int32)) hx hb dX1_sum_46 (by decide) ?_
      refine lv_icmp_ne (tgt := 59) hx hb dX1_sum_48 (by decide) (fun hc => ?_) (fun hc => ?_)
      · have h := xif_f h hc
        refine lv_aload hx hb dX1_sum_59 (lv_at hl 0 rfl) ?_
        refine xr_gI h hX hI xl_X1_254_7.g dX1_sum_61 (fun v10 h => ?_)
        exact w_X1_sum_b64 hX hrec10 h hI (lv_sub hl [1, 3] rfl)
      · have h := xif_t h hc
        refine lv_aload hx hb dX1_sum_51 (lv_at hl 0 rfl) ?_
        refine xr_gI h hX hI xl_X1_243_7.g dX1_sum_53 (fun v11 h => ?_)
        refine lv_goto (tgt := 64) hx hb dX1_sum_56 (by decide) ?_
        exact w_X1_sum_b64 hX hrec10 h hI (lv_sub hl [1, 3] rfl)
    · have h := xif_t h hc
      refine lv_aload hx hb dX1_sum_37 (lv_at hl 0 rfl) ?_
      refine xr_gI h hX hI xl_X1_253_7.g dX1_sum_39 (fun v12 h => ?_)
      refine lv_goto (tgt := 64) hx hb dX1_sum_42 (by decide) ?_
      exact w_X1_sum_b64 hX hrec10 h hI (lv_sub hl [1, 3] rfl)
theorem w_X1_sum_L10 {r : Int32} (hX : xX E R p m c cX1_sum 5 s args RX1 "sum" meth (some .int) 4 121 σ0 σ9) : ∀ (n : Nat) (a1 : Int32) (a2 : Int32) (a3 : Nat) (σ : xS) (H : Heap) (locs : List Loc) (cells slots : Nat) (ls : Array Slot), (f_X1_sum_L10 n a1 a2 a3).1 σ = some (r, σ9) → xI E σ0 σ s H locs cells slots → lv_has ls 5 [(1, .int a1), (2, .int a2), (3, .ref a3)] → W p l e R s m args below meth c H locs cells slots (xMQ E below args s σ0 σ9 (some (.int r))) (F0 m 10 ls []) := by
  intro n
  induction n with
  | zero =>
    intro a1 a2 a3 σ H locs cells slots ls h
    exact xr_no h
  | succ n ih =>
    intro a1 a2 a3 σ H locs cells slots ls h hI hl
    exact w_X1_sum_b10 hX ih h hI hl
theorem o_X1_sum {a0 : Nat} {a1 : Int32} {r : Int32} {σ σ9 : xS} (h : (f_X1_sum a0 a1).1 σ = some (r, σ9)) : ∃ fs, σ.1 a0 = some (.inl (1, fs)) := xck_of h
theorem w_X1_sum {E : xE} {l : Launch} {a0 : Nat} {a1 : Int32} {r : Int32} {σ σ9 : xS} (h : (f_X1_sum a0 a1).1 σ = some (r, σ9)) : xMet E l yX1_sum (ws_ yX1_sum cX1_sum 5 (some .int)) 4 121 [.ref a0, .int a1] σ σ9 (some (.int r)) := by
  refine xstart (by decide +kernel) ((f_X1_sum a0 a1).2 _ _ _ h) (Nat.le_of_ble_eq_true rfl) ?_
  intro p e s m args below meth c H locs cells slots ls R hX hI hl
  have hx := hX.1.1
  have hb := hX.1.2.1
  have hl : lv_has ls 5 [(0, .ref a0), (1, .int a1)] := hl
  generalize hσ0 : σ = σ0 at hX hI ⊢
  have h : (f_X1_sum a0 a1).1 σ0 = some (r, σ9) := by rw [← hσ0]; exact h
  clear hσ0
  delta f_X1_sum at h
  have h := (xck_bd h).2
  refine lv_iconst (v := (0 : Int32)) hx hb dX1_sum_0 (by decide) ?_
  refine lv_istore_n (lv' := [(2, .int (0 : Int32)), (0, .ref a0), (1, .int a1)]) hx hb dX1_sum_1 rfl hl (Nat.le_of_ble_eq_true rfl) rfl (fun ls hl => ?_)
  refine lv_aload_n hx hb dX1_sum_2 rfl (lv_at hl 1 rfl) ?_
  refine xr_gN h hX hI xl_X1_12_1.g dX1_sum_3 (fun v13 h => ?_)
  refine xr_callV (iv := (fun b => some (.ref b))) (As := []) (rest := []) h hX hI (fun _ _ h => w_X2_iterator h) (fun _ _ h => o_X2_iterator h) rfl 0 (lw_V q1276 q1277 q1278 q76 q1279) ⟨rfl, xd_X2_iterator⟩ ⟨rfl, rfl⟩ rfl hl.1 (Nat.le_of_ble_eq_true rfl) dX1_sum_6 (fun v14 H locs σ cells slots h hI => ?_)
  refine W.eq (g2 := F0 m 9 ls [.ref v14]) rfl ?_
  refine lv_astore_n (lv' := [(3, .ref v14), (2, .int (0 : Int32)), (0, .ref a0), (1, .int a1)]) hx hb dX1_sum_9 rfl hl (Nat.le_of_ble_eq_true rfl) rfl (fun ls hl => ?_)
  exact w_X1_sum_L10 hX xFU a1 (0 : Int32) v14 _ _ _ _ _ _ h hI (lv_sub hl [3, 1, 0] rfl)
/-! PayMatch$State.invoicesIn(I)I  -/
theorem w_X1_invoicesIn_b45 {rec10 : Int32 → Int32 → Nat → xM Int32} {t0 : Int32} {t1 : Int32} {a1 : Int32} {a3 : Nat} {r : Int32} (hX : xX E R p m c cX1_invoicesIn 5 s args RX1 "invoicesIn" meth (some .int) 4 121 σ0 σ9) (hrec10 : ∀ (a1 : Int32) (a2 : Int32) (a3 : Nat) (σ : xS) (H : Heap) (locs : List Loc) (cells slots : Nat) (ls : Array Slot), (rec10 a1 a2 a3).1 σ = some (r, σ9) → xI E σ0 σ s H locs cells slots → lv_has ls 5 [(1, .int a1), (2, .int a2), (3, .ref a3)] → W p l e R s m args below meth c H locs cells slots (xMQ E below args s σ0 σ9 (some (.int r))) (F0 m 10 ls []))
    (h : (f_X1_invoicesIn_b45 rec10 t0 t1 a1 a3).1 σ = some (r, σ9)) (hI : xI E σ0 σ s H locs cells slots) (hl : lv_has ls 5 [(1, .int a1), (3, .ref a3)]) : W p l e R s m args below meth c H locs cells slots (xMQ E below args s σ0 σ9 (some (.int r))) (F0 m 45 ls [.int t1, .int t0]) := by
  have hx := hX.1.1
  have hb := hX.1.2.1
  delta f_X1_invoicesIn_b45 at h
  refine lv_iadd hx hb dX1_invoicesIn_45 ?_
  refine lv_istore_n (lv' := [(2, .int (t0 + t1)), (1, .int a1), (3, .ref a3)]) hx hb dX1_invoicesIn_46 rfl hl (Nat.le_of_ble_eq_true rfl) rfl (fun ls hl => ?_)
  refine lv_goto (tgt := 10) hx hb dX1_invoicesIn_47 (by decide) ?_
  exact hrec10 a1 (t0 + t1) a3 _ _ _ _ _ _ h hI (lv_sub hl [1, 0, 2] rfl)
theorem w_X1_invoicesIn_b10 {rec10 : Int32 → Int32 → Nat → xM Int32} {a1 : Int32} {a2 : Int32} {a3 : Nat} {r : Int32} (hX : xX E R p m c cX1_invoicesIn 5 s args RX1 "invoicesIn" meth (some .int) 4 121 σ0 σ9) (hrec10 : ∀ (a1 : Int32) (a2 : Int32) (a3 : Nat) (σ : xS) (H : Heap) (locs : List Loc) (cells slots : Nat) (ls : Array Slot), (rec10 a1 a2 a3).1 σ = some (r, σ9) → xI E σ0 σ s H locs cells slots → lv_has ls 5 [(1, .int a1), (2, .int a2), (3, .ref a3)] → W p l e R s m args below meth c H locs cells slots (xMQ E below args s σ0 σ9 (some (.int r))) (F0 m 10 ls []))
    (h : (f_X1_invoicesIn_b10 rec10 a1 a2 a3).1 σ = some (r, σ9)) (hI : xI E σ0 σ s H locs cells slots) (hl : lv_has ls 5 [(1, .int a1), (2, .int a2), (3, .ref a3)]) : W p l e R s m args below meth c H locs cells slots (xMQ E below args s σ0 σ9 (some (.int r))) (F0 m 10 ls []) := by
  have hx := hX.1.1
  have hb := hX.1.2.1
  delta f_X1_invoicesIn_b10 at h
  refine lv_aload_n hx hb dX1_invoicesIn_10 rfl (lv_at hl 2 rfl) ?_
  refine xr_callF (iv := (fun b => some (.int b))) (As := []) (rest := []) h hX hI (fun _ _ h => w_J10_hasNext h) (fun _ _ h => o_J10_hasNext h) rfl 0 xfw_4 q1168 q460 q462 q89 q464 xdi_4 ⟨rfl, rfl⟩ rfl hl.1 (Nat.le_of_ble_eq_true rfl) dX1_invoicesIn_11 (fun v6 H locs σ cells slots h hI => ?_)
  refine W.eq (g2 := F0 m 16 ls [.int v6]) rfl ?_
  refine lv_if_eq (tgt := 50) hx hb dX1_invoicesIn_16 (by decide) (fun hc => ?_) (fun hc => ?_)
  · have h := xif_t h hc
    refine lv_iload_n hx hb dX1_invoicesIn_50 rfl (lv_at hl 1 rfl) ?_
    exact xr_ireturn h hX hI dX1_invoicesIn_51
  · have h := xif_f h hc
    refine lv_aload_n hx hb dX1_invoicesIn_19 rfl (lv_at hl 2 rfl) ?_
    refine xr_callF (iv := (fun b => some (.ref b))) (As := []) (rest := []) h hX hI (fun _ _ h => w_J10_next h) (fun _ _ h => o_J10_next h) rfl 0 xfw_6 q1170 q828 q830 q89 q832 xdi_6 ⟨rfl, rfl⟩ rfl hl.1 (Nat.le_of_ble_eq_true rfl) dX1_invoicesIn_20 (fun v7 H locs σ cells slots h hI => ?_)
    refine W.eq (g2 := F0 m 25 ls [.ref v7]) rfl ?_
    refine xr_cks h hX hI xc_X1_109 dX1_invoicesIn_25 (fun h => ?_)
    refine lv_astore (lv' := [(4, .ref v7), (1, .int a1), (2, .int a2), (3, .ref a3)]) hx hb dX1_invoicesIn_28 hl (Nat.le_of_ble_eq_true rfl) rfl (fun ls hl => ?_)
    refine lv_iload_n hx hb dX1_invoicesIn_30 rfl (lv_at hl 2 rfl) ?_
    refine lv_aload hx hb dX1_invoicesIn_31 (lv_at hl 0 rfl) ?_
    refine xr_gI h hX hI xl_X1_168_4.g dX1_invoicesIn_33 (fun v8 h => ?_)
    refine lv_iload_n hx hb dX1_invoicesIn_36 rfl (lv_at hl 1 rfl) ?_
    refine lv_icmp_ne (tgt := 44) hx hb dX1_invoicesIn_37 (by decide) (fun hc => ?_) (fun hc => ?_)
    · have h := xif_f h hc
      refine lv_iconst (v := (0 : Int32)) hx hb dX1_invoicesIn_44 (by decide) ?_
      exact w_X1_invoicesIn_b45 hX hrec10 h hI (lv_sub hl [1, 3] rfl)
    · have h := xif_t h hc
      refine lv_iconst (v := (1 : Int32)) hx hb dX1_invoicesIn_40 (by decide) ?_
      refine lv_goto (tgt := 45) hx hb dX1_invoicesIn_41 (by decide) ?_
      exact w_X1_invoicesIn_b45 hX hrec10 h hI (lv_sub hl [1, 3] rfl)
theorem w_X1_invoicesIn_L10 {r : Int32} (hX : xX E R p m c cX1_invoicesIn 5 s args RX1 "invoicesIn" meth (some .int) 4 121 σ0 σ9) : ∀ (n : Nat) (a1 : Int32) (a2 : Int32) (a3 : Nat) (σ : xS) (H : Heap) (locs : List Loc) (cells slots : Nat) (ls : Array Slot), (f_X1_invoicesIn_L10 n a1 a2 a3).1 σ = some (r, σ9) → xI E σ0 σ s H locs cells slots → lv_has ls 5 [(1, .int a1), (2, .int a2), (3, .ref a3)] → W p l e R s m args below meth c H locs cells slots (xMQ E below args s σ0 σ9 (some (.int r))) (F0 m 10 ls []) := by
  intro n
  induction n with
  | zero =>
    intro a1 a2 a3 σ H locs cells slots ls h
    exact xr_no h
  | succ n ih =>
    intro a1 a2 a3 σ H locs cells slots ls h hI hl
    exact w_X1_invoicesIn_b10 hX ih h hI hl
theorem o_X1_invoicesIn {a0 : Nat} {a1 : Int32} {r : Int32} {σ σ9 : xS} (h : (f_X1_invoicesIn a0 a1).1 σ = some (r, σ9)) : ∃ fs, σ.1 a0 = some (.inl (1, fs)) := xck_of h
theorem w_X1_invoicesIn {E : xE} {l : Launch} {a0 : Nat} {a1 : Int32} {r : Int32} {σ σ9 : xS} (h : (f_X1_invoicesIn a0 a1).1 σ = some (r, σ9)) : xMet E l yX1_invoicesIn (ws_ yX1_invoicesIn cX1_invoicesIn 5 (some .int)) 4 121 [.ref a0, .int a1] σ σ9 (some (.int r)) := by
  refine xstart (by decide +kernel) ((f_X1_invoicesIn a0 a1).2 _ _ _ h) (Nat.le_of_ble_eq_true rfl) ?_
  intro p e s m args below meth c H locs cells slots ls R hX hI hl
  have hx := hX.1.1
  have hb := hX.1.2.1
  have hl : lv_has ls 5 [(0, .ref a0), (1, .int a1)] := hl
  generalize hσ0 : σ = σ0 at hX hI ⊢
  have h : (f_X1_invoicesIn a0 a1).1 σ0 = some (r, σ9) := by rw [← hσ0]; exact h
  clear hσ0
  delta f_X1_invoicesIn at h
  have h := (xck_bd h).2
  refine lv_iconst (v := (0 : Int32)) hx hb dX1_invoicesIn_0 (by decide) ?_
  refine lv_istore_n (lv' := [(2, .int (0 : Int32)), (0, .ref a0), (1, .int a1)]) hx hb dX1_invoicesIn_1 rfl hl (Nat.le_of_ble_eq_true rfl) rfl (fun ls hl => ?_)
  refine lv_aload_n hx hb dX1_invoicesIn_2 rfl (lv_at hl 1 rfl) ?_
  refine xr_gN h hX hI xl_X1_21_1.g dX1_invoicesIn_3 (fun v9 h => ?_)
  refine xr_callV (iv := (fun b => some (.ref b))) (As := []) (rest := []) h hX hI (fun _ _ h => w_X2_iterator h) (fun _ _ h => o_X2_iterator h) rfl 0 (lw_V q1276 q1277 q1278 q76 q1279) ⟨rfl, xd_X2_iterator⟩ ⟨rfl, rfl⟩ rfl hl.1 (Nat.le_of_ble_eq_true rfl) dX1_invoicesIn_6 (fun v10 H locs σ cells slots h hI => ?_)
  refine W.eq (g2 := F0 m 9 ls [.ref v10]) rfl ?_
  refine lv_astore_n (lv' := [(3, .ref v10), (2, .int (0 : Int32)), (0, .ref a0), (1, .int a1)]) hx hb dX1_invoicesIn_9 rfl hl (Nat.le_of_ble_eq_true rfl) rfl (fun ls hl => ?_)
  exact w_X1_invoicesIn_L10 hX xFU a1 (0 : Int32) v10 _ _ _ _ _ _ h hI (lv_sub hl [3, 1, 0] rfl)
/-! PayMatch.count(I)I  -/
theorem w_X0_count_b88 {a0 : Nat} {r : Int32} (hX : xX E R p m c cX0_count 2 s args RX0 "count" meth (some .int) 5 145 σ0 σ9)
    (h : (f_X0_count_b88 a0).1 σ = some (r, σ9)) (hI : xI E σ0 σ s H locs cells slots) (hl : lv_has ls 2 [(0, .ref a0)]) : W p l e R s m args below meth c H locs cells slots (xMQ E below args s σ0 σ9 (some (.int r))) (F0 m 88 ls []) := by
  have hx := hX.1.1
  have hb := hX.1.2.1
  delta f_X0_count_b88 at h
  refine lv_aload_n hx hb dX0_count_88 rfl (lv_at hl 0 rfl) ?_
  refine xr_gN h hX hI xl_X0_22_0.g dX0_count_89 (fun v55 h => ?_)
  refine xr_gI h hX hI xl_X0_290_1.g dX0_count_92 (fun v56 h => ?_)
  refine lv_goto (tgt := 226) hx hb dX0_count_95 (by decide) ?_
  exact xr_ireturn h hX hI dX0_count_226
theorem w_X0_count_b98 {a0 : Nat} {r : Int32} (hX : xX E R p m c cX0_count 2 s args RX0 "count" meth (some .int) 5 145 σ0 σ9)
    (h : (f_X0_count_b98 a0).1 σ = some (r, σ9)) (hI : xI E σ0 σ s H locs cells slots) (hl : lv_has ls 2 [(0, .ref a0)]) : W p l e R s m args below meth c H locs cells slots (xMQ E below args s σ0 σ9 (some (.int r))) (F0 m 98 ls []) := by
  have hx := hX.1.1
  have hb := hX.1.2.1
  delta f_X0_count_b98 at h
  refine lv_aload_n hx hb dX0_count_98 rfl (lv_at hl 0 rfl) ?_
  refine xr_gN h hX hI xl_X0_22_0.g dX0_count_99 (fun v52 h => ?_)
  refine xr_gN h hX hI xl_X0_60_1.g dX0_count_102 (fun v53 h => ?_)
  refine xr_callV (iv := (fun b => some (.int b))) (As := []) (rest := []) h hX hI (fun _ _ h => w_X2_size h) (fun _ _ h => o_X2_size h) rfl 0 (lw_V q303 q304 q305 q76 q306) ⟨rfl, xd_X2_size⟩ ⟨rfl, rfl⟩ rfl hl.1 (Nat.le_of_ble_eq_true rfl) dX0_count_105 (fun v54 H locs σ cells slots h hI => ?_)
  refine W.eq (g2 := F0 m 108 ls [.int v54]) rfl ?_
  refine lv_goto (tgt := 226) hx hb dX0_count_108 (by decide) ?_
  exact xr_ireturn h hX hI dX0_count_226
theorem w_X0_count_b111 {a0 : Nat} {r : Int32} (hX : xX E R p m c cX0_count 2 s args RX0 "count" meth (some .int) 5 145 σ0 σ9)
    (h : (f_X0_count_b111 a0).1 σ = some (r, σ9)) (hI : xI E σ0 σ s H locs cells slots) (hl : lv_has ls 2 [(0, .ref a0)]) : W p l e R s m args below meth c H locs cells slots (xMQ E below args s σ0 σ9 (some (.int r))) (F0 m 111 ls []) := by
  have hx := hX.1.1
  have hb := hX.1.2.1
  delta f_X0_count_b111 at h
  refine lv_aload_n hx hb dX0_count_111 rfl (lv_at hl 0 rfl) ?_
  refine xr_gN h hX hI xl_X0_22_0.g dX0_count_112 (fun v49 h => ?_)
  refine xr_gN h hX hI xl_X0_130_1.g dX0_count_115 (fun v50 h => ?_)
  refine xr_callV (iv := (fun b => some (.int b))) (As := []) (rest := []) h hX hI (fun _ _ h => w_X2_size h) (fun _ _ h => o_X2_size h) rfl 0 (lw_V q303 q304 q305 q76 q306) ⟨rfl, xd_X2_size⟩ ⟨rfl, rfl⟩ rfl hl.1 (Nat.le_of_ble_eq_true rfl) dX0_count_118 (fun v51 H locs σ cells slots h hI => ?_)
  refine W.eq (g2 := F0 m 121 ls [.int v51]) rfl ?_
  refine lv_goto (tgt := 226) hx hb dX0_count_121 (by decide) ?_
  exact xr_ireturn h hX hI dX0_count_226
theorem w_X0_count_b124 {a0 : Nat} {r : Int32} (hX : xX E R p m c cX0_count 2 s args RX0 "count" meth (some .int) 5 145 σ0 σ9)
    (h : (f_X0_count_b124 a0).1 σ = some (r, σ9)) (hI : xI E σ0 σ s H locs cells slots) (hl : lv_has ls 2 [(0, .ref a0)]) : W p l e R s m args below meth c H locs cells slots (xMQ E below args s σ0 σ9 (some (.int r))) (F0 m 124 ls []) := by
  have hx := hX.1.1
  have hb := hX.1.2.1
  delta f_X0_count_b124 at h
  refine lv_aload_n hx hb dX0_count_124 rfl (lv_at hl 0 rfl) ?_
  refine xr_gN h hX hI xl_X0_22_0.g dX0_count_125 (fun v46 h => ?_)
  refine xr_gN h hX hI xl_X0_211_1.g dX0_count_128 (fun v47 h => ?_)
  refine xr_callV (iv := (fun b => some (.int b))) (As := []) (rest := []) h hX hI (fun _ _ h => w_X2_size h) (fun _ _ h => o_X2_size h) rfl 0 (lw_V q303 q304 q305 q76 q306) ⟨rfl, xd_X2_size⟩ ⟨rfl, rfl⟩ rfl hl.1 (Nat.le_of_ble_eq_true rfl) dX0_count_131 (fun v48 H locs σ cells slots h hI => ?_)
  refine W.eq (g2 := F0 m 134 ls [.int v48]) rfl ?_
  refine lv_goto (tgt := 226) hx hb dX0_count_134 (by decide) ?_
  exact xr_ireturn h hX hI dX0_count_226
theorem w_X0_count_b137 {a0 : Nat} {a1 : Int32} {r : Int32} (hX : xX E R p m c cX0_count 2 s args RX0 "count" meth (some .int) 5 145 σ0 σ9)
    (h : (f_X0_count_b137 a0 a1).1 σ = some (r, σ9)) (hI : xI E σ0 σ s H locs cells slots) (hl : lv_has ls 2 [(0, .ref a0), (1, .int a1)]) : W p l e R s m args below meth c H locs cells slots (xMQ E below args s σ0 σ9 (some (.int r))) (F0 m 137 ls []) := by
  have hx := hX.1.1
  have hb := hX.1.2.1
  delta f_X0_count_b137 at h
  refine lv_aload_n hx hb dX0_count_137 rfl (lv_at hl 0 rfl) ?_
  refine xr_gN h hX hI xl_X0_22_0.g dX0_count_138 (fun v44 h => ?_)
  refine lv_iload_n hx hb dX0_count_141 rfl (lv_at hl 1 rfl) ?_
  refine lv_iconst (v := (4 : Int32)) hx hb dX0_count_142 (by decide) ?_
  refine lv_isub hx hb dX0_count_143 ?_
  refine xr_callV (iv := (fun b => some (.int b))) (As := [.int (a1 - (4 : Int32))]) (rest := []) h hX hI (fun _ _ h => w_X1_invoicesIn h) (fun _ _ h => o_X1_invoicesIn h) rfl 1 (lw_V q1954 q1955 q1956 q75 q1957) ⟨rfl, xd_X1_invoicesIn⟩ ⟨rfl, rfl⟩ rfl hl.1 (Nat.le_of_ble_eq_true rfl) dX0_count_144 (fun v45 H locs σ cells slots h hI => ?_)
  refine W.eq (g2 := F0 m 147 ls [.int v45]) rfl ?_
  refine lv_goto (tgt := 226) hx hb dX0_count_147 (by decide) ?_
  exact xr_ireturn h hX hI dX0_count_226
theorem w_X0_count_b150 {a0 : Nat} {a1 : Int32} {r : Int32} (hX : xX E R p m c cX0_count 2 s args RX0 "count" meth (some .int) 5 145 σ0 σ9)
    (h : (f_X0_count_b150 a0 a1).1 σ = some (r, σ9)) (hI : xI E σ0 σ s H locs cells slots) (hl : lv_has ls 2 [(0, .ref a0), (1, .int a1)]) : W p l e R s m args below meth c H locs cells slots (xMQ E below args s σ0 σ9 (some (.int r))) (F0 m 150 ls []) := by
  have hx := hX.1.1
  have hb := hX.1.2.1
  delta f_X0_count_b150 at h
  refine lv_aload_n hx hb dX0_count_150 rfl (lv_at hl 0 rfl) ?_
  refine xr_gN h hX hI xl_X0_22_0.g dX0_count_151 (fun v42 h => ?_)
  refine lv_iload_n hx hb dX0_count_154 rfl (lv_at hl 1 rfl) ?_
  refine xr_callV (iv := (fun b => some (.int b))) (As := [.int a1]) (rest := []) h hX hI (fun _ _ h => w_X1_sum h) (fun _ _ h => o_X1_sum h) rfl 1 (lw_V q1958 q1959 q1960 q75 q1961) ⟨rfl, xd_X1_sum⟩ ⟨rfl, rfl⟩ rfl hl.1 (Nat.le_of_ble_eq_true rfl) dX0_count_155 (fun v43 H locs σ cells slots h hI => ?_)
  refine W.eq (g2 := F0 m 158 ls [.int v43]) rfl ?_
  refine lv_goto (tgt := 226) hx hb dX0_count_158 (by decide) ?_
  exact xr_ireturn h hX hI dX0_count_226
theorem w_X0_count_b161 {a0 : Nat} {r : Int32} (hX : xX E R p m c cX0_count 2 s args RX0 "count" meth (some .int) 5 145 σ0 σ9)
    (h : (f_X0_count_b161 a0).1 σ = some (r, σ9)) (hI : xI E σ0 σ s H locs cells slots) (hl : lv_has ls 2 [(0, .ref a0)]) : W p l e R s m args below meth c H locs cells slots (xMQ E below args s σ0 σ9 (some (.int r))) (F0 m 161 ls []) := by
  have hx := hX.1.1
  have hb := hX.1.2.1
  delta f_X0_count_b161 at h
  refine lv_aload_n hx hb dX0_count_161 rfl (lv_at hl 0 rfl) ?_
  refine xr_gN h hX hI xl_X0_22_0.g dX0_count_162 (fun v39 h => ?_)
  refine xr_gN h hX hI xl_X0_60_1.g dX0_count_165 (fun v40 h => ?_)
  refine xr_callS (iv := (fun b => some (.int b))) (As := [.ref v40]) (rest := []) h hX hI (fun _ _ h => w_X8_weightOf_7 h) 1 (lw_S q1962 q1337 q110 q1338) xd_X8_weightOf ⟨rfl, rfl⟩ rfl hl.1 (Nat.le_of_ble_eq_true rfl) dX0_count_168 (fun v41 H locs σ cells slots h hI => ?_)
  refine W.eq (g2 := F0 m 171 ls [.int v41]) rfl ?_
  refine lv_goto (tgt := 226) hx hb dX0_count_171 (by decide) ?_
  exact xr_ireturn h hX hI dX0_count_226
theorem w_X0_count_b174 {a0 : Nat} {r : Int32} (hX : xX E R p m c cX0_count 2 s args RX0 "count" meth (some .int) 5 145 σ0 σ9)
    (h : (f_X0_count_b174 a0).1 σ = some (r, σ9)) (hI : xI E σ0 σ s H locs cells slots) (hl : lv_has ls 2 [(0, .ref a0)]) : W p l e R s m args below meth c H locs cells slots (xMQ E below args s σ0 σ9 (some (.int r))) (F0 m 174 ls []) := by
  have hx := hX.1.1
  have hb := hX.1.2.1
  delta f_X0_count_b174 at h
  refine lv_aload_n hx hb dX0_count_174 rfl (lv_at hl 0 rfl) ?_
  refine xr_gN h hX hI xl_X0_22_0.g dX0_count_175 (fun v37 h => ?_)
  refine xr_gI h hX hI xl_X0_426_1.g dX0_count_178 (fun v38 h => ?_)
  refine lv_goto (tgt := 226) hx hb dX0_count_181 (by decide) ?_
  exact xr_ireturn h hX hI dX0_count_226
theorem w_X0_count_b184 {a0 : Nat} {r : Int32} (hX : xX E R p m c cX0_count 2 s args RX0 "count" meth (some .int) 5 145 σ0 σ9)
    (h : (f_X0_count_b184 a0).1 σ = some (r, σ9)) (hI : xI E σ0 σ s H locs cells slots) (hl : lv_has ls 2 [(0, .ref a0)]) : W p l e R s m args below meth c H locs cells slots (xMQ E below args s σ0 σ9 (some (.int r))) (F0 m 184 ls []) := by
  have hx := hX.1.1
  have hb := hX.1.2.1
  delta f_X0_count_b184 at h
  refine lv_aload_n hx hb dX0_count_184 rfl (lv_at hl 0 rfl) ?_
  refine xr_gN h hX hI xl_X0_22_0.g dX0_count_185 (fun v35 h => ?_)
  refine xr_gI h hX hI xl_X0_127_1.g dX0_count_188 (fun v36 h => ?_)
  refine lv_goto (tgt := 226) hx hb dX0_count_191 (by decide) ?_
  exact xr_ireturn h hX hI dX0_count_226
theorem w_X0_count_b194 {a0 : Nat} {r : Int32} (hX : xX E R p m c cX0_count 2 s args RX0 "count" meth (some .int) 5 145 σ0 σ9)
    (h : (f_X0_count_b194 a0).1 σ = some (r, σ9)) (hI : xI E σ0 σ s H locs cells slots) (hl : lv_has ls 2 [(0, .ref a0)]) : W p l e R s m args below meth c H locs cells slots (xMQ E below args s σ0 σ9 (some (.int r))) (F0 m 194 ls []) := by
  have hx := hX.1.1
  have hb := hX.1.2.1
  delta f_X0_count_b194 at h
  refine lv_aload_n hx hb dX0_count_194 rfl (lv_at hl 0 rfl) ?_
  refine xr_gN h hX hI xl_X0_22_0.g dX0_count_195 (fun v33 h => ?_)
  refine xr_gI h hX hI xl_X0_124_1.g dX0_count_198 (fun v34 h => ?_)
  refine lv_goto (tgt := 226) hx hb dX0_count_201 (by decide) ?_
  exact xr_ireturn h hX hI dX0_count_226
theorem w_X0_count_b204 {a0 : Nat} {r : Int32} (hX : xX E R p m c cX0_count 2 s args RX0 "count" meth (some .int) 5 145 σ0 σ9)
    (h : (f_X0_count_b204 a0).1 σ = some (r, σ9)) (hI : xI E σ0 σ s H locs cells slots) (hl : lv_has ls 2 [(0, .ref a0)]) : W p l e R s m args below meth c H locs cells slots (xMQ E below args s σ0 σ9 (some (.int r))) (F0 m 204 ls []) := by
  have hx := hX.1.1
  have hb := hX.1.2.1
  delta f_X0_count_b204 at h
  refine lv_aload_n hx hb dX0_count_204 rfl (lv_at hl 0 rfl) ?_
  refine xr_gN h hX hI xl_X0_31_0.g dX0_count_205 (fun v31 h => ?_)
  refine xr_callV (iv := (fun b => some (.int b))) (As := []) (rest := []) h hX hI (fun _ _ h => w_J5_size h) (fun _ _ h => o_J5_size h) rfl 0 (lw_V q1203 q1204 q1205 q82 q1206) ⟨rfl, xd_J5_size⟩ ⟨rfl, rfl⟩ rfl hl.1 (Nat.le_of_ble_eq_true rfl) dX0_count_208 (fun v32 H locs σ cells slots h hI => ?_)
  refine W.eq (g2 := F0 m 211 ls [.int v32]) rfl ?_
  refine lv_goto (tgt := 226) hx hb dX0_count_211 (by decide) ?_
  exact xr_ireturn h hX hI dX0_count_226
theorem w_X0_count_b214 {a0 : Nat} {r : Int32} (hX : xX E R p m c cX0_count 2 s args RX0 "count" meth (some .int) 5 145 σ0 σ9)
    (h : (f_X0_count_b214 a0).1 σ = some (r, σ9)) (hI : xI E σ0 σ s H locs cells slots) (hl : lv_has ls 2 [(0, .ref a0)]) : W p l e R s m args below meth c H locs cells slots (xMQ E below args s σ0 σ9 (some (.int r))) (F0 m 214 ls []) := by
  have hx := hX.1.1
  have hb := hX.1.2.1
  delta f_X0_count_b214 at h
  refine lv_aload_n hx hb dX0_count_214 rfl (lv_at hl 0 rfl) ?_
  refine xr_gN h hX hI xl_X0_40_0.g dX0_count_215 (fun v29 h => ?_)
  refine xr_callV (iv := (fun b => some (.int b))) (As := []) (rest := []) h hX hI (fun _ _ h => w_J7_length h) (fun _ _ h => o_J7_length h) rfl 0 (lw_V q1788 q766 q2379 q84 q767) ⟨rfl, xd_J7_length⟩ ⟨rfl, rfl⟩ rfl hl.1 (Nat.le_of_ble_eq_true rfl) dX0_count_218 (fun v30 H locs σ cells slots h hI => ?_)
  refine W.eq (g2 := F0 m 221 ls [.int v30]) rfl ?_
  refine lv_goto (tgt := 226) hx hb dX0_count_221 (by decide) ?_
  exact xr_ireturn h hX hI dX0_count_226
theorem o_X0_count {a0 : Nat} {a1 : Int32} {r : Int32} {σ σ9 : xS} (h : (f_X0_count a0 a1).1 σ = some (r, σ9)) : ∃ fs, σ.1 a0 = some (.inl (0, fs)) := xck_of h
theorem w_X0_count {E : xE} {l : Launch} {a0 : Nat} {a1 : Int32} {r : Int32} {σ σ9 : xS} (h : (f_X0_count a0 a1).1 σ = some (r, σ9)) : xMet E l yX0_count (ws_ yX0_count cX0_count 2 (some .int)) 5 145 [.ref a0, .int a1] σ σ9 (some (.int r)) := by
  refine xstart (by decide +kernel) ((f_X0_count a0 a1).2 _ _ _ h) (Nat.le_of_ble_eq_true rfl) ?_
  intro p e s m args below meth c H locs cells slots ls R hX hI hl
  have hx := hX.1.1
  have hb := hX.1.2.1
  have hl : lv_has ls 2 [(0, .ref a0), (1, .int a1)] := hl
  generalize hσ0 : σ = σ0 at hX hI ⊢
  have h : (f_X0_count a0 a1).1 σ0 = some (r, σ9) := by rw [← hσ0]; exact h
  clear hσ0
  delta f_X0_count at h
  have h := (xck_bd h).2
  refine lv_iload_n hx hb dX0_count_0 rfl (lv_at hl 1 rfl) ?_
  refine xif h (fun hc0 h => ?_) (fun hc0 h => ?_)
  · refine W.eq (g2 := F0 m 1 ls (.int (0 : Int32) :: [])) (by rw [hc0]) ?_
    refine lv_tableIn (tgt := 88) (off := 87) hx hb dX0_count_1 (by decide) (by decide) (by decide) (by decide) ?_
    exact w_X0_count_b88 hX h hI (lv_sub hl [0] rfl)
  · refine xif h (fun hc1 h => ?_) (fun hc1 h => ?_)
    · refine W.eq (g2 := F0 m 1 ls (.int (1 : Int32) :: [])) (by rw [hc1]) ?_
      refine lv_tableIn (tgt := 98) (off := 97) hx hb dX0_count_1 (by decide) (by decide) (by decide) (by decide) ?_
      exact w_X0_count_b98 hX h hI (lv_sub hl [0] rfl)
    · refine xif h (fun hc2 h => ?_) (fun hc2 h => ?_)
      · refine W.eq (g2 := F0 m 1 ls (.int (2 : Int32) :: [])) (by rw [hc2]) ?_
        refine lv_tableIn (tgt := 111) (off := 110) hx hb dX0_count_1 (by decide) (by decide) (by decide) (by decide) ?_
        exact w_X0_count_b111 hX h hI (lv_sub hl [0] rfl)
      · refine xif h (fun hc3 h => ?_) (fun hc3 h => ?_)
        · refine W.eq (g2 := F0 m 1 ls (.int (3 : Int32) :: [])) (by rw [hc3]) ?_
          refine lv_tableIn (tgt := 124) (off := 123) hx hb dX0_count_1 (by decide) (by decide) (by decide) (by decide) ?_
          exact w_X0_count_b124 hX h hI (lv_sub hl [0] rfl)
        · refine xif h (fun hc4 h => ?_) (fun hc4 h => ?_)
          · refine W.eq (g2 := F0 m 1 ls (.int (4 : Int32) :: [])) (by rw [hc4]) ?_
            refine lv_tableIn (tgt := 137) (off := 136) hx hb dX0_count_1 (by decide) (by decide) (by decide) (by decide) ?_
            exact w_X0_count_b137 hX h hI (lv_sub hl [0, 1] rfl)
          · refine xif h (fun hc5 h => ?_) (fun hc5 h => ?_)
            · refine W.eq (g2 := F0 m 1 ls (.int (5 : Int32) :: [])) (by rw [hc5]) ?_
              refine lv_tableIn (tgt := 137) (off := 136) hx hb dX0_count_1 (by decide) (by decide) (by decide) (by decide) ?_
              exact w_X0_count_b137 hX h hI (lv_sub hl [0, 1] rfl)
            · refine xif h (fun hc6 h => ?_) (fun hc6 h => ?_)
              · refine W.eq (g2 := F0 m 1 ls (.int (6 : Int32) :: [])) (by rw [hc6]) ?_
                refine lv_tableIn (tgt := 137) (off := 136) hx hb dX0_count_1 (by decide) (by decide) (by decide) (by decide) ?_
                exact w_X0_count_b137 hX h hI (lv_sub hl [0, 1] rfl)
              · refine xif h (fun hc7 h => ?_) (fun hc7 h => ?_)
                · refine W.eq (g2 := F0 m 1 ls (.int (7 : Int32) :: [])) (by rw [hc7]) ?_
                  refine lv_tableIn (tgt := 137) (off := 136) hx hb dX0_count_1 (by decide) (by decide) (by decide) (by decide) ?_
                  exact w_X0_count_b137 hX h hI (lv_sub hl [0, 1] rfl)
                · refine xif h (fun hc8 h => ?_) (fun hc8 h => ?_)
                  · refine W.eq (g2 := F0 m 1 ls (.int (8 : Int32) :: [])) (by rw [hc8]) ?_
                    refine lv_tableIn (tgt := 137) (off := 136) hx hb dX0_count_1 (by decide) (by decide) (by decide) (by decide) ?_
                    exact w_X0_count_b137 hX h hI (lv_sub hl [0, 1] rfl)
                  · refine xif h (fun hc9 h => ?_) (fun hc9 h => ?_)
                    · refine W.eq (g2 := F0 m 1 ls (.int (9 : Int32) :: [])) (by rw [hc9]) ?_
                      refine lv_tableIn (tgt := 150) (off := 149) hx hb dX0_count_1 (by decide) (by decide) (by decide) (by decide) ?_
                      exact w_X0_count_b150 hX h hI (lv_sub hl [0, 1] rfl)
                    · refine xif h (fun hc10 h => ?_) (fun hc10 h => ?_)
                      · refine W.eq (g2 := F0 m 1 ls (.int (10 : Int32) :: [])) (by rw [hc10]) ?_
                        refine lv_tableIn (tgt := 161) (off := 160) hx hb dX0_count_1 (by decide) (by decide) (by decide) (by decide) ?_
                        exact w_X0_count_b161 hX h hI (lv_sub hl [0] rfl)
                      · refine xif h (fun hc11 h => ?_) (fun hc11 h => ?_)
                        · refine W.eq (g2 := F0 m 1 ls (.int (11 : Int32) :: [])) (by rw [hc11]) ?_
                          refine lv_tableIn (tgt := 174) (off := 173) hx hb dX0_count_1 (by decide) (by decide) (by decide) (by decide) ?_
                          exact w_X0_count_b174 hX h hI (lv_sub hl [0] rfl)
                        · refine xif h (fun hc12 h => ?_) (fun hc12 h => ?_)
                          · refine W.eq (g2 := F0 m 1 ls (.int (12 : Int32) :: [])) (by rw [hc12]) ?_
                            refine lv_tableIn (tgt := 150) (off := 149) hx hb dX0_count_1 (by decide) (by decide) (by decide) (by decide) ?_
                            exact w_X0_count_b150 hX h hI (lv_sub hl [0, 1] rfl)
                          · refine xif h (fun hc13 h => ?_) (fun hc13 h => ?_)
                            · refine W.eq (g2 := F0 m 1 ls (.int (13 : Int32) :: [])) (by rw [hc13]) ?_
                              refine lv_tableIn (tgt := 150) (off := 149) hx hb dX0_count_1 (by decide) (by decide) (by decide) (by decide) ?_
                              exact w_X0_count_b150 hX h hI (lv_sub hl [0, 1] rfl)
                            · refine xif h (fun hc14 h => ?_) (fun hc14 h => ?_)
                              · refine W.eq (g2 := F0 m 1 ls (.int (14 : Int32) :: [])) (by rw [hc14]) ?_
                                refine lv_tableIn (tgt := 184) (off := 183) hx hb dX0_count_1 (by decide) (by decide) (by decide) (by decide) ?_
                                exact w_X0_count_b184 hX h hI (lv_sub hl [0] rfl)
                              · refine xif h (fun hc15 h => ?_) (fun hc15 h => ?_)
                                · refine W.eq (g2 := F0 m 1 ls (.int (15 : Int32) :: [])) (by rw [hc15]) ?_
                                  refine lv_tableIn (tgt := 194) (off := 193) hx hb dX0_count_1 (by decide) (by decide) (by decide) (by decide) ?_
                                  exact w_X0_count_b194 hX h hI (lv_sub hl [0] rfl)
                                · refine xif h (fun hc16 h => ?_) (fun hc16 h => ?_)
                                  · refine W.eq (g2 := F0 m 1 ls (.int (16 : Int32) :: [])) (by rw [hc16]) ?_
                                    refine lv_tableIn (tgt := 204) (off := 203) hx hb dX0_count_1 (by decide) (by decide) (by decide) (by decide) ?_
                                    exact w_X0_count_b204 hX h hI (lv_sub hl [0] rfl)
                                  · refine xif h (fun hc17 h => ?_) (fun hc17 h => ?_)
                                    · refine W.eq (g2 := F0 m 1 ls (.int (17 : Int32) :: [])) (by rw [hc17]) ?_
                                      refine lv_tableIn (tgt := 214) (off := 213) hx hb dX0_count_1 (by decide) (by decide) (by decide) (by decide) ?_
                                      exact w_X0_count_b214 hX h hI (lv_sub hl [0] rfl)
                                    · refine lv_tableOut (tgt := 224) hx hb dX0_count_1 (xtblo (L := [(0 : Int32), (1 : Int32), (2 : Int32), (3 : Int32), (4 : Int32), (5 : Int32), (6 : Int32), (7 : Int32), (8 : Int32), (9 : Int32), (10 : Int32), (11 : Int32), (12 : Int32), (13 : Int32), (14 : Int32), (15 : Int32), (16 : Int32), (17 : Int32)]) (by decide) (by decide) (List.forall_mem_cons.mpr ⟨hc0, (List.forall_mem_cons.mpr ⟨hc1, (List.forall_mem_cons.mpr ⟨hc2, (List.forall_mem_cons.mpr ⟨hc3, (List.forall_mem_cons.mpr ⟨hc4, (List.forall_mem_cons.mpr ⟨hc5, (List.forall_mem_cons.mpr ⟨hc6, (List.forall_mem_cons.mpr ⟨hc7, (List.forall_mem_cons.mpr ⟨hc8, (List.forall_mem_cons.mpr ⟨hc9, (List.forall_mem_cons.mpr ⟨hc10, (List.forall_mem_cons.mpr ⟨hc11, (List.forall_mem_cons.mpr ⟨hc12, (List.forall_mem_cons.mpr ⟨hc13, (List.forall_mem_cons.mpr ⟨hc14, (List.forall_mem_cons.mpr ⟨hc15, (List.forall_mem_cons.mpr ⟨hc16, (List.forall_mem_cons.mpr ⟨hc17, (fun _ h => absurd h List.not_mem_nil)⟩)⟩)⟩)⟩)⟩)⟩)⟩)⟩)⟩)⟩)⟩)⟩)⟩)⟩)⟩)⟩)⟩)⟩)) (by decide) ?_
                                      refine lv_bipush (v := (-2 : Int32)) hx hb dX0_count_224 (by decide) ?_
                                      exact xr_ireturn h hX hI dX0_count_226
/-! PayMatchModel.sumOf(I)I  -/
theorem w_X3_sumOf_b4 {rec4 : Nat → Int32 → Int32 → Int32 → xM Int32} {a0 : Nat} {a1 : Int32} {a2 : Int32} {a3 : Int32} {r : Int32} (hX : xX E R p m c cX3_sumOf 4 s args RX3 "sumOf" meth (some .int) 1 21 σ0 σ9) (hrec4 : ∀ (a0 : Nat) (a1 : Int32) (a2 : Int32) (a3 : Int32) (σ : xS) (H : Heap) (locs : List Loc) (cells slots : Nat) (ls : Array Slot), (rec4 a0 a1 a2 a3).1 σ = some (r, σ9) → xI E σ0 σ s H locs cells slots → lv_has ls 4 [(0, .ref a0), (1, .int a1), (2, .int a2), (3, .int a3)] → W p l e R s m args below meth c H locs cells slots (xMQ E below args s σ0 σ9 (some (.int r))) (F0 m 4 ls []))
    (h : (f_X3_sumOf_b4 rec4 a0 a1 a2 a3).1 σ = some (r, σ9)) (hI : xI E σ0 σ s H locs cells slots) (hl : lv_has ls 4 [(0, .ref a0), (1, .int a1), (2, .int a2), (3, .int a3)]) : W p l e R s m args below meth c H locs cells slots (xMQ E below args s σ0 σ9 (some (.int r))) (F0 m 4 ls []) := by
  have hx := hX.1.1
  have hb := hX.1.2.1
  delta f_X3_sumOf_b4 at h
  refine lv_iload_n hx hb dX3_sumOf_4 rfl (lv_at hl 3 rfl) ?_
  refine lv_aload_n hx hb dX3_sumOf_5 rfl (lv_at hl 0 rfl) ?_
  refine lv_iconst (v := (1 : Int32)) hx hb dX3_sumOf_6 (by decide) ?_
  refine xr_callV (iv := (fun b => some (.int b))) (As := [.int (1 : Int32)]) (rest := [.int a3]) h hX hI (fun _ _ h => w_X3_at h) (fun _ _ h => o_X3_at h) rfl 1 (lw_V q2022 q2024 qs31 q87 q2025) ⟨rfl, xd_X3_at⟩ ⟨rfl, rfl⟩ rfl hl.1 (Nat.le_of_ble_eq_true rfl) dX3_sumOf_7 (fun v4 H locs σ cells slots h hI => ?_)
  refine W.eq (g2 := F0 m 10 ls [.int v4, .int a3]) rfl ?_
  refine lv_icmp_ge (tgt := 31) hx hb dX3_sumOf_10 (by decide) (fun hc => ?_) (fun hc => ?_)
  · have h := xif_t h hc
    refine lv_iload_n hx hb dX3_sumOf_31 rfl (lv_at hl 2 rfl) ?_
    exact xr_ireturn h hX hI dX3_sumOf_32
  · have h := xif_f h hc
    refine lv_iload_n hx hb dX3_sumOf_13 rfl (lv_at hl 2 rfl) ?_
    refine lv_aload_n hx hb dX3_sumOf_14 rfl (lv_at hl 0 rfl) ?_
    refine lv_iload_n hx hb dX3_sumOf_15 rfl (lv_at hl 3 rfl) ?_
    refine lv_iload_n hx hb dX3_sumOf_16 rfl (lv_at hl 1 rfl) ?_
    refine xr_callS (iv := (fun b => some (.int b))) (As := [.int a3, .int a1]) (rest := [.ref a0, .int a2]) h hX hI (fun _ _ h => w_X3_ofSupplier h) 2 (lw_S q2026 q2027 q87 q2028) xd_X3_ofSupplier ⟨rfl, rfl⟩ rfl hl.1 (Nat.le_of_ble_eq_true rfl) dX3_sumOf_17 (fun v5 H locs σ cells slots h hI => ?_)
    refine W.eq (g2 := F0 m 20 ls [.int v5, .ref a0, .int a2]) rfl ?_
    refine xr_callV (iv := (fun b => some (.int b))) (As := [.int v5]) (rest := [.int a2]) h hX hI (fun _ _ h => w_X3_at h) (fun _ _ h => o_X3_at h) rfl 1 (lw_V q2022 q2024 qs31 q87 q2025) ⟨rfl, xd_X3_at⟩ ⟨rfl, rfl⟩ rfl hl.1 (Nat.le_of_ble_eq_true rfl) dX3_sumOf_20 (fun v6 H locs σ cells slots h hI => ?_)
    refine W.eq (g2 := F0 m 23 ls [.int v6, .int a2]) rfl ?_
    refine lv_iadd hx hb dX3_sumOf_23 ?_
    refine lv_istore_n (lv' := [(2, .int (a2 + v6)), (0, .ref a0), (1, .int a1), (3, .int a3)]) hx hb dX3_sumOf_24 rfl hl (Nat.le_of_ble_eq_true rfl) rfl (fun ls hl => ?_)
    refine lv_iinc (k := 3) (lv' := [(3, .int (a3 + (1 : Int32))), (2, .int (a2 + v6)), (0, .ref a0), (1, .int a1)]) hx hb dX3_sumOf_25 hl rfl (xiinc (by decide)) (Nat.le_of_ble_eq_true rfl) rfl (fun ls hl => ?_)
    refine lv_goto (tgt := 4) hx hb dX3_sumOf_28 (by decide) ?_
    exact hrec4 a0 a1 (a2 + v6) (a3 + (1 : Int32)) _ _ _ _ _ _ h hI (lv_sub hl [2, 3, 1, 0] rfl)
theorem w_X3_sumOf_L4 {r : Int32} (hX : xX E R p m c cX3_sumOf 4 s args RX3 "sumOf" meth (some .int) 1 21 σ0 σ9) : ∀ (n : Nat) (a0 : Nat) (a1 : Int32) (a2 : Int32) (a3 : Int32) (σ : xS) (H : Heap) (locs : List Loc) (cells slots : Nat) (ls : Array Slot), (f_X3_sumOf_L4 n a0 a1 a2 a3).1 σ = some (r, σ9) → xI E σ0 σ s H locs cells slots → lv_has ls 4 [(0, .ref a0), (1, .int a1), (2, .int a2), (3, .int a3)] → W p l e R s m args below meth c H locs cells slots (xMQ E below args s σ0 σ9 (some (.int r))) (F0 m 4 ls []) := by
  intro n
  induction n with
  | zero =>
    intro a0 a1 a2 a3 σ H locs cells slots ls h
    exact xr_no h
  | succ n ih =>
    intro a0 a1 a2 a3 σ H locs cells slots ls h hI hl
    exact w_X3_sumOf_b4 hX ih h hI hl
theorem o_X3_sumOf {a0 : Nat} {a1 : Int32} {r : Int32} {σ σ9 : xS} (h : (f_X3_sumOf a0 a1).1 σ = some (r, σ9)) : ∃ fs, σ.1 a0 = some (.inl (3, fs)) := xck_of h
theorem w_X3_sumOf {E : xE} {l : Launch} {a0 : Nat} {a1 : Int32} {r : Int32} {σ σ9 : xS} (h : (f_X3_sumOf a0 a1).1 σ = some (r, σ9)) : xMet E l yX3_sumOf (ws_ yX3_sumOf cX3_sumOf 4 (some .int)) 1 21 [.ref a0, .int a1] σ σ9 (some (.int r)) := by
  refine xstart (by decide +kernel) ((f_X3_sumOf a0 a1).2 _ _ _ h) (Nat.le_of_ble_eq_true rfl) ?_
  intro p e s m args below meth c H locs cells slots ls R hX hI hl
  have hx := hX.1.1
  have hb := hX.1.2.1
  have hl : lv_has ls 4 [(0, .ref a0), (1, .int a1)] := hl
  generalize hσ0 : σ = σ0 at hX hI ⊢
  have h : (f_X3_sumOf a0 a1).1 σ0 = some (r, σ9) := by rw [← hσ0]; exact h
  clear hσ0
  delta f_X3_sumOf at h
  have h := (xck_bd h).2
  refine lv_iconst (v := (0 : Int32)) hx hb dX3_sumOf_0 (by decide) ?_
  refine lv_istore_n (lv' := [(2, .int (0 : Int32)), (0, .ref a0), (1, .int a1)]) hx hb dX3_sumOf_1 rfl hl (Nat.le_of_ble_eq_true rfl) rfl (fun ls hl => ?_)
  refine lv_iconst (v := (0 : Int32)) hx hb dX3_sumOf_2 (by decide) ?_
  refine lv_istore_n (lv' := [(3, .int (0 : Int32)), (2, .int (0 : Int32)), (0, .ref a0), (1, .int a1)]) hx hb dX3_sumOf_3 rfl hl (Nat.le_of_ble_eq_true rfl) rfl (fun ls hl => ?_)
  exact w_X3_sumOf_L4 hX xFU a0 a1 (0 : Int32) (0 : Int32) _ _ _ _ _ _ h hI (lv_sub hl [2, 3, 1, 0] rfl)
/-! PayMatchModel.inState(I)I  -/
theorem w_X3_inState_b32 {rec4 : Nat → Int32 → Int32 → Int32 → xM Int32} {t0 : Int32} {t1 : Int32} {a0 : Nat} {a1 : Int32} {a3 : Int32} {r : Int32} (hX : xX E R p m c cX3_inState 4 s args RX3 "inState" meth (some .int) 1 21 σ0 σ9) (hrec4 : ∀ (a0 : Nat) (a1 : Int32) (a2 : Int32) (a3 : Int32) (σ : xS) (H : Heap) (locs : List Loc) (cells slots : Nat) (ls : Array Slot), (rec4 a0 a1 a2 a3).1 σ = some (r, σ9) → xI E σ0 σ s H locs cells slots → lv_has ls 4 [(0, .ref a0), (1, .int a1), (2, .int a2), (3, .int a3)] → W p l e R s m args below meth c H locs cells slots (xMQ E below args s σ0 σ9 (some (.int r))) (F0 m 4 ls []))
    (h : (f_X3_inState_b32 rec4 t0 t1 a0 a1 a3).1 σ = some (r, σ9)) (hI : xI E σ0 σ s H locs cells slots) (hl : lv_has ls 4 [(0, .ref a0), (1, .int a1), (3, .int a3)]) : W p l e R s m args below meth c H locs cells slots (xMQ E below args s σ0 σ9 (some (.int r))) (F0 m 32 ls [.int t1, .int t0]) := by
  have hx := hX.1.1
  have hb := hX.1.2.1
  delta f_X3_inState_b32 at h
  refine lv_iadd hx hb dX3_inState_32 ?_
  refine lv_istore_n (lv' := [(2, .int (t0 + t1)), (0, .ref a0), (1, .int a1), (3, .int a3)]) hx hb dX3_inState_33 rfl hl (Nat.le_of_ble_eq_true rfl) rfl (fun ls hl => ?_)
  refine lv_iinc (k := 3) (lv' := [(3, .int (a3 + (1 : Int32))), (2, .int (t0 + t1)), (0, .ref a0), (1, .int a1)]) hx hb dX3_inState_34 hl rfl (xiinc (by decide)) (Nat.le_of_ble_eq_true rfl) rfl (fun ls hl => ?_)
  refine lv_goto (tgt := 4) hx hb dX3_inState_37 (by decide) ?_
  exact hrec4 a0 a1 (t0 + t1) (a3 + (1 : Int32)) _ _ _ _ _ _ h hI (lv_sub hl [2, 3, 1, 0] rfl)
theorem w_X3_inState_b4 {rec4 : Nat → Int32 → Int32 → Int32 → xM Int32} {a0 : Nat} {a1 : Int32} {a2 : Int32} {a3 : Int32} {r : Int32} (hX : xX E R p m c cX3_inState 4 s args RX3 "inState" meth (some .int) 1 21 σ0 σ9) (hrec4 : ∀ (a0 : Nat) (a1 : Int32) (a2 : Int32) (a3 : Int32) (σ : xS) (H : Heap) (locs : List Loc) (cells slots : Nat) (ls : Array Slot), (rec4 a0 a1 a2 a3).1 σ = some (r, σ9) → xI E σ0 σ s H locs cells slots → lv_has ls 4 [(0, .ref a0), (1, .int a1), (2, .int a2), (3, .int a3)] → W p l e R s m args below meth c H locs cells slots (xMQ E below args s σ0 σ9 (some (.int r))) (F0 m 4 ls []))
    (h : (f_X3_inState_b4 rec4 a0 a1 a2 a3).1 σ = some (r, σ9)) (hI : xI E σ0 σ s H locs cells slots) (hl : lv_has ls 4 [(0, .ref a0), (1, .int a1), (2, .int a2), (3, .int a3)]) : W p l e R s m args below meth c H locs cells slots (xMQ E below args s σ0 σ9 (some (.int r))) (F0 m 4 ls []) := by
  have hx := hX.1.1
  have hb := hX.1.2.1
  delta f_X3_inState_b4 at h
  refine lv_iload_n hx hb dX3_inState_4 rfl (lv_at hl 3 rfl) ?_
  refine lv_aload_n hx hb dX3_inState_5 rfl (lv_at hl 0 rfl) ?_
  refine lv_iconst (v := (3 : Int32)) hx hb dX3_inState_6 (by decide) ?_
  refine xr_callV (iv := (fun b => some (.int b))) (As := [.int (3 : Int32)]) (rest := [.int a3]) h hX hI (fun _ _ h => w_X3_at h) (fun _ _ h => o_X3_at h) rfl 1 (lw_V q2022 q2024 qs31 q87 q2025) ⟨rfl, xd_X3_at⟩ ⟨rfl, rfl⟩ rfl hl.1 (Nat.le_of_ble_eq_true rfl) dX3_inState_7 (fun v4 H locs σ cells slots h hI => ?_)
  refine W.eq (g2 := F0 m 10 ls [.int v4, .int a3]) rfl ?_
  refine lv_icmp_ge (tgt := 40) hx hb dX3_inState_10 (by decide) (fun hc => ?_) (fun hc => ?_)
  · have h := xif_t h hc
    refine lv_iload_n hx hb dX3_inState_40 rfl (lv_at hl 2 rfl) ?_
    exact xr_ireturn h hX hI dX3_inState_41
  · have h := xif_f h hc
    refine lv_iload_n hx hb dX3_inState_13 rfl (lv_at hl 2 rfl) ?_
    refine lv_aload_n hx hb dX3_inState_14 rfl (lv_at hl 0 rfl) ?_
    refine lv_iload_n hx hb dX3_inState_15 rfl (lv_at hl 3 rfl) ?_
    refine lv_iconst (v := (4 : Int32)) hx hb dX3_inState_16 (by decide) ?_
    refine xr_callS (iv := (fun b => some (.int b))) (As := [.int a3, .int (4 : Int32)]) (rest := [.ref a0, .int a2]) h hX hI (fun _ _ h => w_X3_ofInvoice h) 2 (lw_S q2068 q2069 q87 q2070) xd_X3_ofInvoice ⟨rfl, rfl⟩ rfl hl.1 (Nat.le_of_ble_eq_true rfl) dX3_inState_17 (fun v5 H locs σ cells slots h hI => ?_)
    refine W.eq (g2 := F0 m 20 ls [.int v5, .ref a0, .int a2]) rfl ?_
    refine xr_callV (iv := (fun b => some (.int b))) (As := [.int v5]) (rest := [.int a2]) h hX hI (fun _ _ h => w_X3_at h) (fun _ _ h => o_X3_at h) rfl 1 (lw_V q2022 q2024 qs31 q87 q2025) ⟨rfl, xd_X3_at⟩ ⟨rfl, rfl⟩ rfl hl.1 (Nat.le_of_ble_eq_true rfl) dX3_inState_20 (fun v6 H locs σ cells slots h hI => ?_)
    refine W.eq (g2 := F0 m 23 ls [.int v6, .int a2]) rfl ?_
    refine lv_iload_n hx hb dX3_inState_23 rfl (lv_at hl 1 rfl) ?_
    refine lv_icmp_ne (tgt := 31) hx hb dX3_inState_24 (by decide) (fun hc => ?_) (fun hc => ?_)
    · have h := xif_f h hc
      refine lv_iconst (v := (0 : Int32)) hx hb dX3_inState_31 (by decide) ?_
      exact w_X3_inState_b32 hX hrec4 h hI (lv_sub hl [0, 1, 3] rfl)
    · have h := xif_t h hc
      refine lv_iconst (v := (1 : Int32)) hx hb dX3_inState_27 (by decide) ?_
      refine lv_goto (tgt := 32) hx hb dX3_inState_28 (by decide) ?_
      exact w_X3_inState_b32 hX hrec4 h hI (lv_sub hl [0, 1, 3] rfl)
theorem w_X3_inState_L4 {r : Int32} (hX : xX E R p m c cX3_inState 4 s args RX3 "inState" meth (some .int) 1 21 σ0 σ9) : ∀ (n : Nat) (a0 : Nat) (a1 : Int32) (a2 : Int32) (a3 : Int32) (σ : xS) (H : Heap) (locs : List Loc) (cells slots : Nat) (ls : Array Slot), (f_X3_inState_L4 n a0 a1 a2 a3).1 σ = some (r, σ9) → xI E σ0 σ s H locs cells slots → lv_has ls 4 [(0, .ref a0), (1, .int a1), (2, .int a2), (3, .int a3)] → W p l e R s m args below meth c H locs cells slots (xMQ E below args s σ0 σ9 (some (.int r))) (F0 m 4 ls []) := by
  intro n
  induction n with
  | zero =>
    intro a0 a1 a2 a3 σ H locs cells slots ls h
    exact xr_no h
  | succ n ih =>
    intro a0 a1 a2 a3 σ H locs cells slots ls h hI hl
    exact w_X3_inState_b4 hX ih h hI hl
theorem o_X3_inState {a0 : Nat} {a1 : Int32} {r : Int32} {σ σ9 : xS} (h : (f_X3_inState a0 a1).1 σ = some (r, σ9)) : ∃ fs, σ.1 a0 = some (.inl (3, fs)) := xck_of h
theorem w_X3_inState {E : xE} {l : Launch} {a0 : Nat} {a1 : Int32} {r : Int32} {σ σ9 : xS} (h : (f_X3_inState a0 a1).1 σ = some (r, σ9)) : xMet E l yX3_inState (ws_ yX3_inState cX3_inState 4 (some .int)) 1 21 [.ref a0, .int a1] σ σ9 (some (.int r)) := by
  refine xstart (by decide +kernel) ((f_X3_inState a0 a1).2 _ _ _ h) (Nat.le_of_ble_eq_true rfl) ?_
  intro p e s m args below meth c H locs cells slots ls R hX hI hl
  have hx := hX.1.1
  have hb := hX.1.2.1
  have hl : lv_has ls 4 [(0, .ref a0), (1, .int a1)] := hl
  generalize hσ0 : σ = σ0 at hX hI ⊢
  have h : (f_X3_inState a0 a1).1 σ0 = some (r, σ9) := by rw [← hσ0]; exact h
  clear hσ0
  delta f_X3_inState at h
  have h := (xck_bd h).2
  refine lv_iconst (v := (0 : Int32)) hx hb dX3_inState_0 (by decide) ?_
  refine lv_istore_n (lv' := [(2, .int (0 : Int32)), (0, .ref a0), (1, .int a1)]) hx hb dX3_inState_1 rfl hl (Nat.le_of_ble_eq_true rfl) rfl (fun ls hl => ?_)
  refine lv_iconst (v := (0 : Int32)) hx hb dX3_inState_2 (by decide) ?_
  refine lv_istore_n (lv' := [(3, .int (0 : Int32)), (2, .int (0 : Int32)), (0, .ref a0), (1, .int a1)]) hx hb dX3_inState_3 rfl hl (Nat.le_of_ble_eq_true rfl) rfl (fun ls hl => ?_)
  exact w_X3_inState_L4 hX xFU a0 a1 (0 : Int32) (0 : Int32) _ _ _ _ _ _ h hI (lv_sub hl [2, 3, 1, 0] rfl)
/-! PayMatchModel.count(I)I  -/
theorem w_X3_count_b92 {a0 : Nat} {a1 : Int32} {r : Int32} (hX : xX E R p m c cX3_count 2 s args RX3 "count" meth (some .int) 2 44 σ0 σ9)
    (h : (f_X3_count_b92 a0 a1).1 σ = some (r, σ9)) (hI : xI E σ0 σ s H locs cells slots) (hl : lv_has ls 2 [(0, .ref a0), (1, .int a1)]) : W p l e R s m args below meth c H locs cells slots (xMQ E below args s σ0 σ9 (some (.int r))) (F0 m 92 ls []) := by
  have hx := hX.1.1
  have hb := hX.1.2.1
  delta f_X3_count_b92 at h
  refine lv_aload_n hx hb dX3_count_92 rfl (lv_at hl 0 rfl) ?_
  refine lv_iload_n hx hb dX3_count_93 rfl (lv_at hl 1 rfl) ?_
  refine xr_callV (iv := (fun b => some (.int b))) (As := [.int a1]) (rest := []) h hX hI (fun _ _ h => w_X3_at h) (fun _ _ h => o_X3_at h) rfl 1 (lw_V q2022 q2024 qs31 q87 q2025) ⟨rfl, xd_X3_at⟩ ⟨rfl, rfl⟩ rfl hl.1 (Nat.le_of_ble_eq_true rfl) dX3_count_94 (fun v22 H locs σ cells slots h hI => ?_)
  refine W.eq (g2 := F0 m 97 ls [.int v22]) rfl ?_
  exact xr_ireturn h hX hI dX3_count_97
theorem w_X3_count_b98 {a0 : Nat} {a1 : Int32} {r : Int32} (hX : xX E R p m c cX3_count 2 s args RX3 "count" meth (some .int) 2 44 σ0 σ9)
    (h : (f_X3_count_b98 a0 a1).1 σ = some (r, σ9)) (hI : xI E σ0 σ s H locs cells slots) (hl : lv_has ls 2 [(0, .ref a0), (1, .int a1)]) : W p l e R s m args below meth c H locs cells slots (xMQ E below args s σ0 σ9 (some (.int r))) (F0 m 98 ls []) := by
  have hx := hX.1.1
  have hb := hX.1.2.1
  delta f_X3_count_b98 at h
  refine lv_aload_n hx hb dX3_count_98 rfl (lv_at hl 0 rfl) ?_
  refine lv_iload_n hx hb dX3_count_99 rfl (lv_at hl 1 rfl) ?_
  refine lv_iconst (v := (4 : Int32)) hx hb dX3_count_100 (by decide) ?_
  refine lv_isub hx hb dX3_count_101 ?_
  refine xr_callV (iv := (fun b => some (.int b))) (As := [.int (a1 - (4 : Int32))]) (rest := []) h hX hI (fun _ _ h => w_X3_inState h) (fun _ _ h => o_X3_inState h) rfl 1 (lw_V q2359 q2361 qs71 q87 q2362) ⟨rfl, xd_X3_inState⟩ ⟨rfl, rfl⟩ rfl hl.1 (Nat.le_of_ble_eq_true rfl) dX3_count_102 (fun v21 H locs σ cells slots h hI => ?_)
  refine W.eq (g2 := F0 m 105 ls [.int v21]) rfl ?_
  exact xr_ireturn h hX hI dX3_count_105
theorem w_X3_count_b106 {a0 : Nat} {r : Int32} (hX : xX E R p m c cX3_count 2 s args RX3 "count" meth (some .int) 2 44 σ0 σ9)
    (h : (f_X3_count_b106 a0).1 σ = some (r, σ9)) (hI : xI E σ0 σ s H locs cells slots) (hl : lv_has ls 2 [(0, .ref a0)]) : W p l e R s m args below meth c H locs cells slots (xMQ E below args s σ0 σ9 (some (.int r))) (F0 m 106 ls []) := by
  have hx := hX.1.1
  have hb := hX.1.2.1
  delta f_X3_count_b106 at h
  refine lv_aload_n hx hb dX3_count_106 rfl (lv_at hl 0 rfl) ?_
  refine lv_iconst (v := (5 : Int32)) hx hb dX3_count_107 (by decide) ?_
  refine xr_callV (iv := (fun b => some (.int b))) (As := [.int (5 : Int32)]) (rest := []) h hX hI (fun _ _ h => w_X3_sumOf h) (fun _ _ h => o_X3_sumOf h) rfl 1 (lw_V q2363 q2365 qs72 q87 q2366) ⟨rfl, xd_X3_sumOf⟩ ⟨rfl, rfl⟩ rfl hl.1 (Nat.le_of_ble_eq_true rfl) dX3_count_108 (fun v20 H locs σ cells slots h hI => ?_)
  refine W.eq (g2 := F0 m 111 ls [.int v20]) rfl ?_
  exact xr_ireturn h hX hI dX3_count_111
theorem w_X3_count_b112 {a0 : Nat} {r : Int32} (hX : xX E R p m c cX3_count 2 s args RX3 "count" meth (some .int) 2 44 σ0 σ9)
    (h : (f_X3_count_b112 a0).1 σ = some (r, σ9)) (hI : xI E σ0 σ s H locs cells slots) (hl : lv_has ls 2 [(0, .ref a0)]) : W p l e R s m args below meth c H locs cells slots (xMQ E below args s σ0 σ9 (some (.int r))) (F0 m 112 ls []) := by
  have hx := hX.1.1
  have hb := hX.1.2.1
  delta f_X3_count_b112 at h
  refine lv_aload_n hx hb dX3_count_112 rfl (lv_at hl 0 rfl) ?_
  refine lv_iconst (v := (3 : Int32)) hx hb dX3_count_113 (by decide) ?_
  refine xr_callV (iv := (fun b => some (.int b))) (As := [.int (3 : Int32)]) (rest := []) h hX hI (fun _ _ h => w_X3_sumOf h) (fun _ _ h => o_X3_sumOf h) rfl 1 (lw_V q2363 q2365 qs72 q87 q2366) ⟨rfl, xd_X3_sumOf⟩ ⟨rfl, rfl⟩ rfl hl.1 (Nat.le_of_ble_eq_true rfl) dX3_count_114 (fun v19 H locs σ cells slots h hI => ?_)
  refine W.eq (g2 := F0 m 117 ls [.int v19]) rfl ?_
  exact xr_ireturn h hX hI dX3_count_117
theorem w_X3_count_b118 {a0 : Nat} {r : Int32} (hX : xX E R p m c cX3_count 2 s args RX3 "count" meth (some .int) 2 44 σ0 σ9)
    (h : (f_X3_count_b118 a0).1 σ = some (r, σ9)) (hI : xI E σ0 σ s H locs cells slots) (hl : lv_has ls 2 [(0, .ref a0)]) : W p l e R s m args below meth c H locs cells slots (xMQ E below args s σ0 σ9 (some (.int r))) (F0 m 118 ls []) := by
  have hx := hX.1.1
  have hb := hX.1.2.1
  delta f_X3_count_b118 at h
  refine lv_aload_n hx hb dX3_count_118 rfl (lv_at hl 0 rfl) ?_
  refine lv_bipush (v := (9 : Int32)) hx hb dX3_count_119 (by decide) ?_
  refine xr_callV (iv := (fun b => some (.int b))) (As := [.int (9 : Int32)]) (rest := []) h hX hI (fun _ _ h => w_X3_at h) (fun _ _ h => o_X3_at h) rfl 1 (lw_V q2022 q2024 qs31 q87 q2025) ⟨rfl, xd_X3_at⟩ ⟨rfl, rfl⟩ rfl hl.1 (Nat.le_of_ble_eq_true rfl) dX3_count_121 (fun v18 H locs σ cells slots h hI => ?_)
  refine W.eq (g2 := F0 m 124 ls [.int v18]) rfl ?_
  exact xr_ireturn h hX hI dX3_count_124
theorem w_X3_count_b125 {a0 : Nat} {r : Int32} (hX : xX E R p m c cX3_count 2 s args RX3 "count" meth (some .int) 2 44 σ0 σ9)
    (h : (f_X3_count_b125 a0).1 σ = some (r, σ9)) (hI : xI E σ0 σ s H locs cells slots) (hl : lv_has ls 2 [(0, .ref a0)]) : W p l e R s m args below meth c H locs cells slots (xMQ E below args s σ0 σ9 (some (.int r))) (F0 m 125 ls []) := by
  have hx := hX.1.1
  have hb := hX.1.2.1
  delta f_X3_count_b125 at h
  refine lv_aload_n hx hb dX3_count_125 rfl (lv_at hl 0 rfl) ?_
  refine lv_bipush (v := (6 : Int32)) hx hb dX3_count_126 (by decide) ?_
  refine xr_callV (iv := (fun b => some (.int b))) (As := [.int (6 : Int32)]) (rest := []) h hX hI (fun _ _ h => w_X3_sumOf h) (fun _ _ h => o_X3_sumOf h) rfl 1 (lw_V q2363 q2365 qs72 q87 q2366) ⟨rfl, xd_X3_sumOf⟩ ⟨rfl, rfl⟩ rfl hl.1 (Nat.le_of_ble_eq_true rfl) dX3_count_128 (fun v17 H locs σ cells slots h hI => ?_)
  refine W.eq (g2 := F0 m 131 ls [.int v17]) rfl ?_
  exact xr_ireturn h hX hI dX3_count_131
theorem w_X3_count_b132 {a0 : Nat} {r : Int32} (hX : xX E R p m c cX3_count 2 s args RX3 "count" meth (some .int) 2 44 σ0 σ9)
    (h : (f_X3_count_b132 a0).1 σ = some (r, σ9)) (hI : xI E σ0 σ s H locs cells slots) (hl : lv_has ls 2 [(0, .ref a0)]) : W p l e R s m args below meth c H locs cells slots (xMQ E below args s σ0 σ9 (some (.int r))) (F0 m 132 ls []) := by
  have hx := hX.1.1
  have hb := hX.1.2.1
  delta f_X3_count_b132 at h
  refine lv_aload_n hx hb dX3_count_132 rfl (lv_at hl 0 rfl) ?_
  refine lv_bipush (v := (7 : Int32)) hx hb dX3_count_133 (by decide) ?_
  refine xr_callV (iv := (fun b => some (.int b))) (As := [.int (7 : Int32)]) (rest := []) h hX hI (fun _ _ h => w_X3_sumOf h) (fun _ _ h => o_X3_sumOf h) rfl 1 (lw_V q2363 q2365 qs72 q87 q2366) ⟨rfl, xd_X3_sumOf⟩ ⟨rfl, rfl⟩ rfl hl.1 (Nat.le_of_ble_eq_true rfl) dX3_count_135 (fun v16 H locs σ cells slots h hI => ?_)
  refine W.eq (g2 := F0 m 138 ls [.int v16]) rfl ?_
  exact xr_ireturn h hX hI dX3_count_138
theorem w_X3_count_b139 {a0 : Nat} {r : Int32} (hX : xX E R p m c cX3_count 2 s args RX3 "count" meth (some .int) 2 44 σ0 σ9)
    (h : (f_X3_count_b139 a0).1 σ = some (r, σ9)) (hI : xI E σ0 σ s H locs cells slots) (hl : lv_has ls 2 [(0, .ref a0)]) : W p l e R s m args below meth c H locs cells slots (xMQ E below args s σ0 σ9 (some (.int r))) (F0 m 139 ls []) := by
  have hx := hX.1.1
  have hb := hX.1.2.1
  delta f_X3_count_b139 at h
  refine lv_aload_n hx hb dX3_count_139 rfl (lv_at hl 0 rfl) ?_
  refine lv_iconst (v := (5 : Int32)) hx hb dX3_count_140 (by decide) ?_
  refine xr_callV (iv := (fun b => some (.int b))) (As := [.int (5 : Int32)]) (rest := []) h hX hI (fun _ _ h => w_X3_at h) (fun _ _ h => o_X3_at h) rfl 1 (lw_V q2022 q2024 qs31 q87 q2025) ⟨rfl, xd_X3_at⟩ ⟨rfl, rfl⟩ rfl hl.1 (Nat.le_of_ble_eq_true rfl) dX3_count_141 (fun v15 H locs σ cells slots h hI => ?_)
  refine W.eq (g2 := F0 m 144 ls [.int v15]) rfl ?_
  exact xr_ireturn h hX hI dX3_count_144
theorem w_X3_count_b145 {a0 : Nat} {r : Int32} (hX : xX E R p m c cX3_count 2 s args RX3 "count" meth (some .int) 2 44 σ0 σ9)
    (h : (f_X3_count_b145 a0).1 σ = some (r, σ9)) (hI : xI E σ0 σ s H locs cells slots) (hl : lv_has ls 2 [(0, .ref a0)]) : W p l e R s m args below meth c H locs cells slots (xMQ E below args s σ0 σ9 (some (.int r))) (F0 m 145 ls []) := by
  have hx := hX.1.1
  have hb := hX.1.2.1
  delta f_X3_count_b145 at h
  refine lv_aload_n hx hb dX3_count_145 rfl (lv_at hl 0 rfl) ?_
  refine lv_bipush (v := (6 : Int32)) hx hb dX3_count_146 (by decide) ?_
  refine xr_callV (iv := (fun b => some (.int b))) (As := [.int (6 : Int32)]) (rest := []) h hX hI (fun _ _ h => w_X3_at h) (fun _ _ h => o_X3_at h) rfl 1 (lw_V q2022 q2024 qs31 q87 q2025) ⟨rfl, xd_X3_at⟩ ⟨rfl, rfl⟩ rfl hl.1 (Nat.le_of_ble_eq_true rfl) dX3_count_148 (fun v14 H locs σ cells slots h hI => ?_)
  refine W.eq (g2 := F0 m 151 ls [.int v14]) rfl ?_
  exact xr_ireturn h hX hI dX3_count_151
theorem w_X3_count_b152 {a0 : Nat} {r : Int32} (hX : xX E R p m c cX3_count 2 s args RX3 "count" meth (some .int) 2 44 σ0 σ9)
    (h : (f_X3_count_b152 a0).1 σ = some (r, σ9)) (hI : xI E σ0 σ s H locs cells slots) (hl : lv_has ls 2 [(0, .ref a0)]) : W p l e R s m args below meth c H locs cells slots (xMQ E below args s σ0 σ9 (some (.int r))) (F0 m 152 ls []) := by
  have hx := hX.1.1
  have hb := hX.1.2.1
  delta f_X3_count_b152 at h
  refine lv_aload_n hx hb dX3_count_152 rfl (lv_at hl 0 rfl) ?_
  refine xr_gI h hX hI xl_X3_71_3.g dX3_count_153 (fun v13 h => ?_)
  exact xr_ireturn h hX hI dX3_count_156
theorem w_X3_count_b157 {a0 : Nat} {r : Int32} (hX : xX E R p m c cX3_count 2 s args RX3 "count" meth (some .int) 2 44 σ0 σ9)
    (h : (f_X3_count_b157 a0).1 σ = some (r, σ9)) (hI : xI E σ0 σ s H locs cells slots) (hl : lv_has ls 2 [(0, .ref a0)]) : W p l e R s m args below meth c H locs cells slots (xMQ E below args s σ0 σ9 (some (.int r))) (F0 m 157 ls []) := by
  have hx := hX.1.1
  have hb := hX.1.2.1
  delta f_X3_count_b157 at h
  refine lv_aload_n hx hb dX3_count_157 rfl (lv_at hl 0 rfl) ?_
  refine xr_gI h hX hI xl_X3_198_3.g dX3_count_158 (fun v12 h => ?_)
  exact xr_ireturn h hX hI dX3_count_161
theorem o_X3_count {a0 : Nat} {a1 : Int32} {r : Int32} {σ σ9 : xS} (h : (f_X3_count a0 a1).1 σ = some (r, σ9)) : ∃ fs, σ.1 a0 = some (.inl (3, fs)) := xck_of h
theorem w_X3_count {E : xE} {l : Launch} {a0 : Nat} {a1 : Int32} {r : Int32} {σ σ9 : xS} (h : (f_X3_count a0 a1).1 σ = some (r, σ9)) : xMet E l yX3_count (ws_ yX3_count cX3_count 2 (some .int)) 2 44 [.ref a0, .int a1] σ σ9 (some (.int r)) := by
  refine xstart (by decide +kernel) ((f_X3_count a0 a1).2 _ _ _ h) (Nat.le_of_ble_eq_true rfl) ?_
  intro p e s m args below meth c H locs cells slots ls R hX hI hl
  have hx := hX.1.1
  have hb := hX.1.2.1
  have hl : lv_has ls 2 [(0, .ref a0), (1, .int a1)] := hl
  generalize hσ0 : σ = σ0 at hX hI ⊢
  have h : (f_X3_count a0 a1).1 σ0 = some (r, σ9) := by rw [← hσ0]; exact h
  clear hσ0
  delta f_X3_count at h
  have h := (xck_bd h).2
  refine lv_aload_n hx hb dX3_count_0 rfl (lv_at hl 0 rfl) ?_
  refine lv_iconst (v := (0 : Int32)) hx hb dX3_count_1 (by decide) ?_
  refine xr_pt h hX hI xl_X3_1_3 (Or.inl rfl) rfl rfl dX3_count_2 (fun H locs σ h hI => ?_)
  refine lv_iload_n hx hb dX3_count_5 rfl (lv_at hl 1 rfl) ?_
  refine xif h (fun hc0 h => ?_) (fun hc0 h => ?_)
  · refine W.eq (g2 := F0 m 6 ls (.int (0 : Int32) :: [])) (by rw [hc0]) ?_
    refine lv_tableIn (tgt := 92) (off := 86) hx hb dX3_count_6 (by decide) (by decide) (by decide) (by decide) ?_
    exact w_X3_count_b92 hX h hI (lv_sub hl [0, 1] rfl)
  · refine xif h (fun hc1 h => ?_) (fun hc1 h => ?_)
    · refine W.eq (g2 := F0 m 6 ls (.int (1 : Int32) :: [])) (by rw [hc1]) ?_
      refine lv_tableIn (tgt := 92) (off := 86) hx hb dX3_count_6 (by decide) (by decide) (by decide) (by decide) ?_
      exact w_X3_count_b92 hX h hI (lv_sub hl [0, 1] rfl)
    · refine xif h (fun hc2 h => ?_) (fun hc2 h => ?_)
      · refine W.eq (g2 := F0 m 6 ls (.int (2 : Int32) :: [])) (by rw [hc2]) ?_
        refine lv_tableIn (tgt := 92) (off := 86) hx hb dX3_count_6 (by decide) (by decide) (by decide) (by decide) ?_
        exact w_X3_count_b92 hX h hI (lv_sub hl [0, 1] rfl)
      · refine xif h (fun hc3 h => ?_) (fun hc3 h => ?_)
        · refine W.eq (g2 := F0 m 6 ls (.int (3 : Int32) :: [])) (by rw [hc3]) ?_
          refine lv_tableIn (tgt := 92) (off := 86) hx hb dX3_count_6 (by decide) (by decide) (by decide) (by decide) ?_
          exact w_X3_count_b92 hX h hI (lv_sub hl [0, 1] rfl)
        · refine xif h (fun hc4 h => ?_) (fun hc4 h => ?_)
          · refine W.eq (g2 := F0 m 6 ls (.int (4 : Int32) :: [])) (by rw [hc4]) ?_
            refine lv_tableIn (tgt := 98) (off := 92) hx hb dX3_count_6 (by decide) (by decide) (by decide) (by decide) ?_
            exact w_X3_count_b98 hX h hI (lv_sub hl [0, 1] rfl)
          · refine xif h (fun hc5 h => ?_) (fun hc5 h => ?_)
            · refine W.eq (g2 := F0 m 6 ls (.int (5 : Int32) :: [])) (by rw [hc5]) ?_
              refine lv_tableIn (tgt := 98) (off := 92) hx hb dX3_count_6 (by decide) (by decide) (by decide) (by decide) ?_
              exact w_X3_count_b98 hX h hI (lv_sub hl [0, 1] rfl)
            · refine xif h (fun hc6 h => ?_) (fun hc6 h => ?_)
              · refine W.eq (g2 := F0 m 6 ls (.int (6 : Int32) :: [])) (by rw [hc6]) ?_
                refine lv_tableIn (tgt := 98) (off := 92) hx hb dX3_count_6 (by decide) (by decide) (by decide) (by decide) ?_
                exact w_X3_count_b98 hX h hI (lv_sub hl [0, 1] rfl)
              · refine xif h (fun hc7 h => ?_) (fun hc7 h => ?_)
                · refine W.eq (g2 := F0 m 6 ls (.int (7 : Int32) :: [])) (by rw [hc7]) ?_
                  refine lv_tableIn (tgt := 98) (off := 92) hx hb dX3_count_6 (by decide) (by decide) (by decide) (by decide) ?_
                  exact w_X3_count_b98 hX h hI (lv_sub hl [0, 1] rfl)
                · refine xif h (fun hc8 h => ?_) (fun hc8 h => ?_)
                  · refine W.eq (g2 := F0 m 6 ls (.int (8 : Int32) :: [])) (by rw [hc8]) ?_
                    refine lv_tableIn (tgt := 98) (off := 92) hx hb dX3_count_6 (by decide) (by decide) (by decide) (by decide) ?_
                    exact w_X3_count_b98 hX h hI (lv_sub hl [0, 1] rfl)
                  · refine xif h (fun hc9 h => ?_) (fun hc9 h => ?_)
                    · refine W.eq (g2 := F0 m 6 ls (.int (9 : Int32) :: [])) (by rw [hc9]) ?_
                      refine lv_tableIn (tgt := 106) (off := 100) hx hb dX3_count_6 (by decide) (by decide) (by decide) (by decide) ?_
                      exact w_X3_count_b106 hX h hI (lv_sub hl [0] rfl)
                    · refine xif h (fun hc10 h => ?_) (fun hc10 h => ?_)
                      · refine W.eq (g2 := F0 m 6 ls (.int (10 : Int32) :: [])) (by rw [hc10]) ?_
                        refine lv_tableIn (tgt := 112) (off := 106) hx hb dX3_count_6 (by decide) (by decide) (by decide) (by decide) ?_
                        exact w_X3_count_b112 hX h hI (lv_sub hl [0] rfl)
                      · refine xif h (fun hc11 h => ?_) (fun hc11 h => ?_)
                        · refine W.eq (g2 := F0 m 6 ls (.int (11 : Int32) :: [])) (by rw [hc11]) ?_
                          refine lv_tableIn (tgt := 118) (off := 112) hx hb dX3_count_6 (by decide) (by decide) (by decide) (by decide) ?_
                          exact w_X3_count_b118 hX h hI (lv_sub hl [0] rfl)
                        · refine xif h (fun hc12 h => ?_) (fun hc12 h => ?_)
                          · refine W.eq (g2 := F0 m 6 ls (.int (12 : Int32) :: [])) (by rw [hc12]) ?_
                            refine lv_tableIn (tgt := 125) (off := 119) hx hb dX3_count_6 (by decide) (by decide) (by decide) (by decide) ?_
                            exact w_X3_count_b125 hX h hI (lv_sub hl [0] rfl)
                          · refine xif h (fun hc13 h => ?_) (fun hc13 h => ?_)
                            · refine W.eq (g2 := F0 m 6 ls (.int (13 : Int32) :: [])) (by rw [hc13]) ?_
                              refine lv_tableIn (tgt := 132) (off := 126) hx hb dX3_count_6 (by decide) (by decide) (by decide) (by decide) ?_
                              exact w_X3_count_b132 hX h hI (lv_sub hl [0] rfl)
                            · refine xif h (fun hc14 h => ?_) (fun hc14 h => ?_)
                              · refine W.eq (g2 := F0 m 6 ls (.int (14 : Int32) :: [])) (by rw [hc14]) ?_
                                refine lv_tableIn (tgt := 139) (off := 133) hx hb dX3_count_6 (by decide) (by decide) (by decide) (by decide) ?_
                                exact w_X3_count_b139 hX h hI (lv_sub hl [0] rfl)
                              · refine xif h (fun hc15 h => ?_) (fun hc15 h => ?_)
                                · refine W.eq (g2 := F0 m 6 ls (.int (15 : Int32) :: [])) (by rw [hc15]) ?_
                                  refine lv_tableIn (tgt := 145) (off := 139) hx hb dX3_count_6 (by decide) (by decide) (by decide) (by decide) ?_
                                  exact w_X3_count_b145 hX h hI (lv_sub hl [0] rfl)
                                · refine xif h (fun hc16 h => ?_) (fun hc16 h => ?_)
                                  · refine W.eq (g2 := F0 m 6 ls (.int (16 : Int32) :: [])) (by rw [hc16]) ?_
                                    refine lv_tableIn (tgt := 152) (off := 146) hx hb dX3_count_6 (by decide) (by decide) (by decide) (by decide) ?_
                                    exact w_X3_count_b152 hX h hI (lv_sub hl [0] rfl)
                                  · refine xif h (fun hc17 h => ?_) (fun hc17 h => ?_)
                                    · refine W.eq (g2 := F0 m 6 ls (.int (17 : Int32) :: [])) (by rw [hc17]) ?_
                                      refine lv_tableIn (tgt := 157) (off := 151) hx hb dX3_count_6 (by decide) (by decide) (by decide) (by decide) ?_
                                      exact w_X3_count_b157 hX h hI (lv_sub hl [0] rfl)
                                    · refine lv_tableOut (tgt := 162) hx hb dX3_count_6 (xtblo (L := [(0 : Int32), (1 : Int32), (2 : Int32), (3 : Int32), (4 : Int32), (5 : Int32), (6 : Int32), (7 : Int32), (8 : Int32), (9 : Int32), (10 : Int32), (11 : Int32), (12 : Int32), (13 : Int32), (14 : Int32), (15 : Int32), (16 : Int32), (17 : Int32)]) (by decide) (by decide) (List.forall_mem_cons.mpr ⟨hc0, (List.forall_mem_cons.mpr ⟨hc1, (List.forall_mem_cons.mpr ⟨hc2, (List.forall_mem_cons.mpr ⟨hc3, (List.forall_mem_cons.mpr ⟨hc4, (List.forall_mem_cons.mpr ⟨hc5, (List.forall_mem_cons.mpr ⟨hc6, (List.forall_mem_cons.mpr ⟨hc7, (List.forall_mem_cons.mpr ⟨hc8, (List.forall_mem_cons.mpr ⟨hc9, (List.forall_mem_cons.mpr ⟨hc10, (List.forall_mem_cons.mpr ⟨hc11, (List.forall_mem_cons.mpr ⟨hc12, (List.forall_mem_cons.mpr ⟨hc13, (List.forall_mem_cons.mpr ⟨hc14, (List.forall_mem_cons.mpr ⟨hc15, (List.forall_mem_cons.mpr ⟨hc16, (List.forall_mem_cons.mpr ⟨hc17, (fun _ h => absurd h List.not_mem_nil)⟩)⟩)⟩)⟩)⟩)⟩)⟩)⟩)⟩)⟩)⟩)⟩)⟩)⟩)⟩)⟩)⟩)⟩)) (by decide) ?_
                                      refine lv_bipush (v := (-2 : Int32)) hx hb dX3_count_162 (by decide) ?_
                                      exact xr_ireturn h hX hI dX3_count_164
/-! the law -/
theorem w_law_b1529 {L b : Nat} {xs : Nat → Int32} {rec18 : Nat → Nat → Int32 → xM Int32} {a1 : Nat} {a2 : Nat} {a3 : Int32} (hX : xX E room_1 p m c code 8 s #[Value.ref b] "PayMatchLaw" meth.name meth (some .boolean) 16 10275 σ0 σ9) (hXs : va_X b L xs s s.heap ∧ b < s.heap.size ∧ s.heap.size ≤ E.2.2) (hl0 : l.stackTraces = false) (hrec18 : ∀ (a1 : Nat) (a2 : Nat) (a3 : Int32) (σ : xS) (H : Heap) (locs : List Loc) (cells slots : Nat) (ls : Array Slot), (rec18 a1 a2 a3).1 σ = some ((1 : Int32), σ9) → xI E σ0 σ s H locs cells slots → lv_has ls 8 [(0, .ref b), (1, .ref a1), (2, .ref a2), (3, .int a3)] → W p l e room_1 s m #[Value.ref b] below meth c H locs cells slots (lw_Z below #[Value.ref b] s) (F0 m 18 ls []))
    (h : (f_law_b1529 L xs rec18 a1 a2 a3).1 σ = some ((1 : Int32), σ9)) (hI : xI E σ0 σ s H locs cells slots) (hl : lv_has ls 8 [(0, .ref b), (1, .ref a1), (2, .ref a2), (3, .int a3)]) : W p l e room_1 s m #[Value.ref b] below meth c H locs cells slots (lw_Z below #[Value.ref b] s) (F0 m 1529 ls []) := by
  have hx := hX.1.1
  have hb := hX.1.2.1
  delta f_law_b1529 at h
  refine lv_iinc (k := 3) (lv' := [(3, .int (a3 + (6 : Int32))), (0, .ref b), (1, .ref a1), (2, .ref a2)]) hx hb dL_law_1529 hl rfl (xiinc (by decide)) (Nat.le_of_ble_eq_true rfl) rfl (fun ls hl => ?_)
  refine lv_goto (tgt := 18) hx hb dL_law_1532 (by decide) ?_
  exact hrec18 a1 a2 (a3 + (6 : Int32)) _ _ _ _ _ _ h hI (lv_sub hl [1, 2, 3, 0] rfl)
theorem w_law_b196 {L b : Nat} {xs : Nat → Int32} {rec18 : Nat → Nat → Int32 → xM Int32} {a1 : Nat} {a2 : Nat} {a3 : Int32} (hX : xX E room_1 p m c code 8 s #[Value.ref b] "PayMatchLaw" meth.name meth (some .boolean) 16 10275 σ0 σ9) (hXs : va_X b L xs s s.heap ∧ b < s.heap.size ∧ s.heap.size ≤ E.2.2) (hl0 : l.stackTraces = false) (hrec18 : ∀ (a1 : Nat) (a2 : Nat) (a3 : Int32) (σ : xS) (H : Heap) (locs : List Loc) (cells slots : Nat) (ls : Array Slot), (rec18 a1 a2 a3).1 σ = some ((1 : Int32), σ9) → xI E σ0 σ s H locs cells slots → lv_has ls 8 [(0, .ref b), (1, .ref a1), (2, .ref a2), (3, .int a3)] → W p l e room_1 s m #[Value.ref b] below meth c H locs cells slots (lw_Z below #[Value.ref b] s) (F0 m 18 ls []))
    (h : (f_law_b196 L xs rec18 a1 a2 a3).1 σ = some ((1 : Int32), σ9)) (hI : xI E σ0 σ s H locs cells slots) (hl : lv_has ls 8 [(0, .ref b), (1, .ref a1), (2, .ref a2), (3, .int a3)]) : W p l e room_1 s m #[Value.ref b] below meth c H locs cells slots (lw_Z below #[Value.ref b] s) (F0 m 196 ls []) := by
  have hx := hX.1.1
  have hb := hX.1.2.1
  delta f_law_b196 at h
  refine lv_aload_n hx hb dL_law_196 rfl (lv_at hl 1 rfl) ?_
  refine xr_callV (iv := (fun b => some (.int b))) (As := []) (rest := []) h hX hI (fun _ _ h => w_X0_addSupplier h) (fun _ _ h => o_X0_addSupplier h) rfl 0 (lw_V q299 q300 q301 q74 q302) ⟨rfl, xd_X0_addSupplier⟩ ⟨rfl, rfl⟩ rfl hl.1 (Nat.le_of_ble_eq_true rfl) dL_law_197 (fun v427 H locs σ cells slots h hI => ?_)
  refine W.eq (g2 := F0 m 200 ls [.int v427]) rfl ?_
  refine lv_aload_n hx hb dL_law_200 rfl (lv_at hl 2 rfl) ?_
  refine xr_callV (iv := (fun b => some (.int b))) (As := []) (rest := [.int v427]) h hX hI (fun _ _ h => w_X3_addSupplier h) (fun _ _ h => o_X3_addSupplier h) rfl 0 (lw_V q2014 q2015 q2016 q87 q2017) ⟨rfl, xd_X3_addSupplier⟩ ⟨rfl, rfl⟩ rfl hl.1 (Nat.le_of_ble_eq_true rfl) dL_law_201 (fun v428 H locs σ cells slots h hI => ?_)
  refine W.eq (g2 := F0 m 204 ls [.int v428, .int v427]) rfl ?_
  refine lv_icmp_eq (tgt := 1529) hx hb dL_law_204 (by decide) (fun hc => ?_) (fun hc => ?_)
  · have h := xif_t h hc
    exact w_law_b1529 hX hXs hl0 hrec18 h hI (lv_sub hl [0, 1, 2, 3] rfl)
  · have h := xif_f h hc
    refine lv_iconst (v := (0 : Int32)) hx hb dL_law_207 (by decide) ?_
    exact xr_lawret h hX hI hXs dL_law_208
theorem w_law_b270 {L b : Nat} {xs : Nat → Int32} {rec18 : Nat → Nat → Int32 → xM Int32} {t0 : Int32} {t1 : Nat} {t2 : Int32} {t3 : Int32} {a1 : Nat} {a2 : Nat} {a3 : Int32} (hX : xX E room_1 p m c code 8 s #[Value.ref b] "PayMatchLaw" meth.name meth (some .boolean) 16 10275 σ0 σ9) (hXs : va_X b L xs s s.heap ∧ b < s.heap.size ∧ s.heap.size ≤ E.2.2) (hl0 : l.stackTraces = false) (hrec18 : ∀ (a1 : Nat) (a2 : Nat) (a3 : Int32) (σ : xS) (H : Heap) (locs : List Loc) (cells slots : Nat) (ls : Array Slot), (rec18 a1 a2 a3).1 σ = some ((1 : Int32), σ9) → xI E σ0 σ s H locs cells slots → lv_has ls 8 [(0, .ref b), (1, .ref a1), (2, .ref a2), (3, .int a3)] → W p l e room_1 s m #[Value.ref b] below meth c H locs cells slots (lw_Z below #[Value.ref b] s) (F0 m 18 ls []))
    (h : (f_law_b270 L xs rec18 t0 t1 t2 t3 a1 a2 a3).1 σ = some ((1 : Int32), σ9)) (hI : xI E σ0 σ s H locs cells slots) (hl : lv_has ls 8 [(0, .ref b), (1, .ref a1), (2, .ref a2), (3, .int a3)]) : W p l e room_1 s m #[Value.ref b] below meth c H locs cells slots (lw_Z below #[Value.ref b] s) (F0 m 270 ls [.int t3, .int t2, .ref t1, .int t0]) := by
  have hx := hX.1.1
  have hb := hX.1.2.1
  delta f_law_b270 at h
  refine lv_aload_n hx hb dL_law_270 rfl (lv_at hl 0 rfl) ?_
  refine lv_iload_n hx hb dL_law_271 rfl (lv_at hl 3 rfl) ?_
  refine lv_iconst (v := (3 : Int32)) hx hb dL_law_272 (by decide) ?_
  refine lv_iadd hx hb dL_law_273 ?_
  refine xr_scr h hX hI hXs dL_law_274 (fun h => ?_)
  refine lv_i2l hx hb dL_law_275 rfl ?_
  refine lv_bipush (v := (32 : Int32)) hx hb dL_law_276 (by decide) ?_
  refine lv_lshl hx hb dL_law_278 rfl ?_
  refine lv_aload_n hx hb dL_law_279 rfl (lv_at hl 0 rfl) ?_
  refine lv_iload_n hx hb dL_law_280 rfl (lv_at hl 3 rfl) ?_
  refine lv_iconst (v := (4 : Int32)) hx hb dL_law_281 (by decide) ?_
  refine lv_iadd hx hb dL_law_282 ?_
  refine xr_scr h hX hI hXs dL_law_283 (fun h => ?_)
  refine lv_i2l hx hb dL_law_284 rfl ?_
  refine lv_ldc2 (v := (4294967295 : Int64)) hx hb hX.1.2.2.2.1 (hX.1.2.2.2.2 _ q2367) dL_law_285 ?_
  refine lv_land hx hb dL_law_288 ?_
  refine lv_lor hx hb dL_law_289 ?_
  refine xr_callV (iv := (fun b => some (.int b))) (As := [.int t2, .int t3, .long ((((xs (a3 + (3 : Int32)).toNatClampNeg).toInt64) <<< ((32 : Int32).toInt64 &&& 63)) ||| (((xs (a3 + (4 : Int32)).toNatClampNeg).toInt64) &&& (4294967295 : Int64)))]) (rest := [.int t0]) h hX hI (fun _ _ h => w_X3_setTolerance h) (fun _ _ h => o_X3_setTolerance h) rfl 3 (lw_V q2035 q2036 q2037 q87 q2038) ⟨rfl, xd_X3_setTolerance⟩ ⟨rfl, rfl⟩ rfl hl.1 (Nat.le_of_ble_eq_true rfl) dL_law_290 (fun v426 H locs σ cells slots h hI => ?_)
  refine W.eq (g2 := F0 m 293 ls [.int v426, .int t0]) rfl ?_
  refine lv_icmp_eq (tgt := 1529) hx hb dL_law_293 (by decide) (fun hc => ?_) (fun hc => ?_)
  · have h := xif_t h hc
    exact w_law_b1529 hX hXs hl0 hrec18 h hI (lv_sub hl [0, 1, 2, 3] rfl)
  · have h := xif_f h hc
    refine lv_iconst (v := (0 : Int32)) hx hb dL_law_296 (by decide) ?_
    exact xr_lawret h hX hI hXs dL_law_297
theorem w_law_b228 {L b : Nat} {xs : Nat → Int32} {rec18 : Nat → Nat → Int32 → xM Int32} {t0 : Nat} {t1 : Int32} {t2 : Int32} {a1 : Nat} {a2 : Nat} {a3 : Int32} (hX : xX E room_1 p m c code 8 s #[Value.ref b] "PayMatchLaw" meth.name meth (some .boolean) 16 10275 σ0 σ9) (hXs : va_X b L xs s s.heap ∧ b < s.heap.size ∧ s.heap.size ≤ E.2.2) (hl0 : l.stackTraces = false) (hrec18 : ∀ (a1 : Nat) (a2 : Nat) (a3 : Int32) (σ : xS) (H : Heap) (locs : List Loc) (cells slots : Nat) (ls : Array Slot), (rec18 a1 a2 a3).1 σ = some ((1 : Int32), σ9) → xI E σ0 σ s H locs cells slots → lv_has ls 8 [(0, .ref b), (1, .ref a1), (2, .ref a2), (3, .int a3)] → W p l e room_1 s m #[Value.ref b] below meth c H locs cells slots (lw_Z below #[Value.ref b] s) (F0 m 18 ls []))
    (h : (f_law_b228 L xs rec18 t0 t1 t2 a1 a2 a3).1 σ = some ((1 : Int32), σ9)) (hI : xI E σ0 σ s H locs cells slots) (hl : lv_has ls 8 [(0, .ref b), (1, .ref a1), (2, .ref a2), (3, .int a3)]) : W p l e room_1 s m #[Value.ref b] below meth c H locs cells slots (lw_Z below #[Value.ref b] s) (F0 m 228 ls [.int t2, .int t1, .ref t0]) := by
  have hx := hX.1.1
  have hb := hX.1.2.1
  delta f_law_b228 at h
  refine lv_aload_n hx hb dL_law_228 rfl (lv_at hl 0 rfl) ?_
  refine lv_iload_n hx hb dL_law_229 rfl (lv_at hl 3 rfl) ?_
  refine lv_iconst (v := (3 : Int32)) hx hb dL_law_230 (by decide) ?_
  refine lv_iadd hx hb dL_law_231 ?_
  refine xr_scr h hX hI hXs dL_law_232 (fun h => ?_)
  refine lv_i2l hx hb dL_law_233 rfl ?_
  refine lv_bipush (v := (32 : Int32)) hx hb dL_law_234 (by decide) ?_
  refine lv_lshl hx hb dL_law_236 rfl ?_
  refine lv_aload_n hx hb dL_law_237 rfl (lv_at hl 0 rfl) ?_
  refine lv_iload_n hx hb dL_law_238 rfl (lv_at hl 3 rfl) ?_
  refine lv_iconst (v := (4 : Int32)) hx hb dL_law_239 (by decide) ?_
  refine lv_iadd hx hb dL_law_240 ?_
  refine xr_scr h hX hI hXs dL_law_241 (fun h => ?_)
  refine lv_i2l hx hb dL_law_242 rfl ?_
  refine lv_ldc2 (v := (4294967295 : Int64)) hx hb hX.1.2.2.2.1 (hX.1.2.2.2.2 _ q2367) dL_law_243 ?_
  refine lv_land hx hb dL_law_246 ?_
  refine lv_lor hx hb dL_law_247 ?_
  refine xr_callV (iv := (fun b => some (.int b))) (As := [.int t1, .int t2, .long ((((xs (a3 + (3 : Int32)).toNatClampNeg).toInt64) <<< ((32 : Int32).toInt64 &&& 63)) ||| (((xs (a3 + (4 : Int32)).toNatClampNeg).toInt64) &&& (4294967295 : Int64)))]) (rest := []) h hX hI (fun _ _ h => w_X0_setTolerance h) (fun _ _ h => o_X0_setTolerance h) rfl 3 (lw_V q1221 q1222 q1223 q74 q1224) ⟨rfl, xd_X0_setTolerance⟩ ⟨rfl, rfl⟩ rfl hl.1 (Nat.le_of_ble_eq_true rfl) dL_law_248 (fun v421 H locs σ cells slots h hI => ?_)
  refine W.eq (g2 := F0 m 251 ls [.int v421]) rfl ?_
  refine lv_aload_n hx hb dL_law_251 rfl (lv_at hl 2 rfl) ?_
  refine lv_aload_n hx hb dL_law_252 rfl (lv_at hl 0 rfl) ?_
  refine lv_iload_n hx hb dL_law_253 rfl (lv_at hl 3 rfl) ?_
  refine lv_iconst (v := (1 : Int32)) hx hb dL_law_254 (by decide) ?_
  refine lv_iadd hx hb dL_law_255 ?_
  refine xr_scr h hX hI hXs dL_law_256 (fun h => ?_)
  refine lv_aload_n hx hb dL_law_257 rfl (lv_at hl 0 rfl) ?_
  refine lv_iload_n hx hb dL_law_258 rfl (lv_at hl 3 rfl) ?_
  refine lv_iconst (v := (2 : Int32)) hx hb dL_law_259 (by decide) ?_
  refine lv_iadd hx hb dL_law_260 ?_
  refine xr_scr h hX hI hXs dL_law_261 (fun h => ?_)
  refine lv_if_eq (tgt := 269) hx hb dL_law_262 (by decide) (fun hc => ?_) (fun hc => ?_)
  · have h := xif_t h hc
    refine lv_iconst (v := (0 : Int32)) hx hb dL_law_269 (by decide) ?_
    exact w_law_b270 hX hXs hl0 hrec18 h hI (lv_sub hl [0, 1, 2, 3] rfl)
  · have h := xif_f h hc
    refine lv_iconst (v := (1 : Int32)) hx hb dL_law_265 (by decide) ?_
    refine lv_goto (tgt := 270) hx hb dL_law_266 (by decide) ?_
    exact w_law_b270 hX hXs hl0 hrec18 h hI (lv_sub hl [0, 1, 2, 3] rfl)
theorem w_law_b209 {L b : Nat} {xs : Nat → Int32} {rec18 : Nat → Nat → Int32 → xM Int32} {a1 : Nat} {a2 : Nat} {a3 : Int32} (hX : xX E room_1 p m c code 8 s #[Value.ref b] "PayMatchLaw" meth.name meth (some .boolean) 16 10275 σ0 σ9) (hXs : va_X b L xs s s.heap ∧ b < s.heap.size ∧ s.heap.size ≤ E.2.2) (hl0 : l.stackTraces = false) (hrec18 : ∀ (a1 : Nat) (a2 : Nat) (a3 : Int32) (σ : xS) (H : Heap) (locs : List Loc) (cells slots : Nat) (ls : Array Slot), (rec18 a1 a2 a3).1 σ = some ((1 : Int32), σ9) → xI E σ0 σ s H locs cells slots → lv_has ls 8 [(0, .ref b), (1, .ref a1), (2, .ref a2), (3, .int a3)] → W p l e room_1 s m #[Value.ref b] below meth c H locs cells slots (lw_Z below #[Value.ref b] s) (F0 m 18 ls []))
    (h : (f_law_b209 L xs rec18 a1 a2 a3).1 σ = some ((1 : Int32), σ9)) (hI : xI E σ0 σ s H locs cells slots) (hl : lv_has ls 8 [(0, .ref b), (1, .ref a1), (2, .ref a2), (3, .int a3)]) : W p l e room_1 s m #[Value.ref b] below meth c H locs cells slots (lw_Z below #[Value.ref b] s) (F0 m 209 ls []) := by
  have hx := hX.1.1
  have hb := hX.1.2.1
  delta f_law_b209 at h
  refine lv_aload_n hx hb dL_law_209 rfl (lv_at hl 1 rfl) ?_
  refine lv_aload_n hx hb dL_law_210 rfl (lv_at hl 0 rfl) ?_
  refine lv_iload_n hx hb dL_law_211 rfl (lv_at hl 3 rfl) ?_
  refine lv_iconst (v := (1 : Int32)) hx hb dL_law_212 (by decide) ?_
  refine lv_iadd hx hb dL_law_213 ?_
  refine xr_scr h hX hI hXs dL_law_214 (fun h => ?_)
  refine lv_aload_n hx hb dL_law_215 rfl (lv_at hl 0 rfl) ?_
  refine lv_iload_n hx hb dL_law_216 rfl (lv_at hl 3 rfl) ?_
  refine lv_iconst (v := (2 : Int32)) hx hb dL_law_217 (by decide) ?_
  refine lv_iadd hx hb dL_law_218 ?_
  refine xr_scr h hX hI hXs dL_law_219 (fun h => ?_)
  refine lv_if_eq (tgt := 227) hx hb dL_law_220 (by decide) (fun hc => ?_) (fun hc => ?_)
  · have h := xif_t h hc
    refine lv_iconst (v := (0 : Int32)) hx hb dL_law_227 (by decide) ?_
    exact w_law_b228 hX hXs hl0 hrec18 h hI (lv_sub hl [0, 1, 2, 3] rfl)
  · have h := xif_f h hc
    refine lv_iconst (v := (1 : Int32)) hx hb dL_law_223 (by decide) ?_
    refine lv_goto (tgt := 228) hx hb dL_law_224 (by decide) ?_
    exact w_law_b228 hX hXs hl0 hrec18 h hI (lv_sub hl [0, 1, 2, 3] rfl)
theorem w_law_b298 {L b : Nat} {xs : Nat → Int32} {rec18 : Nat → Nat → Int32 → xM Int32} {a1 : Nat} {a2 : Nat} {a3 : Int32} (hX : xX E room_1 p m c code 8 s #[Value.ref b] "PayMatchLaw" meth.name meth (some .boolean) 16 10275 σ0 σ9) (hXs : va_X b L xs s s.heap ∧ b < s.heap.size ∧ s.heap.size ≤ E.2.2) (hl0 : l.stackTraces = false) (hrec18 : ∀ (a1 : Nat) (a2 : Nat) (a3 : Int32) (σ : xS) (H : Heap) (locs : List Loc) (cells slots : Nat) (ls : Array Slot), (rec18 a1 a2 a3).1 σ = some ((1 : Int32), σ9) → xI E σ0 σ s H locs cells slots → lv_has ls 8 [(0, .ref b), (1, .ref a1), (2, .ref a2), (3, .int a3)] → W p l e room_1 s m #[Value.ref b] below meth c H locs cells slots (lw_Z below #[Value.ref b] s) (F0 m 18 ls []))
    (h : (f_law_b298 L xs rec18 a1 a2 a3).1 σ = some ((1 : Int32), σ9)) (hI : xI E σ0 σ s H locs cells slots) (hl : lv_has ls 8 [(0, .ref b), (1, .ref a1), (2, .ref a2), (3, .int a3)]) : W p l e room_1 s m #[Value.ref b] below meth c H locs cells slots (lw_Z below #[Value.ref b] s) (F0 m 298 ls []) := by
  have hx := hX.1.1
  have hb := hX.1.2.1
  delta f_law_b298 at h
  refine lv_aload_n hx hb dL_law_298 rfl (lv_at hl 1 rfl) ?_
  refine lv_aload_n hx hb dL_law_299 rfl (lv_at hl 0 rfl) ?_
  refine lv_iload_n hx hb dL_law_300 rfl (lv_at hl 3 rfl) ?_
  refine lv_iconst (v := (1 : Int32)) hx hb dL_law_301 (by decide) ?_
  refine lv_iadd hx hb dL_law_302 ?_
  refine xr_scr h hX hI hXs dL_law_303 (fun h => ?_)
  refine lv_aload_n hx hb dL_law_304 rfl (lv_at hl 0 rfl) ?_
  refine lv_iload_n hx hb dL_law_305 rfl (lv_at hl 3 rfl) ?_
  refine lv_iconst (v := (2 : Int32)) hx hb dL_law_306 (by decide) ?_
  refine lv_iadd hx hb dL_law_307 ?_
  refine xr_scr h hX hI hXs dL_law_308 (fun h => ?_)
  refine xr_callV (iv := (fun b => some (.int b))) (As := [.int (xs (a3 + (1 : Int32)).toNatClampNeg), .int (xs (a3 + (2 : Int32)).toNatClampNeg)]) (rest := []) h hX hI (fun _ _ h => w_X0_setTrifle h) (fun _ _ h => o_X0_setTrifle h) rfl 2 (lw_V q1263 q1264 q1265 q74 q1266) ⟨rfl, xd_X0_setTrifle⟩ ⟨rfl, rfl⟩ rfl hl.1 (Nat.le_of_ble_eq_true rfl) dL_law_309 (fun v413 H locs σ cells slots h hI => ?_)
  refine W.eq (g2 := F0 m 312 ls [.int v413]) rfl ?_
  refine lv_aload_n hx hb dL_law_312 rfl (lv_at hl 2 rfl) ?_
  refine lv_aload_n hx hb dL_law_313 rfl (lv_at hl 0 rfl) ?_
  refine lv_iload_n hx hb dL_law_314 rfl (lv_at hl 3 rfl) ?_
  refine lv_iconst (v := (1 : Int32)) hx hb dL_law_315 (by decide) ?_
  refine lv_iadd hx hb dL_law_316 ?_
  refine xr_scr h hX hI hXs dL_law_317 (fun h => ?_)
  refine lv_aload_n hx hb dL_law_318 rfl (lv_at hl 0 rfl) ?_
  refine lv_iload_n hx hb dL_law_319 rfl (lv_at hl 3 rfl) ?_
  refine lv_iconst (v := (2 : Int32)) hx hb dL_law_320 (by decide) ?_
  refine lv_iadd hx hb dL_law_321 ?_
  refine xr_scr h hX hI hXs dL_law_322 (fun h => ?_)
  refine xr_callV (iv := (fun b => some (.int b))) (As := [.int (xs (a3 + (1 : Int32)).toNatClampNeg), .int (xs (a3 + (2 : Int32)).toNatClampNeg)]) (rest := [.int v413]) h hX hI (fun _ _ h => w_X3_setTrifle h) (fun _ _ h => o_X3_setTrifle h) rfl 2 (lw_V q2052 q2053 q2054 q87 q2055) ⟨rfl, xd_X3_setTrifle⟩ ⟨rfl, rfl⟩ rfl hl.1 (Nat.le_of_ble_eq_true rfl) dL_law_323 (fun v416 H locs σ cells slots h hI => ?_)
  refine W.eq (g2 := F0 m 326 ls [.int v416, .int v413]) rfl ?_
  refine lv_icmp_eq (tgt := 1529) hx hb dL_law_326 (by decide) (fun hc => ?_) (fun hc => ?_)
  · have h := xif_t h hc
    exact w_law_b1529 hX hXs hl0 hrec18 h hI (lv_sub hl [0, 1, 2, 3] rfl)
  · have h := xif_f h hc
    refine lv_iconst (v := (0 : Int32)) hx hb dL_law_329 (by decide) ?_
    exact xr_lawret h hX hI hXs dL_law_330
theorem w_law_b372 {L b : Nat} {xs : Nat → Int32} {rec18 : Nat → Nat → Int32 → xM Int32} {t0 : Int32} {t1 : Nat} {t2 : Int32} {t3 : Int32} {a1 : Nat} {a2 : Nat} {a3 : Int32} (hX : xX E room_1 p m c code 8 s #[Value.ref b] "PayMatchLaw" meth.name meth (some .boolean) 16 10275 σ0 σ9) (hXs : va_X b L xs s s.heap ∧ b < s.heap.size ∧ s.heap.size ≤ E.2.2) (hl0 : l.stackTraces = false) (hrec18 : ∀ (a1 : Nat) (a2 : Nat) (a3 : Int32) (σ : xS) (H : Heap) (locs : List Loc) (cells slots : Nat) (ls : Array Slot), (rec18 a1 a2 a3).1 σ = some ((1 : Int32), σ9) → xI E σ0 σ s H locs cells slots → lv_has ls 8 [(0, .ref b), (1, .ref a1), (2, .ref a2), (3, .int a3)] → W p l e room_1 s m #[Value.ref b] below meth c H locs cells slots (lw_Z below #[Value.ref b] s) (F0 m 18 ls []))
    (h : (f_law_b372 L xs rec18 t0 t1 t2 t3 a1 a2 a3).1 σ = some ((1 : Int32), σ9)) (hI : xI E σ0 σ s H locs cells slots) (hl : lv_has ls 8 [(0, .ref b), (1, .ref a1), (2, .ref a2), (3, .int a3)]) : W p l e room_1 s m #[Value.ref b] below meth c H locs cells slots (lw_Z below #[Value.ref b] s) (F0 m 372 ls [.int t3, .int t2, .ref t1, .int t0]) := by
  have hx := hX.1.1
  have hb := hX.1.2.1
  delta f_law_b372 at h
  refine xr_callV (iv := (fun b => some (.int b))) (As := [.int t2, .int t3]) (rest := [.int t0]) h hX hI (fun _ _ h => w_X3_block h) (fun _ _ h => o_X3_block h) rfl 2 (lw_V q2056 q2057 q2058 q87 q2059) ⟨rfl, xd_X3_block⟩ ⟨rfl, rfl⟩ rfl hl.1 (Nat.le_of_ble_eq_true rfl) dL_law_372 (fun v410 H locs σ cells slots h hI => ?_)
  refine W.eq (g2 := F0 m 375 ls [.int v410, .int t0]) rfl ?_
  refine lv_icmp_eq (tgt := 1529) hx hb dL_law_375 (by decide) (fun hc => ?_) (fun hc => ?_)
  · have h := xif_t h hc
    exact w_law_b1529 hX hXs hl0 hrec18 h hI (lv_sub hl [0, 1, 2, 3] rfl)
  · have h := xif_f h hc
    refine lv_iconst (v := (0 : Int32)) hx hb dL_law_378 (by decide) ?_
    exact xr_lawret h hX hI hXs dL_law_379
theorem w_law_b350 {L b : Nat} {xs : Nat → Int32} {rec18 : Nat → Nat → Int32 → xM Int32} {t0 : Nat} {t1 : Int32} {t2 : Int32} {a1 : Nat} {a2 : Nat} {a3 : Int32} (hX : xX E room_1 p m c code 8 s #[Value.ref b] "PayMatchLaw" meth.name meth (some .boolean) 16 10275 σ0 σ9) (hXs : va_X b L xs s s.heap ∧ b < s.heap.size ∧ s.heap.size ≤ E.2.2) (hl0 : l.stackTraces = false) (hrec18 : ∀ (a1 : Nat) (a2 : Nat) (a3 : Int32) (σ : xS) (H : Heap) (locs : List Loc) (cells slots : Nat) (ls : Array Slot), (rec18 a1 a2 a3).1 σ = some ((1 : Int32), σ9) → xI E σ0 σ s H locs cells slots → lv_has ls 8 [(0, .ref b), (1, .ref a1), (2, .ref a2), (3, .int a3)] → W p l e room_1 s m #[Value.ref b] below meth c H locs cells slots (lw_Z below #[Value.ref b] s) (F0 m 18 ls []))
    (h : (f_law_b350 L xs rec18 t0 t1 t2 a1 a2 a3).1 σ = some ((1 : Int32), σ9)) (hI : xI E σ0 σ s H locs cells slots) (hl : lv_has ls 8 [(0, .ref b), (1, .ref a1), (2, .ref a2), (3, .int a3)]) : W p l e room_1 s m #[Value.ref b] below meth c H locs cells slots (lw_Z below #[Value.ref b] s) (F0 m 350 ls [.int t2, .int t1, .ref t0]) := by
  have hx := hX.1.1
  have hb := hX.1.2.1
  delta f_law_b350 at h
  refine xr_callV (iv := (fun b => some (.int b))) (As := [.int t1, .int t2]) (rest := []) h hX hI (fun _ _ h => w_X0_block h) (fun _ _ h => o_X0_block h) rfl 2 (lw_V q1268 q1269 q1270 q74 q1271) ⟨rfl, xd_X0_block⟩ ⟨rfl, rfl⟩ rfl hl.1 (Nat.le_of_ble_eq_true rfl) dL_law_350 (fun v407 H locs σ cells slots h hI => ?_)
  refine W.eq (g2 := F0 m 353 ls [.int v407]) rfl ?_
  refine lv_aload_n hx hb dL_law_353 rfl (lv_at hl 2 rfl) ?_
  refine lv_aload_n hx hb dL_law_354 rfl (lv_at hl 0 rfl) ?_
  refine lv_iload_n hx hb dL_law_355 rfl (lv_at hl 3 rfl) ?_
  refine lv_iconst (v := (1 : Int32)) hx hb dL_law_356 (by decide) ?_
  refine lv_iadd hx hb dL_law_357 ?_
  refine xr_scr h hX hI hXs dL_law_358 (fun h => ?_)
  refine lv_aload_n hx hb dL_law_359 rfl (lv_at hl 0 rfl) ?_
  refine lv_iload_n hx hb dL_law_360 rfl (lv_at hl 3 rfl) ?_
  refine lv_iconst (v := (2 : Int32)) hx hb dL_law_361 (by decide) ?_
  refine lv_iadd hx hb dL_law_362 ?_
  refine xr_scr h hX hI hXs dL_law_363 (fun h => ?_)
  refine lv_if_eq (tgt := 371) hx hb dL_law_364 (by decide) (fun hc => ?_) (fun hc => ?_)
  · have h := xif_t h hc
    refine lv_iconst (v := (0 : Int32)) hx hb dL_law_371 (by decide) ?_
    exact w_law_b372 hX hXs hl0 hrec18 h hI (lv_sub hl [0, 1, 2, 3] rfl)
  · have h := xif_f h hc
    refine lv_iconst (v := (1 : Int32)) hx hb dL_law_367 (by decide) ?_
    refine lv_goto (tgt := 372) hx hb dL_law_368 (by decide) ?_
    exact w_law_b372 hX hXs hl0 hrec18 h hI (lv_sub hl [0, 1, 2, 3] rfl)
theorem w_law_b331 {L b : Nat} {xs : Nat → Int32} {rec18 : Nat → Nat → Int32 → xM Int32} {a1 : Nat} {a2 : Nat} {a3 : Int32} (hX : xX E room_1 p m c code 8 s #[Value.ref b] "PayMatchLaw" meth.name meth (some .boolean) 16 10275 σ0 σ9) (hXs : va_X b L xs s s.heap ∧ b < s.heap.size ∧ s.heap.size ≤ E.2.2) (hl0 : l.stackTraces = false) (hrec18 : ∀ (a1 : Nat) (a2 : Nat) (a3 : Int32) (σ : xS) (H : Heap) (locs : List Loc) (cells slots : Nat) (ls : Array Slot), (rec18 a1 a2 a3).1 σ = some ((1 : Int32), σ9) → xI E σ0 σ s H locs cells slots → lv_has ls 8 [(0, .ref b), (1, .ref a1), (2, .ref a2), (3, .int a3)] → W p l e room_1 s m #[Value.ref b] below meth c H locs cells slots (lw_Z below #[Value.ref b] s) (F0 m 18 ls []))
    (h : (f_law_b331 L xs rec18 a1 a2 a3).1 σ = some ((1 : Int32), σ9)) (hI : xI E σ0 σ s H locs cells slots) (hl : lv_has ls 8 [(0, .ref b), (1, .ref a1), (2, .ref a2), (3, .int a3)]) : W p l e room_1 s m #[Value.ref b] below meth c H locs cells slots (lw_Z below #[Value.ref b] s) (F0 m 331 ls []) := by
  have hx := hX.1.1
  have hb := hX.1.2.1
  delta f_law_b331 at h
  refine lv_aload_n hx hb dL_law_331 rfl (lv_at hl 1 rfl) ?_
  refine lv_aload_n hx hb dL_law_332 rfl (lv_at hl 0 rfl) ?_
  refine lv_iload_n hx hb dL_law_333 rfl (lv_at hl 3 rfl) ?_
  refine lv_iconst (v := (1 : Int32)) hx hb dL_law_334 (by decide) ?_
  refine lv_iadd hx hb dL_law_335 ?_
  refine xr_scr h hX hI hXs dL_law_336 (fun h => ?_)
  refine lv_aload_n hx hb dL_law_337 rfl (lv_at hl 0 rfl) ?_
  refine lv_iload_n hx hb dL_law_338 rfl (lv_at hl 3 rfl) ?_
  refine lv_iconst (v := (2 : Int32)) hx hb dL_law_339 (by decide) ?_
  refine lv_iadd hx hb dL_law_340 ?_
  refine xr_scr h hX hI hXs dL_law_341 (fun h => ?_)
  refine lv_if_eq (tgt := 349) hx hb dL_law_342 (by decide) (fun hc => ?_) (fun hc => ?_)
  · have h := xif_t h hc
    refine lv_iconst (v := (0 : Int32)) hx hb dL_law_349 (by decide) ?_
    exact w_law_b350 hX hXs hl0 hrec18 h hI (lv_sub hl [0, 1, 2, 3] rfl)
  · have h := xif_f h hc
    refine lv_iconst (v := (1 : Int32)) hx hb dL_law_345 (by decide) ?_
    refine lv_goto (tgt := 350) hx hb dL_law_346 (by decide) ?_
    exact w_law_b350 hX hXs hl0 hrec18 h hI (lv_sub hl [0, 1, 2, 3] rfl)
theorem w_law_b380 {L b : Nat} {xs : Nat → Int32} {rec18 : Nat → Nat → Int32 → xM Int32} {a1 : Nat} {a2 : Nat} {a3 : Int32} (hX : xX E room_1 p m c code 8 s #[Value.ref b] "PayMatchLaw" meth.name meth (some .boolean) 16 10275 σ0 σ9) (hXs : va_X b L xs s s.heap ∧ b < s.heap.size ∧ s.heap.size ≤ E.2.2) (hl0 : l.stackTraces = false) (hrec18 : ∀ (a1 : Nat) (a2 : Nat) (a3 : Int32) (σ : xS) (H : Heap) (locs : List Loc) (cells slots : Nat) (ls : Array Slot), (rec18 a1 a2 a3).1 σ = some ((1 : Int32), σ9) → xI E σ0 σ s H locs cells slots → lv_has ls 8 [(0, .ref b), (1, .ref a1), (2, .ref a2), (3, .int a3)] → W p l e room_1 s m #[Value.ref b] below meth c H locs cells slots (lw_Z below #[Value.ref b] s) (F0 m 18 ls []))
    (h : (f_law_b380 L xs rec18 a1 a2 a3).1 σ = some ((1 : Int32), σ9)) (hI : xI E σ0 σ s H locs cells slots) (hl : lv_has ls 8 [(0, .ref b), (1, .ref a1), (2, .ref a2), (3, .int a3)]) : W p l e room_1 s m #[Value.ref b] below meth c H locs cells slots (lw_Z below #[Value.ref b] s) (F0 m 380 ls []) := by
  have hx := hX.1.1
  have hb := hX.1.2.1
  delta f_law_b380 at h
  refine lv_aload_n hx hb dL_law_380 rfl (lv_at hl 1 rfl) ?_
  refine lv_aload_n hx hb dL_law_381 rfl (lv_at hl 0 rfl) ?_
  refine lv_iload_n hx hb dL_law_382 rfl (lv_at hl 3 rfl) ?_
  refine lv_iconst (v := (1 : Int32)) hx hb dL_law_383 (by decide) ?_
  refine lv_iadd hx hb dL_law_384 ?_
  refine xr_scr h hX hI hXs dL_law_385 (fun h => ?_)
  refine lv_i2l hx hb dL_law_386 rfl ?_
  refine lv_bipush (v := (32 : Int32)) hx hb dL_law_387 (by decide) ?_
  refine lv_lshl hx hb dL_law_389 rfl ?_
  refine lv_aload_n hx hb dL_law_390 rfl (lv_at hl 0 rfl) ?_
  refine lv_iload_n hx hb dL_law_391 rfl (lv_at hl 3 rfl) ?_
  refine lv_iconst (v := (2 : Int32)) hx hb dL_law_392 (by decide) ?_
  refine lv_iadd hx hb dL_law_393 ?_
  refine xr_scr h hX hI hXs dL_law_394 (fun h => ?_)
  refine lv_i2l hx hb dL_law_395 rfl ?_
  refine lv_ldc2 (v := (4294967295 : Int64)) hx hb hX.1.2.2.2.1 (hX.1.2.2.2.2 _ q2367) dL_law_396 ?_
  refine lv_land hx hb dL_law_399 ?_
  refine lv_lor hx hb dL_law_400 ?_
  refine xr_callV (iv := (fun b => some (.int b))) (As := [.long ((((xs (a3 + (1 : Int32)).toNatClampNeg).toInt64) <<< ((32 : Int32).toInt64 &&& 63)) ||| (((xs (a3 + (2 : Int32)).toNatClampNeg).toInt64) &&& (4294967295 : Int64)))]) (rest := []) h hX hI (fun _ _ h => w_X0_setDiscount h) (fun _ _ h => o_X0_setDiscount h) rfl 1 (lw_V q1283 q1284 q1285 q74 q1286) ⟨rfl, xd_X0_setDiscount⟩ ⟨rfl, rfl⟩ rfl hl.1 (Nat.le_of_ble_eq_true rfl) dL_law_401 (fun v401 H locs σ cells slots h hI => ?_)
  refine W.eq (g2 := F0 m 404 ls [.int v401]) rfl ?_
  refine lv_aload_n hx hb dL_law_404 rfl (lv_at hl 2 rfl) ?_
  refine lv_aload_n hx hb dL_law_405 rfl (lv_at hl 0 rfl) ?_
  refine lv_iload_n hx hb dL_law_406 rfl (lv_at hl 3 rfl) ?_
  refine lv_iconst (v := (1 : Int32)) hx hb dL_law_407 (by decide) ?_
  refine lv_iadd hx hb dL_law_408 ?_
  refine xr_scr h hX hI hXs dL_law_409 (fun h => ?_)
  refine lv_i2l hx hb dL_law_410 rfl ?_
  refine lv_bipush (v := (32 : Int32)) hx hb dL_law_411 (by decide) ?_
  refine lv_lshl hx hb dL_law_413 rfl ?_
  refine lv_aload_n hx hb dL_law_414 rfl (lv_at hl 0 rfl) ?_
  refine lv_iload_n hx hb dL_law_415 rfl (lv_at hl 3 rfl) ?_
  refine lv_iconst (v := (2 : Int32)) hx hb dL_law_416 (by decide) ?_
  refine lv_iadd hx hb dL_law_417 ?_
  refine xr_scr h hX hI hXs dL_law_418 (fun h => ?_)
  refine lv_i2l hx hb dL_law_419 rfl ?_
  refine lv_ldc2 (v := (4294967295 : Int64)) hx hb hX.1.2.2.2.1 (hX.1.2.2.2.2 _ q2367) dL_law_420 ?_
  refine lv_land hx hb dL_law_423 ?_
  refine lv_lor hx hb dL_law_424 ?_
  refine xr_callV (iv := (fun b => some (.int b))) (As := [.long ((((xs (a3 + (1 : Int32)).toNatClampNeg).toInt64) <<< ((32 : Int32).toInt64 &&& 63)) ||| (((xs (a3 + (2 : Int32)).toNatClampNeg).toInt64) &&& (4294967295 : Int64)))]) (rest := [.int v401]) h hX hI (fun _ _ h => w_X3_setDiscount h) (fun _ _ h => o_X3_setDiscount h) rfl 1 (lw_V q2078 q2079 q2080 q87 q2081) ⟨rfl, xd_X3_setDiscount⟩ ⟨rfl, rfl⟩ rfl hl.1 (Nat.le_of_ble_eq_true rfl) dL_law_425 (fun v404 H locs σ cells slots h hI => ?_)
  refine W.eq (g2 := F0 m 428 ls [.int v404, .int v401]) rfl ?_
  refine lv_icmp_eq (tgt := 1529) hx hb dL_law_428 (by decide) (fun hc => ?_) (fun hc => ?_)
  · have h := xif_t h hc
    exact w_law_b1529 hX hXs hl0 hrec18 h hI (lv_sub hl [0, 1, 2, 3] rfl)
  · have h := xif_f h hc
    refine lv_iconst (v := (0 : Int32)) hx hb dL_law_431 (by decide) ?_
    exact xr_lawret h hX hI hXs dL_law_432
theorem w_law_b433 {L b : Nat} {xs : Nat → Int32} {rec18 : Nat → Nat → Int32 → xM Int32} {a1 : Nat} {a2 : Nat} {a3 : Int32} (hX : xX E room_1 p m c code 8 s #[Value.ref b] "PayMatchLaw" meth.name meth (some .boolean) 16 10275 σ0 σ9) (hXs : va_X b L xs s s.heap ∧ b < s.heap.size ∧ s.heap.size ≤ E.2.2) (hl0 : l.stackTraces = false) (hrec18 : ∀ (a1 : Nat) (a2 : Nat) (a3 : Int32) (σ : xS) (H : Heap) (locs : List Loc) (cells slots : Nat) (ls : Array Slot), (rec18 a1 a2 a3).1 σ = some ((1 : Int32), σ9) → xI E σ0 σ s H locs cells slots → lv_has ls 8 [(0, .ref b), (1, .ref a1), (2, .ref a2), (3, .int a3)] → W p l e room_1 s m #[Value.ref b] below meth c H locs cells slots (lw_Z below #[Value.ref b] s) (F0 m 18 ls []))
    (h : (f_law_b433 L xs rec18 a1 a2 a3).1 σ = some ((1 : Int32), σ9)) (hI : xI E σ0 σ s H locs cells slots) (hl : lv_has ls 8 [(0, .ref b), (1, .ref a1), (2, .ref a2), (3, .int a3)]) : W p l e room_1 s m #[Value.ref b] below meth c H locs cells slots (lw_Z below #[Value.ref b] s) (F0 m 433 ls []) := by
  have hx := hX.1.1
  have hb := hX.1.2.1
  delta f_law_b433 at h
  refine lv_aload_n hx hb dL_law_433 rfl (lv_at hl 1 rfl) ?_
  refine lv_aload_n hx hb dL_law_434 rfl (lv_at hl 0 rfl) ?_
  refine lv_iload_n hx hb dL_law_435 rfl (lv_at hl 3 rfl) ?_
  refine lv_iconst (v := (1 : Int32)) hx hb dL_law_436 (by decide) ?_
  refine lv_iadd hx hb dL_law_437 ?_
  refine xr_scr h hX hI hXs dL_law_438 (fun h => ?_)
  refine lv_aload_n hx hb dL_law_439 rfl (lv_at hl 0 rfl) ?_
  refine lv_iload_n hx hb dL_law_440 rfl (lv_at hl 3 rfl) ?_
  refine lv_iconst (v := (2 : Int32)) hx hb dL_law_441 (by decide) ?_
  refine lv_iadd hx hb dL_law_442 ?_
  refine xr_scr h hX hI hXs dL_law_443 (fun h => ?_)
  refine xr_callV (iv := (fun b => some (.int b))) (As := [.int (xs (a3 + (1 : Int32)).toNatClampNeg), .int (xs (a3 + (2 : Int32)).toNatClampNeg)]) (rest := []) h hX hI (fun _ _ h => w_X0_setTerms h) (fun _ _ h => o_X0_setTerms h) rfl 2 (lw_V q1288 q1289 q1290 q74 q1291) ⟨rfl, xd_X0_setTerms⟩ ⟨rfl, rfl⟩ rfl hl.1 (Nat.le_of_ble_eq_true rfl) dL_law_444 (fun v395 H locs σ cells slots h hI => ?_)
  refine W.eq (g2 := F0 m 447 ls [.int v395]) rfl ?_
  refine lv_aload_n hx hb dL_law_447 rfl (lv_at hl 2 rfl) ?_
  refine lv_aload_n hx hb dL_law_448 rfl (lv_at hl 0 rfl) ?_
  refine lv_iload_n hx hb dL_law_449 rfl (lv_at hl 3 rfl) ?_
  refine lv_iconst (v := (1 : Int32)) hx hb dL_law_450 (by decide) ?_
  refine lv_iadd hx hb dL_law_451 ?_
  refine xr_scr h hX hI hXs dL_law_452 (fun h => ?_)
  refine lv_aload_n hx hb dL_law_453 rfl (lv_at hl 0 rfl) ?_
  refine lv_iload_n hx hb dL_law_454 rfl (lv_at hl 3 rfl) ?_
  refine lv_iconst (v := (2 : Int32)) hx hb dL_law_455 (by decide) ?_
  refine lv_iadd hx hb dL_law_456 ?_
  refine xr_scr h hX hI hXs dL_law_457 (fun h => ?_)
  refine xr_callV (iv := (fun b => some (.int b))) (As := [.int (xs (a3 + (1 : Int32)).toNatClampNeg), .int (xs (a3 + (2 : Int32)).toNatClampNeg)]) (rest := [.int v395]) h hX hI (fun _ _ h => w_X3_setTerms h) (fun _ _ h => o_X3_setTerms h) rfl 2 (lw_V q2083 q2084 q2085 q87 q2086) ⟨rfl, xd_X3_setTerms⟩ ⟨rfl, rfl⟩ rfl hl.1 (Nat.le_of_ble_eq_true rfl) dL_law_458 (fun v398 H locs σ cells slots h hI => ?_)
  refine W.eq (g2 := F0 m 461 ls [.int v398, .int v395]) rfl ?_
  refine lv_icmp_eq (tgt := 1529) hx hb dL_law_461 (by decide) (fun hc => ?_) (fun hc => ?_)
  · have h := xif_t h hc
    exact w_law_b1529 hX hXs hl0 hrec18 h hI (lv_sub hl [0, 1, 2, 3] rfl)
  · have h := xif_f h hc
    refine lv_iconst (v := (0 : Int32)) hx hb dL_law_464 (by decide) ?_
    exact xr_lawret h hX hI hXs dL_law_465
theorem w_law_b466 {L b : Nat} {xs : Nat → Int32} {rec18 : Nat → Nat → Int32 → xM Int32} {a1 : Nat} {a2 : Nat} {a3 : Int32} (hX : xX E room_1 p m c code 8 s #[Value.ref b] "PayMatchLaw" meth.name meth (some .boolean) 16 10275 σ0 σ9) (hXs : va_X b L xs s s.heap ∧ b < s.heap.size ∧ s.heap.size ≤ E.2.2) (hl0 : l.stackTraces = false) (hrec18 : ∀ (a1 : Nat) (a2 : Nat) (a3 : Int32) (σ : xS) (H : Heap) (locs : List Loc) (cells slots : Nat) (ls : Array Slot), (rec18 a1 a2 a3).1 σ = some ((1 : Int32), σ9) → xI E σ0 σ s H locs cells slots → lv_has ls 8 [(0, .ref b), (1, .ref a1), (2, .ref a2), (3, .int a3)] → W p l e room_1 s m #[Value.ref b] below meth c H locs cells slots (lw_Z below #[Value.ref b] s) (F0 m 18 ls []))
    (h : (f_law_b466 L xs rec18 a1 a2 a3).1 σ = some ((1 : Int32), σ9)) (hI : xI E σ0 σ s H locs cells slots) (hl : lv_has ls 8 [(0, .ref b), (1, .ref a1), (2, .ref a2), (3, .int a3)]) : W p l e room_1 s m #[Value.ref b] below meth c H locs cells slots (lw_Z below #[Value.ref b] s) (F0 m 466 ls []) := by
  have hx := hX.1.1
  have hb := hX.1.2.1
  delta f_law_b466 at h
  refine lv_aload_n hx hb dL_law_466 rfl (lv_at hl 1 rfl) ?_
  refine lv_aload_n hx hb dL_law_467 rfl (lv_at hl 0 rfl) ?_
  refine lv_iload_n hx hb dL_law_468 rfl (lv_at hl 3 rfl) ?_
  refine lv_iconst (v := (1 : Int32)) hx hb dL_law_469 (by decide) ?_
  refine lv_iadd hx hb dL_law_470 ?_
  refine xr_scr h hX hI hXs dL_law_471 (fun h => ?_)
  refine xr_callV (iv := (fun b => some (.int b))) (As := [.int (xs (a3 + (1 : Int32)).toNatClampNeg)]) (rest := []) h hX hI (fun _ _ h => w_X0_addOrder h) (fun _ _ h => o_X0_addOrder h) rfl 1 (lw_V q1292 q1293 q1294 q74 q1295) ⟨rfl, xd_X0_addOrder⟩ ⟨rfl, rfl⟩ rfl hl.1 (Nat.le_of_ble_eq_true rfl) dL_law_472 (fun v390 H locs σ cells slots h hI => ?_)
  refine W.eq (g2 := F0 m 475 ls [.int v390]) rfl ?_
  refine lv_aload_n hx hb dL_law_475 rfl (lv_at hl 2 rfl) ?_
  refine lv_aload_n hx hb dL_law_476 rfl (lv_at hl 0 rfl) ?_
  refine lv_iload_n hx hb dL_law_477 rfl (lv_at hl 3 rfl) ?_
  refine lv_iconst (v := (1 : Int32)) hx hb dL_law_478 (by decide) ?_
  refine lv_iadd hx hb dL_law_479 ?_
  refine xr_scr h hX hI hXs dL_law_480 (fun h => ?_)
  refine xr_callV (iv := (fun b => some (.int b))) (As := [.int (xs (a3 + (1 : Int32)).toNatClampNeg)]) (rest := [.int v390]) h hX hI (fun _ _ h => w_X3_addOrder h) (fun _ _ h => o_X3_addOrder h) rfl 1 (lw_V q2087 q2088 q2089 q87 q2090) ⟨rfl, xd_X3_addOrder⟩ ⟨rfl, rfl⟩ rfl hl.1 (Nat.le_of_ble_eq_true rfl) dL_law_481 (fun v392 H locs σ cells slots h hI => ?_)
  refine W.eq (g2 := F0 m 484 ls [.int v392, .int v390]) rfl ?_
  refine lv_icmp_eq (tgt := 1529) hx hb dL_law_484 (by decide) (fun hc => ?_) (fun hc => ?_)
  · have h := xif_t h hc
    exact w_law_b1529 hX hXs hl0 hrec18 h hI (lv_sub hl [0, 1, 2, 3] rfl)
  · have h := xif_f h hc
    refine lv_iconst (v := (0 : Int32)) hx hb dL_law_487 (by decide) ?_
    exact xr_lawret h hX hI hXs dL_law_488
theorem w_law_b489 {L b : Nat} {xs : Nat → Int32} {rec18 : Nat → Nat → Int32 → xM Int32} {a1 : Nat} {a2 : Nat} {a3 : Int32} (hX : xX E room_1 p m c code 8 s #[Value.ref b] "PayMatchLaw" meth.name meth (some .boolean) 16 10275 σ0 σ9) (hXs : va_X b L xs s s.heap ∧ b < s.heap.size ∧ s.heap.size ≤ E.2.2) (hl0 : l.stackTraces = false) (hrec18 : ∀ (a1 : Nat) (a2 : Nat) (a3 : Int32) (σ : xS) (H : Heap) (locs : List Loc) (cells slots : Nat) (ls : Array Slot), (rec18 a1 a2 a3).1 σ = some ((1 : Int32), σ9) → xI E σ0 σ s H locs cells slots → lv_has ls 8 [(0, .ref b), (1, .ref a1), (2, .ref a2), (3, .int a3)] → W p l e room_1 s m #[Value.ref b] below meth c H locs cells slots (lw_Z below #[Value.ref b] s) (F0 m 18 ls []))
    (h : (f_law_b489 L xs rec18 a1 a2 a3).1 σ = some ((1 : Int32), σ9)) (hI : xI E σ0 σ s H locs cells slots) (hl : lv_has ls 8 [(0, .ref b), (1, .ref a1), (2, .ref a2), (3, .int a3)]) : W p l e room_1 s m #[Value.ref b] below meth c H locs cells slots (lw_Z below #[Value.ref b] s) (F0 m 489 ls []) := by
  have hx := hX.1.1
  have hb := hX.1.2.1
  delta f_law_b489 at h
  refine lv_aload_n hx hb dL_law_489 rfl (lv_at hl 1 rfl) ?_
  refine lv_aload_n hx hb dL_law_490 rfl (lv_at hl 0 rfl) ?_
  refine lv_iload_n hx hb dL_law_491 rfl (lv_at hl 3 rfl) ?_
  refine lv_iconst (v := (1 : Int32)) hx hb dL_law_492 (by decide) ?_
  refine lv_iadd hx hb dL_law_493 ?_
  refine xr_scr h hX hI hXs dL_law_494 (fun h => ?_)
  refine lv_aload_n hx hb dL_law_495 rfl (lv_at hl 0 rfl) ?_
  refine lv_iload_n hx hb dL_law_496 rfl (lv_at hl 3 rfl) ?_
  refine lv_iconst (v := (2 : Int32)) hx hb dL_law_497 (by decide) ?_
  refine lv_iadd hx hb dL_law_498 ?_
  refine xr_scr h hX hI hXs dL_law_499 (fun h => ?_)
  refine lv_aload_n hx hb dL_law_500 rfl (lv_at hl 0 rfl) ?_
  refine lv_iload_n hx hb dL_law_501 rfl (lv_at hl 3 rfl) ?_
  refine lv_iconst (v := (3 : Int32)) hx hb dL_law_502 (by decide) ?_
  refine lv_iadd hx hb dL_law_503 ?_
  refine xr_scr h hX hI hXs dL_law_504 (fun h => ?_)
  refine lv_aload_n hx hb dL_law_505 rfl (lv_at hl 0 rfl) ?_
  refine lv_iload_n hx hb dL_law_506 rfl (lv_at hl 3 rfl) ?_
  refine lv_iconst (v := (4 : Int32)) hx hb dL_law_507 (by decide) ?_
  refine lv_iadd hx hb dL_law_508 ?_
  refine xr_scr h hX hI hXs dL_law_509 (fun h => ?_)
  refine xr_callV (iv := (fun b => some (.int b))) (As := [.int (xs (a3 + (1 : Int32)).toNatClampNeg), .int (xs (a3 + (2 : Int32)).toNatClampNeg), .int (xs (a3 + (3 : Int32)).toNatClampNeg), .int (xs (a3 + (4 : Int32)).toNatClampNeg)]) (rest := []) h hX hI (fun _ _ h => w_X0_addLine h) (fun _ _ h => o_X0_addLine h) rfl 4 (lw_V q1298 q1299 q1300 q74 q1301) ⟨rfl, xd_X0_addLine⟩ ⟨rfl, rfl⟩ rfl hl.1 (Nat.le_of_ble_eq_true rfl) dL_law_510 (fun v383 H locs σ cells slots h hI => ?_)
  refine W.eq (g2 := F0 m 513 ls [.int v383]) rfl ?_
  refine lv_aload_n hx hb dL_law_513 rfl (lv_at hl 2 rfl) ?_
  refine lv_aload_n hx hb dL_law_514 rfl (lv_at hl 0 rfl) ?_
  refine lv_iload_n hx hb dL_law_515 rfl (lv_at hl 3 rfl) ?_
  refine lv_iconst (v := (1 : Int32)) hx hb dL_law_516 (by decide) ?_
  refine lv_iadd hx hb dL_law_517 ?_
  refine xr_scr h hX hI hXs dL_law_518 (fun h => ?_)
  refine lv_aload_n hx hb dL_law_519 rfl (lv_at hl 0 rfl) ?_
  refine lv_iload_n hx hb dL_law_520 rfl (lv_at hl 3 rfl) ?_
  refine lv_iconst (v := (2 : Int32)) hx hb dL_law_521 (by decide) ?_
  refine lv_iadd hx hb dL_law_522 ?_
  refine xr_scr h hX hI hXs dL_law_523 (fun h => ?_)
  refine lv_aload_n hx hb dL_law_524 rfl (lv_at hl 0 rfl) ?_
  refine lv_iload_n hx hb dL_law_525 rfl (lv_at hl 3 rfl) ?_
  refine lv_iconst (v := (3 : Int32)) hx hb dL_law_526 (by decide) ?_
  refine lv_iadd hx hb dL_law_527 ?_
  refine xr_scr h hX hI hXs dL_law_528 (fun h => ?_)
  refine lv_aload_n hx hb dL_law_529 rfl (lv_at hl 0 rfl) ?_
  refine lv_iload_n hx hb dL_law_530 rfl (lv_at hl 3 rfl) ?_
  refine lv_iconst (v := (4 : Int32)) hx hb dL_law_531 (by decide) ?_
  refine lv_iadd hx hb dL_law_532 ?_
  refine xr_scr h hX hI hXs dL_law_533 (fun h => ?_)
  refine xr_callV (iv := (fun b => some (.int b))) (As := [.int (xs (a3 + (1 : Int32)).toNatClampNeg), .int (xs (a3 + (2 : Int32)).toNatClampNeg), .int (xs (a3 + (3 : Int32)).toNatClampNeg), .int (xs (a3 + (4 : Int32)).toNatClampNeg)]) (rest := [.int v383]) h hX hI (fun _ _ h => w_X3_addLine h) (fun _ _ h => o_X3_addLine h) rfl 4 (lw_V q2091 q2092 q2093 q87 q2094) ⟨rfl, xd_X3_addLine⟩ ⟨rfl, rfl⟩ rfl hl.1 (Nat.le_of_ble_eq_true rfl) dL_law_534 (fun v388 H locs σ cells slots h hI => ?_)
  refine W.eq (g2 := F0 m 537 ls [.int v388, .int v383]) rfl ?_
  refine lv_icmp_eq (tgt := 1529) hx hb dL_law_537 (by decide) (fun hc => ?_) (fun hc => ?_)
  · have h := xif_t h hc
    exact w_law_b1529 hX hXs hl0 hrec18 h hI (lv_sub hl [0, 1, 2, 3] rfl)
  · have h := xif_f h hc
    refine lv_iconst (v := (0 : Int32)) hx hb dL_law_540 (by decide) ?_
    exact xr_lawret h hX hI hXs dL_law_541
theorem w_law_b542 {L b : Nat} {xs : Nat → Int32} {rec18 : Nat → Nat → Int32 → xM Int32} {a1 : Nat} {a2 : Nat} {a3 : Int32} (hX : xX E room_1 p m c code 8 s #[Value.ref b] "PayMatchLaw" meth.name meth (some .boolean) 16 10275 σ0 σ9) (hXs : va_X b L xs s s.heap ∧ b < s.heap.size ∧ s.heap.size ≤ E.2.2) (hl0 : l.stackTraces = false) (hrec18 : ∀ (a1 : Nat) (a2 : Nat) (a3 : Int32) (σ : xS) (H : Heap) (locs : List Loc) (cells slots : Nat) (ls : Array Slot), (rec18 a1 a2 a3).1 σ = some ((1 : Int32), σ9) → xI E σ0 σ s H locs cells slots → lv_has ls 8 [(0, .ref b), (1, .ref a1), (2, .ref a2), (3, .int a3)] → W p l e room_1 s m #[Value.ref b] below meth c H locs cells slots (lw_Z below #[Value.ref b] s) (F0 m 18 ls []))
    (h : (f_law_b542 L xs rec18 a1 a2 a3).1 σ = some ((1 : Int32), σ9)) (hI : xI E σ0 σ s H locs cells slots) (hl : lv_has ls 8 [(0, .ref b), (1, .ref a1), (2, .ref a2), (3, .int a3)]) : W p l e room_1 s m #[Value.ref b] below meth c H locs cells slots (lw_Z below #[Value.ref b] s) (F0 m 542 ls []) := by
  have hx := hX.1.1
  have hb := hX.1.2.1
  delta f_law_b542 at h
  refine lv_aload_n hx hb dL_law_542 rfl (lv_at hl 1 rfl) ?_
  refine lv_aload_n hx hb dL_law_543 rfl (lv_at hl 0 rfl) ?_
  refine lv_iload_n hx hb dL_law_544 rfl (lv_at hl 3 rfl) ?_
  refine lv_iconst (v := (1 : Int32)) hx hb dL_law_545 (by decide) ?_
  refine lv_iadd hx hb dL_law_546 ?_
  refine xr_scr h hX hI hXs dL_law_547 (fun h => ?_)
  refine lv_aload_n hx hb dL_law_548 rfl (lv_at hl 0 rfl) ?_
  refine lv_iload_n hx hb dL_law_549 rfl (lv_at hl 3 rfl) ?_
  refine lv_iconst (v := (2 : Int32)) hx hb dL_law_550 (by decide) ?_
  refine lv_iadd hx hb dL_law_551 ?_
  refine xr_scr h hX hI hXs dL_law_552 (fun h => ?_)
  refine lv_aload_n hx hb dL_law_553 rfl (lv_at hl 0 rfl) ?_
  refine lv_iload_n hx hb dL_law_554 rfl (lv_at hl 3 rfl) ?_
  refine lv_iconst (v := (3 : Int32)) hx hb dL_law_555 (by decide) ?_
  refine lv_iadd hx hb dL_law_556 ?_
  refine xr_scr h hX hI hXs dL_law_557 (fun h => ?_)
  refine lv_aload_n hx hb dL_law_558 rfl (lv_at hl 0 rfl) ?_
  refine lv_iload_n hx hb dL_law_559 rfl (lv_at hl 3 rfl) ?_
  refine lv_iconst (v := (4 : Int32)) hx hb dL_law_560 (by decide) ?_
  refine lv_iadd hx hb dL_law_561 ?_
  refine xr_scr h hX hI hXs dL_law_562 (fun h => ?_)
  refine xr_callV (iv := (fun b => some (.int b))) (As := [.int (xs (a3 + (1 : Int32)).toNatClampNeg), .int (xs (a3 + (2 : Int32)).toNatClampNeg), .int (xs (a3 + (3 : Int32)).toNatClampNeg), .int (xs (a3 + (4 : Int32)).toNatClampNeg)]) (rest := []) h hX hI (fun _ _ h => w_X0_changeLine h) (fun _ _ h => o_X0_changeLine h) rfl 4 (lw_V q1314 q1315 q1316 q74 q1317) ⟨rfl, xd_X0_changeLine⟩ ⟨rfl, rfl⟩ rfl hl.1 (Nat.le_of_ble_eq_true rfl) dL_law_563 (fun v373 H locs σ cells slots h hI => ?_)
  refine W.eq (g2 := F0 m 566 ls [.int v373]) rfl ?_
  refine lv_aload_n hx hb dL_law_566 rfl (lv_at hl 2 rfl) ?_
  refine lv_aload_n hx hb dL_law_567 rfl (lv_at hl 0 rfl) ?_
  refine lv_iload_n hx hb dL_law_568 rfl (lv_at hl 3 rfl) ?_
  refine lv_iconst (v := (1 : Int32)) hx hb dL_law_569 (by decide) ?_
  refine lv_iadd hx hb dL_law_570 ?_
  refine xr_scr h hX hI hXs dL_law_571 (fun h => ?_)
  refine lv_aload_n hx hb dL_law_572 rfl (lv_at hl 0 rfl) ?_
  refine lv_iload_n hx hb dL_law_573 rfl (lv_at hl 3 rfl) ?_
  refine lv_iconst (v := (2 : Int32)) hx hb dL_law_574 (by decide) ?_
  refine lv_iadd hx hb dL_law_575 ?_
  refine xr_scr h hX hI hXs dL_law_576 (fun h => ?_)
  refine lv_aload_n hx hb dL_law_577 rfl (lv_at hl 0 rfl) ?_
  refine lv_iload_n hx hb dL_law_578 rfl (lv_at hl 3 rfl) ?_
  refine lv_iconst (v := (3 : Int32)) hx hb dL_law_579 (by decide) ?_
  refine lv_iadd hx hb dL_law_580 ?_
  refine xr_scr h hX hI hXs dL_law_581 (fun h => ?_)
  refine lv_aload_n hx hb dL_law_582 rfl (lv_at hl 0 rfl) ?_
  refine lv_iload_n hx hb dL_law_583 rfl (lv_at hl 3 rfl) ?_
  refine lv_iconst (v := (4 : Int32)) hx hb dL_law_584 (by decide) ?_
  refine lv_iadd hx hb dL_law_585 ?_
  refine xr_scr h hX hI hXs dL_law_586 (fun h => ?_)
  refine xr_callV (iv := (fun b => some (.int b))) (As := [.int (xs (a3 + (1 : Int32)).toNatClampNeg), .int (xs (a3 + (2 : Int32)).toNatClampNeg), .int (xs (a3 + (3 : Int32)).toNatClampNeg), .int (xs (a3 + (4 : Int32)).toNatClampNeg)]) (rest := [.int v373]) h hX hI (fun _ _ h => w_X3_changeLine h) (fun _ _ h => o_X3_changeLine h) rfl 4 (lw_V q2106 q2107 q2108 q87 q2109) ⟨rfl, xd_X3_changeLine⟩ ⟨rfl, rfl⟩ rfl hl.1 (Nat.le_of_ble_eq_true rfl) dL_law_587 (fun v378 H locs σ cells slots h hI => ?_)
  refine W.eq (g2 := F0 m 590 ls [.int v378, .int v373]) rfl ?_
  refine lv_icmp_eq (tgt := 1529) hx hb dL_law_590 (by decide) (fun hc => ?_) (fun hc => ?_)
  · have h := xif_t h hc
    exact w_law_b1529 hX hXs hl0 hrec18 h hI (lv_sub hl [0, 1, 2, 3] rfl)
  · have h := xif_f h hc
    refine lv_iconst (v := (0 : Int32)) hx hb dL_law_593 (by decide) ?_
    exact xr_lawret h hX hI hXs dL_law_594
theorem w_law_b595 {L b : Nat} {xs : Nat → Int32} {rec18 : Nat → Nat → Int32 → xM Int32} {a1 : Nat} {a2 : Nat} {a3 : Int32} (hX : xX E room_1 p m c code 8 s #[Value.ref b] "PayMatchLaw" meth.name meth (some .boolean) 16 10275 σ0 σ9) (hXs : va_X b L xs s s.heap ∧ b < s.heap.size ∧ s.heap.size ≤ E.2.2) (hl0 : l.stackTraces = false) (hrec18 : ∀ (a1 : Nat) (a2 : Nat) (a3 : Int32) (σ : xS) (H : Heap) (locs : List Loc) (cells slots : Nat) (ls : Array Slot), (rec18 a1 a2 a3).1 σ = some ((1 : Int32), σ9) → xI E σ0 σ s H locs cells slots → lv_has ls 8 [(0, .ref b), (1, .ref a1), (2, .ref a2), (3, .int a3)] → W p l e room_1 s m #[Value.ref b] below meth c H locs cells slots (lw_Z below #[Value.ref b] s) (F0 m 18 ls []))
    (h : (f_law_b595 L xs rec18 a1 a2 a3).1 σ = some ((1 : Int32), σ9)) (hI : xI E σ0 σ s H locs cells slots) (hl : lv_has ls 8 [(0, .ref b), (1, .ref a1), (2, .ref a2), (3, .int a3)]) : W p l e room_1 s m #[Value.ref b] below meth c H locs cells slots (lw_Z below #[Value.ref b] s) (F0 m 595 ls []) := by
  have hx := hX.1.1
  have hb := hX.1.2.1
  delta f_law_b595 at h
  refine lv_aload_n hx hb dL_law_595 rfl (lv_at hl 1 rfl) ?_
  refine lv_aload_n hx hb dL_law_596 rfl (lv_at hl 0 rfl) ?_
  refine lv_iload_n hx hb dL_law_597 rfl (lv_at hl 3 rfl) ?_
  refine lv_iconst (v := (1 : Int32)) hx hb dL_law_598 (by decide) ?_
  refine lv_iadd hx hb dL_law_599 ?_
  refine xr_scr h hX hI hXs dL_law_600 (fun h => ?_)
  refine xr_callV (iv := (fun b => some (.int b))) (As := [.int (xs (a3 + (1 : Int32)).toNatClampNeg)]) (rest := []) h hX hI (fun _ _ h => w_X0_close h) (fun _ _ h => o_X0_close h) rfl 1 (lw_V q1328 q1329 q1330 q74 q1331) ⟨rfl, xd_X0_close⟩ ⟨rfl, rfl⟩ rfl hl.1 (Nat.le_of_ble_eq_true rfl) dL_law_601 (fun v366 H locs σ cells slots h hI => ?_)
  refine W.eq (g2 := F0 m 604 ls [.int v366]) rfl ?_
  refine lv_aload_n hx hb dL_law_604 rfl (lv_at hl 2 rfl) ?_
  refine lv_aload_n hx hb dL_law_605 rfl (lv_at hl 0 rfl) ?_
  refine lv_iload_n hx hb dL_law_606 rfl (lv_at hl 3 rfl) ?_
  refine lv_iconst (v := (1 : Int32)) hx hb dL_law_607 (by decide) ?_
  refine lv_iadd hx hb dL_law_608 ?_
  refine xr_scr h hX hI hXs dL_law_609 (fun h => ?_)
  refine xr_callV (iv := (fun b => some (.int b))) (As := [.int (xs (a3 + (1 : Int32)).toNatClampNeg)]) (rest := [.int v366]) h hX hI (fun _ _ h => w_X3_close h) (fun _ _ h => o_X3_close h) rfl 1 (lw_V q2114 q2115 q2116 q87 q2117) ⟨rfl, xd_X3_close⟩ ⟨rfl, rfl⟩ rfl hl.1 (Nat.le_of_ble_eq_true rfl) dL_law_610 (fun v368 H locs σ cells slots h hI => ?_)
  refine W.eq (g2 := F0 m 613 ls [.int v368, .int v366]) rfl ?_
  refine lv_icmp_eq (tgt := 1529) hx hb dL_law_613 (by decide) (fun hc => ?_) (fun hc => ?_)
  · have h := xif_t h hc
    exact w_law_b1529 hX hXs hl0 hrec18 h hI (lv_sub hl [0, 1, 2, 3] rfl)
  · have h := xif_f h hc
    refine lv_iconst (v := (0 : Int32)) hx hb dL_law_616 (by decide) ?_
    exact xr_lawret h hX hI hXs dL_law_617
theorem w_law_b618 {L b : Nat} {xs : Nat → Int32} {rec18 : Nat → Nat → Int32 → xM Int32} {a1 : Nat} {a2 : Nat} {a3 : Int32} (hX : xX E room_1 p m c code 8 s #[Value.ref b] "PayMatchLaw" meth.name meth (some .boolean) 16 10275 σ0 σ9) (hXs : va_X b L xs s s.heap ∧ b < s.heap.size ∧ s.heap.size ≤ E.2.2) (hl0 : l.stackTraces = false) (hrec18 : ∀ (a1 : Nat) (a2 : Nat) (a3 : Int32) (σ : xS) (H : Heap) (locs : List Loc) (cells slots : Nat) (ls : Array Slot), (rec18 a1 a2 a3).1 σ = some ((1 : Int32), σ9) → xI E σ0 σ s H locs cells slots → lv_has ls 8 [(0, .ref b), (1, .ref a1), (2, .ref a2), (3, .int a3)] → W p l e room_1 s m #[Value.ref b] below meth c H locs cells slots (lw_Z below #[Value.ref b] s) (F0 m 18 ls []))
    (h : (f_law_b618 L xs rec18 a1 a2 a3).1 σ = some ((1 : Int32), σ9)) (hI : xI E σ0 σ s H locs cells slots) (hl : lv_has ls 8 [(0, .ref b), (1, .ref a1), (2, .ref a2), (3, .int a3)]) : W p l e room_1 s m #[Value.ref b] below meth c H locs cells slots (lw_Z below #[Value.ref b] s) (F0 m 618 ls []) := by
  have hx := hX.1.1
  have hb := hX.1.2.1
  delta f_law_b618 at h
  refine lv_aload_n hx hb dL_law_618 rfl (lv_at hl 1 rfl) ?_
  refine lv_aload_n hx hb dL_law_619 rfl (lv_at hl 0 rfl) ?_
  refine lv_iload_n hx hb dL_law_620 rfl (lv_at hl 3 rfl) ?_
  refine lv_iconst (v := (1 : Int32)) hx hb dL_law_621 (by decide) ?_
  refine lv_iadd hx hb dL_law_622 ?_
  refine xr_scr h hX hI hXs dL_law_623 (fun h => ?_)
  refine xr_callV (iv := (fun b => some (.int b))) (As := [.int (xs (a3 + (1 : Int32)).toNatClampNeg)]) (rest := []) h hX hI (fun _ _ h => w_X0_cancel h) (fun _ _ h => o_X0_cancel h) rfl 1 (lw_V q1408 q1409 q1410 q74 q1411) ⟨rfl, xd_X0_cancel⟩ ⟨rfl, rfl⟩ rfl hl.1 (Nat.le_of_ble_eq_true rfl) dL_law_624 (fun v362 H locs σ cells slots h hI => ?_)
  refine W.eq (g2 := F0 m 627 ls [.int v362]) rfl ?_
  refine lv_aload_n hx hb dL_law_627 rfl (lv_at hl 2 rfl) ?_
  refine lv_aload_n hx hb dL_law_628 rfl (lv_at hl 0 rfl) ?_
  refine lv_iload_n hx hb dL_law_629 rfl (lv_at hl 3 rfl) ?_
  refine lv_iconst (v := (1 : Int32)) hx hb dL_law_630 (by decide) ?_
  refine lv_iadd hx hb dL_law_631 ?_
  refine xr_scr h hX hI hXs dL_law_632 (fun h => ?_)
  refine xr_callV (iv := (fun b => some (.int b))) (As := [.int (xs (a3 + (1 : Int32)).toNatClampNeg)]) (rest := [.int v362]) h hX hI (fun _ _ h => w_X3_cancel h) (fun _ _ h => o_X3_cancel h) rfl 1 (lw_V q2118 q2119 q2120 q87 q2121) ⟨rfl, xd_X3_cancel⟩ ⟨rfl, rfl⟩ rfl hl.1 (Nat.le_of_ble_eq_true rfl) dL_law_633 (fun v364 H locs σ cells slots h hI => ?_)
  refine W.eq (g2 := F0 m 636 ls [.int v364, .int v362]) rfl ?_
  refine lv_icmp_eq (tgt := 1529) hx hb dL_law_636 (by decide) (fun hc => ?_) (fun hc => ?_)
  · have h := xif_t h hc
    exact w_law_b1529 hX hXs hl0 hrec18 h hI (lv_sub hl [0, 1, 2, 3] rfl)
  · have h := xif_f h hc
    refine lv_iconst (v := (0 : Int32)) hx hb dL_law_639 (by decide) ?_
    exact xr_lawret h hX hI hXs dL_law_640
theorem w_law_b641 {L b : Nat} {xs : Nat → Int32} {rec18 : Nat → Nat → Int32 → xM Int32} {a1 : Nat} {a2 : Nat} {a3 : Int32} (hX : xX E room_1 p m c code 8 s #[Value.ref b] "PayMatchLaw" meth.name meth (some .boolean) 16 10275 σ0 σ9) (hXs : va_X b L xs s s.heap ∧ b < s.heap.size ∧ s.heap.size ≤ E.2.2) (hl0 : l.stackTraces = false) (hrec18 : ∀ (a1 : Nat) (a2 : Nat) (a3 : Int32) (σ : xS) (H : Heap) (locs : List Loc) (cells slots : Nat) (ls : Array Slot), (rec18 a1 a2 a3).1 σ = some ((1 : Int32), σ9) → xI E σ0 σ s H locs cells slots → lv_has ls 8 [(0, .ref b), (1, .ref a1), (2, .ref a2), (3, .int a3)] → W p l e room_1 s m #[Value.ref b] below meth c H locs cells slots (lw_Z below #[Value.ref b] s) (F0 m 18 ls []))
    (h : (f_law_b641 L xs rec18 a1 a2 a3).1 σ = some ((1 : Int32), σ9)) (hI : xI E σ0 σ s H locs cells slots) (hl : lv_has ls 8 [(0, .ref b), (1, .ref a1), (2, .ref a2), (3, .int a3)]) : W p l e room_1 s m #[Value.ref b] below meth c H locs cells slots (lw_Z below #[Value.ref b] s) (F0 m 641 ls []) := by
  have hx := hX.1.1
  have hb := hX.1.2.1
  delta f_law_b641 at h
  refine lv_aload_n hx hb dL_law_641 rfl (lv_at hl 1 rfl) ?_
  refine lv_aload_n hx hb dL_law_642 rfl (lv_at hl 0 rfl) ?_
  refine lv_iload_n hx hb dL_law_643 rfl (lv_at hl 3 rfl) ?_
  refine lv_iconst (v := (1 : Int32)) hx hb dL_law_644 (by decide) ?_
  refine lv_iadd hx hb dL_law_645 ?_
  refine xr_scr h hX hI hXs dL_law_646 (fun h => ?_)
  refine lv_aload_n hx hb dL_law_647 rfl (lv_at hl 0 rfl) ?_
  refine lv_iload_n hx hb dL_law_648 rfl (lv_at hl 3 rfl) ?_
  refine lv_iconst (v := (2 : Int32)) hx hb dL_law_649 (by decide) ?_
  refine lv_iadd hx hb dL_law_650 ?_
  refine xr_scr h hX hI hXs dL_law_651 (fun h => ?_)
  refine lv_aload_n hx hb dL_law_652 rfl (lv_at hl 0 rfl) ?_
  refine lv_iload_n hx hb dL_law_653 rfl (lv_at hl 3 rfl) ?_
  refine lv_iconst (v := (3 : Int32)) hx hb dL_law_654 (by decide) ?_
  refine lv_iadd hx hb dL_law_655 ?_
  refine xr_scr h hX hI hXs dL_law_656 (fun h => ?_)
  refine lv_aload_n hx hb dL_law_657 rfl (lv_at hl 0 rfl) ?_
  refine lv_iload_n hx hb dL_law_658 rfl (lv_at hl 3 rfl) ?_
  refine lv_iconst (v := (4 : Int32)) hx hb dL_law_659 (by decide) ?_
  refine lv_iadd hx hb dL_law_660 ?_
  refine xr_scr h hX hI hXs dL_law_661 (fun h => ?_)
  refine xr_callV (iv := (fun b => some (.int b))) (As := [.int (xs (a3 + (1 : Int32)).toNatClampNeg), .int (xs (a3 + (2 : Int32)).toNatClampNeg), .int (xs (a3 + (3 : Int32)).toNatClampNeg), .int (xs (a3 + (4 : Int32)).toNatClampNeg)]) (rest := []) h hX hI (fun _ _ h => w_X0_receive h) (fun _ _ h => o_X0_receive h) rfl 4 (lw_V q1426 q1427 q1428 q74 q1429) ⟨rfl, xd_X0_receive⟩ ⟨rfl, rfl⟩ rfl hl.1 (Nat.le_of_ble_eq_true rfl) dL_law_662 (fun v355 H locs σ cells slots h hI => ?_)
  refine W.eq (g2 := F0 m 665 ls [.int v355]) rfl ?_
  refine lv_aload_n hx hb dL_law_665 rfl (lv_at hl 2 rfl) ?_
  refine lv_aload_n hx hb dL_law_666 rfl (lv_at hl 0 rfl) ?_
  refine lv_iload_n hx hb dL_law_667 rfl (lv_at hl 3 rfl) ?_
  refine lv_iconst (v := (1 : Int32)) hx hb dL_law_668 (by decide) ?_
  refine lv_iadd hx hb dL_law_669 ?_
  refine xr_scr h hX hI hXs dL_law_670 (fun h => ?_)
  refine lv_aload_n hx hb dL_law_671 rfl (lv_at hl 0 rfl) ?_
  refine lv_iload_n hx hb dL_law_672 rfl (lv_at hl 3 rfl) ?_
  refine lv_iconst (v := (2 : Int32)) hx hb dL_law_673 (by decide) ?_
  refine lv_iadd hx hb dL_law_674 ?_
  refine xr_scr h hX hI hXs dL_law_675 (fun h => ?_)
  refine lv_aload_n hx hb dL_law_676 rfl (lv_at hl 0 rfl) ?_
  refine lv_iload_n hx hb dL_law_677 rfl (lv_at hl 3 rfl) ?_
  refine lv_iconst (v := (3 : Int32)) hx hb dL_law_678 (by decide) ?_
  refine lv_iadd hx hb dL_law_679 ?_
  refine xr_scr h hX hI hXs dL_law_680 (fun h => ?_)
  refine lv_aload_n hx hb dL_law_681 rfl (lv_at hl 0 rfl) ?_
  refine lv_iload_n hx hb dL_law_682 rfl (lv_at hl 3 rfl) ?_
  refine lv_iconst (v := (4 : Int32)) hx hb dL_law_683 (by decide) ?_
  refine lv_iadd hx hb dL_law_684 ?_
  refine xr_scr h hX hI hXs dL_law_685 (fun h => ?_)
  refine xr_callV (iv := (fun b => some (.int b))) (As := [.int (xs (a3 + (1 : Int32)).toNatClampNeg), .int (xs (a3 + (2 : Int32)).toNatClampNeg), .int (xs (a3 + (3 : Int32)).toNatClampNeg), .int (xs (a3 + (4 : Int32)).toNatClampNeg)]) (rest := [.int v355]) h hX hI (fun _ _ h => w_X3_receive h) (fun _ _ h => o_X3_receive h) rfl 4 (lw_V q2123 q2124 q2125 q87 q2126) ⟨rfl, xd_X3_receive⟩ ⟨rfl, rfl⟩ rfl hl.1 (Nat.le_of_ble_eq_true rfl) dL_law_686 (fun v360 H locs σ cells slots h hI => ?_)
  refine W.eq (g2 := F0 m 689 ls [.int v360, .int v355]) rfl ?_
  refine lv_icmp_eq (tgt := 1529) hx hb dL_law_689 (by decide) (fun hc => ?_) (fun hc => ?_)
  · have h := xif_t h hc
    exact w_law_b1529 hX hXs hl0 hrec18 h hI (lv_sub hl [0, 1, 2, 3] rfl)
  · have h := xif_f h hc
    refine lv_iconst (v := (0 : Int32)) hx hb dL_law_692 (by decide) ?_
    exact xr_lawret h hX hI hXs dL_law_693
theorem w_law_b694 {L b : Nat} {xs : Nat → Int32} {rec18 : Nat → Nat → Int32 → xM Int32} {a1 : Nat} {a2 : Nat} {a3 : Int32} (hX : xX E room_1 p m c code 8 s #[Value.ref b] "PayMatchLaw" meth.name meth (some .boolean) 16 10275 σ0 σ9) (hXs : va_X b L xs s s.heap ∧ b < s.heap.size ∧ s.heap.size ≤ E.2.2) (hl0 : l.stackTraces = false) (hrec18 : ∀ (a1 : Nat) (a2 : Nat) (a3 : Int32) (σ : xS) (H : Heap) (locs : List Loc) (cells slots : Nat) (ls : Array Slot), (rec18 a1 a2 a3).1 σ = some ((1 : Int32), σ9) → xI E σ0 σ s H locs cells slots → lv_has ls 8 [(0, .ref b), (1, .ref a1), (2, .ref a2), (3, .int a3)] → W p l e room_1 s m #[Value.ref b] below meth c H locs cells slots (lw_Z below #[Value.ref b] s) (F0 m 18 ls []))
    (h : (f_law_b694 L xs rec18 a1 a2 a3).1 σ = some ((1 : Int32), σ9)) (hI : xI E σ0 σ s H locs cells slots) (hl : lv_has ls 8 [(0, .ref b), (1, .ref a1), (2, .ref a2), (3, .int a3)]) : W p l e room_1 s m #[Value.ref b] below meth c H locs cells slots (lw_Z below #[Value.ref b] s) (F0 m 694 ls []) := by
  have hx := hX.1.1
  have hb := hX.1.2.1
  delta f_law_b694 at h
  refine lv_aload_n hx hb dL_law_694 rfl (lv_at hl 1 rfl) ?_
  refine lv_aload_n hx hb dL_law_695 rfl (lv_at hl 0 rfl) ?_
  refine lv_iload_n hx hb dL_law_696 rfl (lv_at hl 3 rfl) ?_
  refine lv_iconst (v := (1 : Int32)) hx hb dL_law_697 (by decide) ?_
  refine lv_iadd hx hb dL_law_698 ?_
  refine xr_scr h hX hI hXs dL_law_699 (fun h => ?_)
  refine lv_aload_n hx hb dL_law_700 rfl (lv_at hl 0 rfl) ?_
  refine lv_iload_n hx hb dL_law_701 rfl (lv_at hl 3 rfl) ?_
  refine lv_iconst (v := (2 : Int32)) hx hb dL_law_702 (by decide) ?_
  refine lv_iadd hx hb dL_law_703 ?_
  refine xr_scr h hX hI hXs dL_law_704 (fun h => ?_)
  refine lv_aload_n hx hb dL_law_705 rfl (lv_at hl 0 rfl) ?_
  refine lv_iload_n hx hb dL_law_706 rfl (lv_at hl 3 rfl) ?_
  refine lv_iconst (v := (3 : Int32)) hx hb dL_law_707 (by decide) ?_
  refine lv_iadd hx hb dL_law_708 ?_
  refine xr_scr h hX hI hXs dL_law_709 (fun h => ?_)
  refine xr_callV (iv := (fun b => some (.int b))) (As := [.int (xs (a3 + (1 : Int32)).toNatClampNeg), .int (xs (a3 + (2 : Int32)).toNatClampNeg), .int (xs (a3 + (3 : Int32)).toNatClampNeg)]) (rest := []) h hX hI (fun _ _ h => w_X0_giveBack h) (fun _ _ h => o_X0_giveBack h) rfl 3 (lw_V q1488 q1489 q1490 q74 q1491) ⟨rfl, xd_X0_giveBack⟩ ⟨rfl, rfl⟩ rfl hl.1 (Nat.le_of_ble_eq_true rfl) dL_law_710 (fun v346 H locs σ cells slots h hI => ?_)
  refine W.eq (g2 := F0 m 713 ls [.int v346]) rfl ?_
  refine lv_aload_n hx hb dL_law_713 rfl (lv_at hl 2 rfl) ?_
  refine lv_aload_n hx hb dL_law_714 rfl (lv_at hl 0 rfl) ?_
  refine lv_iload_n hx hb dL_law_715 rfl (lv_at hl 3 rfl) ?_
  refine lv_iconst (v := (1 : Int32)) hx hb dL_law_716 (by decide) ?_
  refine lv_iadd hx hb dL_law_717 ?_
  refine xr_scr h hX hI hXs dL_law_718 (fun h => ?_)
  refine lv_aload_n hx hb dL_law_719 rfl (lv_at hl 0 rfl) ?_
  refine lv_iload_n hx hb dL_law_720 rfl (lv_at hl 3 rfl) ?_
  refine lv_iconst (v := (2 : Int32)) hx hb dL_law_721 (by decide) ?_
  refine lv_iadd hx hb dL_law_722 ?_
  refine xr_scr h hX hI hXs dL_law_723 (fun h => ?_)
  refine lv_aload_n hx hb dL_law_724 rfl (lv_at hl 0 rfl) ?_
  refine lv_iload_n hx hb dL_law_725 rfl (lv_at hl 3 rfl) ?_
  refine lv_iconst (v := (3 : Int32)) hx hb dL_law_726 (by decide) ?_
  refine lv_iadd hx hb dL_law_727 ?_
  refine xr_scr h hX hI hXs dL_law_728 (fun h => ?_)
  refine xr_callV (iv := (fun b => some (.int b))) (As := [.int (xs (a3 + (1 : Int32)).toNatClampNeg), .int (xs (a3 + (2 : Int32)).toNatClampNeg), .int (xs (a3 + (3 : Int32)).toNatClampNeg)]) (rest := [.int v346]) h hX hI (fun _ _ h => w_X3_giveBack h) (fun _ _ h => o_X3_giveBack h) rfl 3 (lw_V q2144 q2145 q2146 q87 q2147) ⟨rfl, xd_X3_giveBack⟩ ⟨rfl, rfl⟩ rfl hl.1 (Nat.le_of_ble_eq_true rfl) dL_law_729 (fun v350 H locs σ cells slots h hI => ?_)
  refine W.eq (g2 := F0 m 732 ls [.int v350, .int v346]) rfl ?_
  refine lv_icmp_eq (tgt := 1529) hx hb dL_law_732 (by decide) (fun hc => ?_) (fun hc => ?_)
  · have h := xif_t h hc
    exact w_law_b1529 hX hXs hl0 hrec18 h hI (lv_sub hl [0, 1, 2, 3] rfl)
  · have h := xif_f h hc
    refine lv_iconst (v := (0 : Int32)) hx hb dL_law_735 (by decide) ?_
    exact xr_lawret h hX hI hXs dL_law_736
theorem w_law_b737 {L b : Nat} {xs : Nat → Int32} {rec18 : Nat → Nat → Int32 → xM Int32} {a1 : Nat} {a2 : Nat} {a3 : Int32} (hX : xX E room_1 p m c code 8 s #[Value.ref b] "PayMatchLaw" meth.name meth (some .boolean) 16 10275 σ0 σ9) (hXs : va_X b L xs s s.heap ∧ b < s.heap.size ∧ s.heap.size ≤ E.2.2) (hl0 : l.stackTraces = false) (hrec18 : ∀ (a1 : Nat) (a2 : Nat) (a3 : Int32) (σ : xS) (H : Heap) (locs : List Loc) (cells slots : Nat) (ls : Array Slot), (rec18 a1 a2 a3).1 σ = some ((1 : Int32), σ9) → xI E σ0 σ s H locs cells slots → lv_has ls 8 [(0, .ref b), (1, .ref a1), (2, .ref a2), (3, .int a3)] → W p l e room_1 s m #[Value.ref b] below meth c H locs cells slots (lw_Z below #[Value.ref b] s) (F0 m 18 ls []))
    (h : (f_law_b737 L xs rec18 a1 a2 a3).1 σ = some ((1 : Int32), σ9)) (hI : xI E σ0 σ s H locs cells slots) (hl : lv_has ls 8 [(0, .ref b), (1, .ref a1), (2, .ref a2), (3, .int a3)]) : W p l e room_1 s m #[Value.ref b] below meth c H locs cells slots (lw_Z below #[Value.ref b] s) (F0 m 737 ls []) := by
  have hx := hX.1.1
  have hb := hX.1.2.1
  delta f_law_b737 at h
  refine lv_aload_n hx hb dL_law_737 rfl (lv_at hl 1 rfl) ?_
  refine lv_aload_n hx hb dL_law_738 rfl (lv_at hl 0 rfl) ?_
  refine lv_iload_n hx hb dL_law_739 rfl (lv_at hl 3 rfl) ?_
  refine lv_iconst (v := (1 : Int32)) hx hb dL_law_740 (by decide) ?_
  refine lv_iadd hx hb dL_law_741 ?_
  refine xr_scr h hX hI hXs dL_law_742 (fun h => ?_)
  refine lv_aload_n hx hb dL_law_743 rfl (lv_at hl 0 rfl) ?_
  refine lv_iload_n hx hb dL_law_744 rfl (lv_at hl 3 rfl) ?_
  refine lv_iconst (v := (2 : Int32)) hx hb dL_law_745 (by decide) ?_
  refine lv_iadd hx hb dL_law_746 ?_
  refine xr_scr h hX hI hXs dL_law_747 (fun h => ?_)
  refine lv_aload_n hx hb dL_law_748 rfl (lv_at hl 0 rfl) ?_
  refine lv_iload_n hx hb dL_law_749 rfl (lv_at hl 3 rfl) ?_
  refine lv_iconst (v := (3 : Int32)) hx hb dL_law_750 (by decide) ?_
  refine lv_iadd hx hb dL_law_751 ?_
  refine xr_scr h hX hI hXs dL_law_752 (fun h => ?_)
  refine lv_aload_n hx hb dL_law_753 rfl (lv_at hl 0 rfl) ?_
  refine lv_iload_n hx hb dL_law_754 rfl (lv_at hl 3 rfl) ?_
  refine lv_iconst (v := (4 : Int32)) hx hb dL_law_755 (by decide) ?_
  refine lv_iadd hx hb dL_law_756 ?_
  refine xr_scr h hX hI hXs dL_law_757 (fun h => ?_)
  refine lv_aload_n hx hb dL_law_758 rfl (lv_at hl 0 rfl) ?_
  refine lv_iload_n hx hb dL_law_759 rfl (lv_at hl 3 rfl) ?_
  refine lv_iconst (v := (5 : Int32)) hx hb dL_law_760 (by decide) ?_
  refine lv_iadd hx hb dL_law_761 ?_
  refine xr_scr h hX hI hXs dL_law_762 (fun h => ?_)
  refine xr_callV (iv := (fun b => some (.int b))) (As := [.int (xs (a3 + (1 : Int32)).toNatClampNeg), .int (xs (a3 + (2 : Int32)).toNatClampNeg), .int (xs (a3 + (3 : Int32)).toNatClampNeg), .int (xs (a3 + (4 : Int32)).toNatClampNeg), .int (xs (a3 + (5 : Int32)).toNatClampNeg)]) (rest := []) h hX hI (fun _ _ h => w_X0_bill h) (fun _ _ h => o_X0_bill h) rfl 5 (lw_V q1506 q1507 q1508 q74 q1509) ⟨rfl, xd_X0_bill⟩ ⟨rfl, rfl⟩ rfl hl.1 (Nat.le_of_ble_eq_true rfl) dL_law_763 (fun v336 H locs σ cells slots h hI => ?_)
  refine W.eq (g2 := F0 m 766 ls [.int v336]) rfl ?_
  refine lv_aload_n hx hb dL_law_766 rfl (lv_at hl 2 rfl) ?_
  refine lv_aload_n hx hb dL_law_767 rfl (lv_at hl 0 rfl) ?_
  refine lv_iload_n hx hb dL_law_768 rfl (lv_at hl 3 rfl) ?_
  refine lv_iconst (v := (1 : Int32)) hx hb dL_law_769 (by decide) ?_
  refine lv_iadd hx hb dL_law_770 ?_
  refine xr_scr h hX hI hXs dL_law_771 (fun h => ?_)
  refine lv_aload_n hx hb dL_law_772 rfl (lv_at hl 0 rfl) ?_
  refine lv_iload_n hx hb dL_law_773 rfl (lv_at hl 3 rfl) ?_
  refine lv_iconst (v := (2 : Int32)) hx hb dL_law_774 (by decide) ?_
  refine lv_iadd hx hb dL_law_775 ?_
  refine xr_scr h hX hI hXs dL_law_776 (fun h => ?_)
  refine lv_aload_n hx hb dL_law_777 rfl (lv_at hl 0 rfl) ?_
  refine lv_iload_n hx hb dL_law_778 rfl (lv_at hl 3 rfl) ?_
  refine lv_iconst (v := (3 : Int32)) hx hb dL_law_779 (by decide) ?_
  refine lv_iadd hx hb dL_law_780 ?_
  refine xr_scr h hX hI hXs dL_law_781 (fun h => ?_)
  refine lv_aload_n hx hb dL_law_782 rfl (lv_at hl 0 rfl) ?_
  refine lv_iload_n hx hb dL_law_783 rfl (lv_at hl 3 rfl) ?_
  refine lv_iconst (v := (4 : Int32)) hx hb dL_law_784 (by decide) ?_
  refine lv_iadd hx hb dL_law_785 ?_
  refine xr_scr h hX hI hXs dL_law_786 (fun h => ?_)
  refine lv_aload_n hx hb dL_law_787 rfl (lv_at hl 0 rfl) ?_
  refine lv_iload_n hx hb dL_law_788 rfl (lv_at hl 3 rfl) ?_
  refine lv_iconst (v := (5 : Int32)) hx hb dL_law_789 (by decide) ?_
  refine lv_iadd hx hb dL_law_790 ?_
  refine xr_scr h hX hI hXs dL_law_791 (fun h => ?_)
  refine xr_callV (iv := (fun b => some (.int b))) (As := [.int (xs (a3 + (1 : Int32)).toNatClampNeg), .int (xs (a3 + (2 : Int32)).toNatClampNeg), .int (xs (a3 + (3 : Int32)).toNatClampNeg), .int (xs (a3 + (4 : Int32)).toNatClampNeg), .int (xs (a3 + (5 : Int32)).toNatClampNeg)]) (rest := [.int v336]) h hX hI (fun _ _ h => w_X3_bill h) (fun _ _ h => o_X3_bill h) rfl 5 (lw_V q2156 q2157 q2158 q87 q2159) ⟨rfl, xd_X3_bill⟩ ⟨rfl, rfl⟩ rfl hl.1 (Nat.le_of_ble_eq_true rfl) dL_law_792 (fun v342 H locs σ cells slots h hI => ?_)
  refine W.eq (g2 := F0 m 795 ls [.int v342, .int v336]) rfl ?_
  refine lv_icmp_eq (tgt := 1529) hx hb dL_law_795 (by decide) (fun hc => ?_) (fun hc => ?_)
  · have h := xif_t h hc
    exact w_law_b1529 hX hXs hl0 hrec18 h hI (lv_sub hl [0, 1, 2, 3] rfl)
  · have h := xif_f h hc
    refine lv_iconst (v := (0 : Int32)) hx hb dL_law_798 (by decide) ?_
    exact xr_lawret h hX hI hXs dL_law_799
theorem w_law_b800 {L b : Nat} {xs : Nat → Int32} {rec18 : Nat → Nat → Int32 → xM Int32} {a1 : Nat} {a2 : Nat} {a3 : Int32} (hX : xX E room_1 p m c code 8 s #[Value.ref b] "PayMatchLaw" meth.name meth (some .boolean) 16 10275 σ0 σ9) (hXs : va_X b L xs s s.heap ∧ b < s.heap.size ∧ s.heap.size ≤ E.2.2) (hl0 : l.stackTraces = false) (hrec18 : ∀ (a1 : Nat) (a2 : Nat) (a3 : Int32) (σ : xS) (H : Heap) (locs : List Loc) (cells slots : Nat) (ls : Array Slot), (rec18 a1 a2 a3).1 σ = some ((1 : Int32), σ9) → xI E σ0 σ s H locs cells slots → lv_has ls 8 [(0, .ref b), (1, .ref a1), (2, .ref a2), (3, .int a3)] → W p l e room_1 s m #[Value.ref b] below meth c H locs cells slots (lw_Z below #[Value.ref b] s) (F0 m 18 ls []))
    (h : (f_law_b800 L xs rec18 a1 a2 a3).1 σ = some ((1 : Int32), σ9)) (hI : xI E σ0 σ s H locs cells slots) (hl : lv_has ls 8 [(0, .ref b), (1, .ref a1), (2, .ref a2), (3, .int a3)]) : W p l e room_1 s m #[Value.ref b] below meth c H locs cells slots (lw_Z below #[Value.ref b] s) (F0 m 800 ls []) := by
  have hx := hX.1.1
  have hb := hX.1.2.1
  delta f_law_b800 at h
  refine lv_aload_n hx hb dL_law_800 rfl (lv_at hl 1 rfl) ?_
  refine xr_callVH (iv := (fun b => some (.int b))) (As := []) (rest := []) h hX hI (fun _ _ h => w_X0_readInvoice hl0 h) (fun _ _ h => o_X0_readInvoice h) rfl 0 (lw_VW q1551 q1552 q1553 q74 q1554) ⟨rfl, xd_X0_readInvoice⟩ ⟨rfl, rfl⟩ rfl hl.1 (Nat.le_of_ble_eq_true rfl) dL_law_801 (fun v329 H locs σ cells slots h hI => ?_)
  refine W.eq (g2 := F0 m 804 ls [.int v329]) rfl ?_
  refine lv_aload_n hx hb dL_law_804 rfl (lv_at hl 2 rfl) ?_
  refine xr_callV (iv := (fun b => some (.int b))) (As := []) (rest := [.int v329]) h hX hI (fun _ _ h => w_X3_readInvoice h) (fun _ _ h => o_X3_readInvoice h) rfl 0 (lw_V q2255 q2256 q2257 q87 q2258) ⟨rfl, xd_X3_readInvoice⟩ ⟨rfl, rfl⟩ rfl hl.1 (Nat.le_of_ble_eq_true rfl) dL_law_805 (fun v330 H locs σ cells slots h hI => ?_)
  refine W.eq (g2 := F0 m 808 ls [.int v330, .int v329]) rfl ?_
  refine lv_icmp_eq (tgt := 1529) hx hb dL_law_808 (by decide) (fun hc => ?_) (fun hc => ?_)
  · have h := xif_t h hc
    exact w_law_b1529 hX hXs hl0 hrec18 h hI (lv_sub hl [0, 1, 2, 3] rfl)
  · have h := xif_f h hc
    refine lv_iconst (v := (0 : Int32)) hx hb dL_law_811 (by decide) ?_
    exact xr_lawret h hX hI hXs dL_law_812
theorem w_law_b813 {L b : Nat} {xs : Nat → Int32} {rec18 : Nat → Nat → Int32 → xM Int32} {a1 : Nat} {a2 : Nat} {a3 : Int32} (hX : xX E room_1 p m c code 8 s #[Value.ref b] "PayMatchLaw" meth.name meth (some .boolean) 16 10275 σ0 σ9) (hXs : va_X b L xs s s.heap ∧ b < s.heap.size ∧ s.heap.size ≤ E.2.2) (hl0 : l.stackTraces = false) (hrec18 : ∀ (a1 : Nat) (a2 : Nat) (a3 : Int32) (σ : xS) (H : Heap) (locs : List Loc) (cells slots : Nat) (ls : Array Slot), (rec18 a1 a2 a3).1 σ = some ((1 : Int32), σ9) → xI E σ0 σ s H locs cells slots → lv_has ls 8 [(0, .ref b), (1, .ref a1), (2, .ref a2), (3, .int a3)] → W p l e room_1 s m #[Value.ref b] below meth c H locs cells slots (lw_Z below #[Value.ref b] s) (F0 m 18 ls []))
    (h : (f_law_b813 L xs rec18 a1 a2 a3).1 σ = some ((1 : Int32), σ9)) (hI : xI E σ0 σ s H locs cells slots) (hl : lv_has ls 8 [(0, .ref b), (1, .ref a1), (2, .ref a2), (3, .int a3)]) : W p l e room_1 s m #[Value.ref b] below meth c H locs cells slots (lw_Z below #[Value.ref b] s) (F0 m 813 ls []) := by
  have hx := hX.1.1
  have hb := hX.1.2.1
  delta f_law_b813 at h
  refine lv_aload_n hx hb dL_law_813 rfl (lv_at hl 1 rfl) ?_
  refine lv_aload_n hx hb dL_law_814 rfl (lv_at hl 0 rfl) ?_
  refine lv_iload_n hx hb dL_law_815 rfl (lv_at hl 3 rfl) ?_
  refine lv_iconst (v := (1 : Int32)) hx hb dL_law_816 (by decide) ?_
  refine lv_iadd hx hb dL_law_817 ?_
  refine xr_scr h hX hI hXs dL_law_818 (fun h => ?_)
  refine xr_callV (iv := (fun b => some (.int b))) (As := [.int (xs (a3 + (1 : Int32)).toNatClampNeg)]) (rest := []) h hX hI (fun _ _ h => w_X0_match h) (fun _ _ h => o_X0_match h) rfl 1 (lw_V q1694 q1695 q1696 q74 q1697) ⟨rfl, xd_X0_match⟩ ⟨rfl, rfl⟩ rfl hl.1 (Nat.le_of_ble_eq_true rfl) dL_law_819 (fun v326 H locs σ cells slots h hI => ?_)
  refine W.eq (g2 := F0 m 822 ls [.int v326]) rfl ?_
  refine lv_aload_n hx hb dL_law_822 rfl (lv_at hl 2 rfl) ?_
  refine lv_aload_n hx hb dL_law_823 rfl (lv_at hl 0 rfl) ?_
  refine lv_iload_n hx hb dL_law_824 rfl (lv_at hl 3 rfl) ?_
  refine lv_iconst (v := (1 : Int32)) hx hb dL_law_825 (by decide) ?_
  refine lv_iadd hx hb dL_law_826 ?_
  refine xr_scr h hX hI hXs dL_law_827 (fun h => ?_)
  refine xr_callV (iv := (fun b => some (.int b))) (As := [.int (xs (a3 + (1 : Int32)).toNatClampNeg)]) (rest := [.int v326]) h hX hI (fun _ _ h => w_X3_match h) (fun _ _ h => o_X3_match h) rfl 1 (lw_V q2181 q2182 q2183 q87 q2184) ⟨rfl, xd_X3_match⟩ ⟨rfl, rfl⟩ rfl hl.1 (Nat.le_of_ble_eq_true rfl) dL_law_828 (fun v328 H locs σ cells slots h hI => ?_)
  refine W.eq (g2 := F0 m 831 ls [.int v328, .int v326]) rfl ?_
  refine lv_icmp_eq (tgt := 1529) hx hb dL_law_831 (by decide) (fun hc => ?_) (fun hc => ?_)
  · have h := xif_t h hc
    exact w_law_b1529 hX hXs hl0 hrec18 h hI (lv_sub hl [0, 1, 2, 3] rfl)
  · have h := xif_f h hc
    refine lv_iconst (v := (0 : Int32)) hx hb dL_law_834 (by decide) ?_
    exact xr_lawret h hX hI hXs dL_law_835
theorem w_law_b836 {L b : Nat} {xs : Nat → Int32} {rec18 : Nat → Nat → Int32 → xM Int32} {a1 : Nat} {a2 : Nat} {a3 : Int32} (hX : xX E room_1 p m c code 8 s #[Value.ref b] "PayMatchLaw" meth.name meth (some .boolean) 16 10275 σ0 σ9) (hXs : va_X b L xs s s.heap ∧ b < s.heap.size ∧ s.heap.size ≤ E.2.2) (hl0 : l.stackTraces = false) (hrec18 : ∀ (a1 : Nat) (a2 : Nat) (a3 : Int32) (σ : xS) (H : Heap) (locs : List Loc) (cells slots : Nat) (ls : Array Slot), (rec18 a1 a2 a3).1 σ = some ((1 : Int32), σ9) → xI E σ0 σ s H locs cells slots → lv_has ls 8 [(0, .ref b), (1, .ref a1), (2, .ref a2), (3, .int a3)] → W p l e room_1 s m #[Value.ref b] below meth c H locs cells slots (lw_Z below #[Value.ref b] s) (F0 m 18 ls []))
    (h : (f_law_b836 L xs rec18 a1 a2 a3).1 σ = some ((1 : Int32), σ9)) (hI : xI E σ0 σ s H locs cells slots) (hl : lv_has ls 8 [(0, .ref b), (1, .ref a1), (2, .ref a2), (3, .int a3)]) : W p l e room_1 s m #[Value.ref b] below meth c H locs cells slots (lw_Z below #[Value.ref b] s) (F0 m 836 ls []) := by
  have hx := hX.1.1
  have hb := hX.1.2.1
  delta f_law_b836 at h
  refine lv_aload_n hx hb dL_law_836 rfl (lv_at hl 1 rfl) ?_
  refine lv_aload_n hx hb dL_law_837 rfl (lv_at hl 0 rfl) ?_
  refine lv_iload_n hx hb dL_law_838 rfl (lv_at hl 3 rfl) ?_
  refine lv_iconst (v := (1 : Int32)) hx hb dL_law_839 (by decide) ?_
  refine lv_iadd hx hb dL_law_840 ?_
  refine xr_scr h hX hI hXs dL_law_841 (fun h => ?_)
  refine xr_callV (iv := (fun b => some (.int b))) (As := [.int (xs (a3 + (1 : Int32)).toNatClampNeg)]) (rest := []) h hX hI (fun _ _ h => w_X0_note h) (fun _ _ h => o_X0_note h) rfl 1 (lw_V q1740 q1741 q1742 q74 q1743) ⟨rfl, xd_X0_note⟩ ⟨rfl, rfl⟩ rfl hl.1 (Nat.le_of_ble_eq_true rfl) dL_law_842 (fun v322 H locs σ cells slots h hI => ?_)
  refine W.eq (g2 := F0 m 845 ls [.int v322]) rfl ?_
  refine lv_aload_n hx hb dL_law_845 rfl (lv_at hl 2 rfl) ?_
  refine lv_aload_n hx hb dL_law_846 rfl (lv_at hl 0 rfl) ?_
  refine lv_iload_n hx hb dL_law_847 rfl (lv_at hl 3 rfl) ?_
  refine lv_iconst (v := (1 : Int32)) hx hb dL_law_848 (by decide) ?_
  refine lv_iadd hx hb dL_law_849 ?_
  refine xr_scr h hX hI hXs dL_law_850 (fun h => ?_)
  refine xr_callV (iv := (fun b => some (.int b))) (As := [.int (xs (a3 + (1 : Int32)).toNatClampNeg)]) (rest := [.int v322]) h hX hI (fun _ _ h => w_X3_note h) (fun _ _ h => o_X3_note h) rfl 1 (lw_V q2221 q2222 q2223 q87 q2224) ⟨rfl, xd_X3_note⟩ ⟨rfl, rfl⟩ rfl hl.1 (Nat.le_of_ble_eq_true rfl) dL_law_851 (fun v324 H locs σ cells slots h hI => ?_)
  refine W.eq (g2 := F0 m 854 ls [.int v324, .int v322]) rfl ?_
  refine lv_icmp_eq (tgt := 1529) hx hb dL_law_854 (by decide) (fun hc => ?_) (fun hc => ?_)
  · have h := xif_t h hc
    exact w_law_b1529 hX hXs hl0 hrec18 h hI (lv_sub hl [0, 1, 2, 3] rfl)
  · have h := xif_f h hc
    refine lv_iconst (v := (0 : Int32)) hx hb dL_law_857 (by decide) ?_
    exact xr_lawret h hX hI hXs dL_law_858
theorem w_law_b859 {L b : Nat} {xs : Nat → Int32} {rec18 : Nat → Nat → Int32 → xM Int32} {a1 : Nat} {a2 : Nat} {a3 : Int32} (hX : xX E room_1 p m c code 8 s #[Value.ref b] "PayMatchLaw" meth.name meth (some .boolean) 16 10275 σ0 σ9) (hXs : va_X b L xs s s.heap ∧ b < s.heap.size ∧ s.heap.size ≤ E.2.2) (hl0 : l.stackTraces = false) (hrec18 : ∀ (a1 : Nat) (a2 : Nat) (a3 : Int32) (σ : xS) (H : Heap) (locs : List Loc) (cells slots : Nat) (ls : Array Slot), (rec18 a1 a2 a3).1 σ = some ((1 : Int32), σ9) → xI E σ0 σ s H locs cells slots → lv_has ls 8 [(0, .ref b), (1, .ref a1), (2, .ref a2), (3, .int a3)] → W p l e room_1 s m #[Value.ref b] below meth c H locs cells slots (lw_Z below #[Value.ref b] s) (F0 m 18 ls []))
    (h : (f_law_b859 L xs rec18 a1 a2 a3).1 σ = some ((1 : Int32), σ9)) (hI : xI E σ0 σ s H locs cells slots) (hl : lv_has ls 8 [(0, .ref b), (1, .ref a1), (2, .ref a2), (3, .int a3)]) : W p l e room_1 s m #[Value.ref b] below meth c H locs cells slots (lw_Z below #[Value.ref b] s) (F0 m 859 ls []) := by
  have hx := hX.1.1
  have hb := hX.1.2.1
  delta f_law_b859 at h
  refine lv_aload_n hx hb dL_law_859 rfl (lv_at hl 1 rfl) ?_
  refine lv_aload_n hx hb dL_law_860 rfl (lv_at hl 0 rfl) ?_
  refine lv_iload_n hx hb dL_law_861 rfl (lv_at hl 3 rfl) ?_
  refine lv_iconst (v := (1 : Int32)) hx hb dL_law_862 (by decide) ?_
  refine lv_iadd hx hb dL_law_863 ?_
  refine xr_scr h hX hI hXs dL_law_864 (fun h => ?_)
  refine xr_callV (iv := (fun b => some (.int b))) (As := [.int (xs (a3 + (1 : Int32)).toNatClampNeg)]) (rest := []) h hX hI (fun _ _ h => w_X0_reject h) (fun _ _ h => o_X0_reject h) rfl 1 (lw_V q1756 q1757 q1758 q74 q1759) ⟨rfl, xd_X0_reject⟩ ⟨rfl, rfl⟩ rfl hl.1 (Nat.le_of_ble_eq_true rfl) dL_law_865 (fun v318 H locs σ cells slots h hI => ?_)
  refine W.eq (g2 := F0 m 868 ls [.int v318]) rfl ?_
  refine lv_aload_n hx hb dL_law_868 rfl (lv_at hl 2 rfl) ?_
  refine lv_aload_n hx hb dL_law_869 rfl (lv_at hl 0 rfl) ?_
  refine lv_iload_n hx hb dL_law_870 rfl (lv_at hl 3 rfl) ?_
  refine lv_iconst (v := (1 : Int32)) hx hb dL_law_871 (by decide) ?_
  refine lv_iadd hx hb dL_law_872 ?_
  refine xr_scr h hX hI hXs dL_law_873 (fun h => ?_)
  refine xr_callV (iv := (fun b => some (.int b))) (As := [.int (xs (a3 + (1 : Int32)).toNatClampNeg)]) (rest := [.int v318]) h hX hI (fun _ _ h => w_X3_reject h) (fun _ _ h => o_X3_reject h) rfl 1 (lw_V q2225 q2226 q2227 q87 q2228) ⟨rfl, xd_X3_reject⟩ ⟨rfl, rfl⟩ rfl hl.1 (Nat.le_of_ble_eq_true rfl) dL_law_874 (fun v320 H locs σ cells slots h hI => ?_)
  refine W.eq (g2 := F0 m 877 ls [.int v320, .int v318]) rfl ?_
  refine lv_icmp_eq (tgt := 1529) hx hb dL_law_877 (by decide) (fun hc => ?_) (fun hc => ?_)
  · have h := xif_t h hc
    exact w_law_b1529 hX hXs hl0 hrec18 h hI (lv_sub hl [0, 1, 2, 3] rfl)
  · have h := xif_f h hc
    refine lv_iconst (v := (0 : Int32)) hx hb dL_law_880 (by decide) ?_
    exact xr_lawret h hX hI hXs dL_law_881
theorem w_law_b882 {L b : Nat} {xs : Nat → Int32} {rec18 : Nat → Nat → Int32 → xM Int32} {a1 : Nat} {a2 : Nat} {a3 : Int32} (hX : xX E room_1 p m c code 8 s #[Value.ref b] "PayMatchLaw" meth.name meth (some .boolean) 16 10275 σ0 σ9) (hXs : va_X b L xs s s.heap ∧ b < s.heap.size ∧ s.heap.size ≤ E.2.2) (hl0 : l.stackTraces = false) (hrec18 : ∀ (a1 : Nat) (a2 : Nat) (a3 : Int32) (σ : xS) (H : Heap) (locs : List Loc) (cells slots : Nat) (ls : Array Slot), (rec18 a1 a2 a3).1 σ = some ((1 : Int32), σ9) → xI E σ0 σ s H locs cells slots → lv_has ls 8 [(0, .ref b), (1, .ref a1), (2, .ref a2), (3, .int a3)] → W p l e room_1 s m #[Value.ref b] below meth c H locs cells slots (lw_Z below #[Value.ref b] s) (F0 m 18 ls []))
    (h : (f_law_b882 L xs rec18 a1 a2 a3).1 σ = some ((1 : Int32), σ9)) (hI : xI E σ0 σ s H locs cells slots) (hl : lv_has ls 8 [(0, .ref b), (1, .ref a1), (2, .ref a2), (3, .int a3)]) : W p l e room_1 s m #[Value.ref b] below meth c H locs cells slots (lw_Z below #[Value.ref b] s) (F0 m 882 ls []) := by
  have hx := hX.1.1
  have hb := hX.1.2.1
  delta f_law_b882 at h
  refine lv_aload_n hx hb dL_law_882 rfl (lv_at hl 1 rfl) ?_
  refine lv_aload_n hx hb dL_law_883 rfl (lv_at hl 0 rfl) ?_
  refine lv_iload_n hx hb dL_law_884 rfl (lv_at hl 3 rfl) ?_
  refine lv_iconst (v := (1 : Int32)) hx hb dL_law_885 (by decide) ?_
  refine lv_iadd hx hb dL_law_886 ?_
  refine xr_scr h hX hI hXs dL_law_887 (fun h => ?_)
  refine xr_callV (iv := (fun b => some (.int b))) (As := [.int (xs (a3 + (1 : Int32)).toNatClampNeg)]) (rest := []) h hX hI (fun _ _ h => w_X0_pay h) (fun _ _ h => o_X0_pay h) rfl 1 (lw_V q1762 q1763 q1764 q74 q1765) ⟨rfl, xd_X0_pay⟩ ⟨rfl, rfl⟩ rfl hl.1 (Nat.le_of_ble_eq_true rfl) dL_law_888 (fun v314 H locs σ cells slots h hI => ?_)
  refine W.eq (g2 := F0 m 891 ls [.int v314]) rfl ?_
  refine lv_aload_n hx hb dL_law_891 rfl (lv_at hl 2 rfl) ?_
  refine lv_aload_n hx hb dL_law_892 rfl (lv_at hl 0 rfl) ?_
  refine lv_iload_n hx hb dL_law_893 rfl (lv_at hl 3 rfl) ?_
  refine lv_iconst (v := (1 : Int32)) hx hb dL_law_894 (by decide) ?_
  refine lv_iadd hx hb dL_law_895 ?_
  refine xr_scr h hX hI hXs dL_law_896 (fun h => ?_)
  refine xr_callV (iv := (fun b => some (.int b))) (As := [.int (xs (a3 + (1 : Int32)).toNatClampNeg)]) (rest := [.int v314]) h hX hI (fun _ _ h => w_X3_pay h) (fun _ _ h => o_X3_pay h) rfl 1 (lw_V q2230 q2231 q2232 q87 q2233) ⟨rfl, xd_X3_pay⟩ ⟨rfl, rfl⟩ rfl hl.1 (Nat.le_of_ble_eq_true rfl) dL_law_897 (fun v316 H locs σ cells slots h hI => ?_)
  refine W.eq (g2 := F0 m 900 ls [.int v316, .int v314]) rfl ?_
  refine lv_icmp_eq (tgt := 1529) hx hb dL_law_900 (by decide) (fun hc => ?_) (fun hc => ?_)
  · have h := xif_t h hc
    exact w_law_b1529 hX hXs hl0 hrec18 h hI (lv_sub hl [0, 1, 2, 3] rfl)
  · have h := xif_f h hc
    refine lv_iconst (v := (0 : Int32)) hx hb dL_law_903 (by decide) ?_
    exact xr_lawret h hX hI hXs dL_law_904
theorem w_law_b905 {L b : Nat} {xs : Nat → Int32} {rec18 : Nat → Nat → Int32 → xM Int32} {a1 : Nat} {a2 : Nat} {a3 : Int32} (hX : xX E room_1 p m c code 8 s #[Value.ref b] "PayMatchLaw" meth.name meth (some .boolean) 16 10275 σ0 σ9) (hXs : va_X b L xs s s.heap ∧ b < s.heap.size ∧ s.heap.size ≤ E.2.2) (hl0 : l.stackTraces = false) (hrec18 : ∀ (a1 : Nat) (a2 : Nat) (a3 : Int32) (σ : xS) (H : Heap) (locs : List Loc) (cells slots : Nat) (ls : Array Slot), (rec18 a1 a2 a3).1 σ = some ((1 : Int32), σ9) → xI E σ0 σ s H locs cells slots → lv_has ls 8 [(0, .ref b), (1, .ref a1), (2, .ref a2), (3, .int a3)] → W p l e room_1 s m #[Value.ref b] below meth c H locs cells slots (lw_Z below #[Value.ref b] s) (F0 m 18 ls []))
    (h : (f_law_b905 L xs rec18 a1 a2 a3).1 σ = some ((1 : Int32), σ9)) (hI : xI E σ0 σ s H locs cells slots) (hl : lv_has ls 8 [(0, .ref b), (1, .ref a1), (2, .ref a2), (3, .int a3)]) : W p l e room_1 s m #[Value.ref b] below meth c H locs cells slots (lw_Z below #[Value.ref b] s) (F0 m 905 ls []) := by
  have hx := hX.1.1
  have hb := hX.1.2.1
  delta f_law_b905 at h
  refine lv_aload_n hx hb dL_law_905 rfl (lv_at hl 1 rfl) ?_
  refine lv_aload_n hx hb dL_law_906 rfl (lv_at hl 0 rfl) ?_
  refine lv_iload_n hx hb dL_law_907 rfl (lv_at hl 3 rfl) ?_
  refine lv_iconst (v := (1 : Int32)) hx hb dL_law_908 (by decide) ?_
  refine lv_iadd hx hb dL_law_909 ?_
  refine xr_scr h hX hI hXs dL_law_910 (fun h => ?_)
  refine xr_callV (iv := (fun b => some (.int b))) (As := [.int (xs (a3 + (1 : Int32)).toNatClampNeg)]) (rest := []) h hX hI (fun _ _ h => w_X0_pass h) (fun _ _ h => o_X0_pass h) rfl 1 (lw_V q1771 q1772 q1773 q74 q1774) ⟨rfl, xd_X0_pass⟩ ⟨rfl, rfl⟩ rfl hl.1 (Nat.le_of_ble_eq_true rfl) dL_law_911 (fun v310 H locs σ cells slots h hI => ?_)
  refine W.eq (g2 := F0 m 914 ls [.int v310]) rfl ?_
  refine lv_aload_n hx hb dL_law_914 rfl (lv_at hl 2 rfl) ?_
  refine lv_aload_n hx hb dL_law_915 rfl (lv_at hl 0 rfl) ?_
  refine lv_iload_n hx hb dL_law_916 rfl (lv_at hl 3 rfl) ?_
  refine lv_iconst (v := (1 : Int32)) hx hb dL_law_917 (by decide) ?_
  refine lv_iadd hx hb dL_law_918 ?_
  refine xr_scr h hX hI hXs dL_law_919 (fun h => ?_)
  refine xr_callV (iv := (fun b => some (.int b))) (As := [.int (xs (a3 + (1 : Int32)).toNatClampNeg)]) (rest := [.int v310]) h hX hI (fun _ _ h => w_X3_pass h) (fun _ _ h => o_X3_pass h) rfl 1 (lw_V q2243 q2244 q2245 q87 q2246) ⟨rfl, xd_X3_pass⟩ ⟨rfl, rfl⟩ rfl hl.1 (Nat.le_of_ble_eq_true rfl) dL_law_920 (fun v312 H locs σ cells slots h hI => ?_)
  refine W.eq (g2 := F0 m 923 ls [.int v312, .int v310]) rfl ?_
  refine lv_icmp_eq (tgt := 1529) hx hb dL_law_923 (by decide) (fun hc => ?_) (fun hc => ?_)
  · have h := xif_t h hc
    exact w_law_b1529 hX hXs hl0 hrec18 h hI (lv_sub hl [0, 1, 2, 3] rfl)
  · have h := xif_f h hc
    refine lv_iconst (v := (0 : Int32)) hx hb dL_law_926 (by decide) ?_
    exact xr_lawret h hX hI hXs dL_law_927
theorem w_law_b928 {L b : Nat} {xs : Nat → Int32} {rec18 : Nat → Nat → Int32 → xM Int32} {a1 : Nat} {a2 : Nat} {a3 : Int32} (hX : xX E room_1 p m c code 8 s #[Value.ref b] "PayMatchLaw" meth.name meth (some .boolean) 16 10275 σ0 σ9) (hXs : va_X b L xs s s.heap ∧ b < s.heap.size ∧ s.heap.size ≤ E.2.2) (hl0 : l.stackTraces = false) (hrec18 : ∀ (a1 : Nat) (a2 : Nat) (a3 : Int32) (σ : xS) (H : Heap) (locs : List Loc) (cells slots : Nat) (ls : Array Slot), (rec18 a1 a2 a3).1 σ = some ((1 : Int32), σ9) → xI E σ0 σ s H locs cells slots → lv_has ls 8 [(0, .ref b), (1, .ref a1), (2, .ref a2), (3, .int a3)] → W p l e room_1 s m #[Value.ref b] below meth c H locs cells slots (lw_Z below #[Value.ref b] s) (F0 m 18 ls []))
    (h : (f_law_b928 L xs rec18 a1 a2 a3).1 σ = some ((1 : Int32), σ9)) (hI : xI E σ0 σ s H locs cells slots) (hl : lv_has ls 8 [(0, .ref b), (1, .ref a1), (2, .ref a2), (3, .int a3)]) : W p l e room_1 s m #[Value.ref b] below meth c H locs cells slots (lw_Z below #[Value.ref b] s) (F0 m 928 ls []) := by
  have hx := hX.1.1
  have hb := hX.1.2.1
  delta f_law_b928 at h
  refine lv_aload_n hx hb dL_law_928 rfl (lv_at hl 1 rfl) ?_
  refine lv_aload_n hx hb dL_law_929 rfl (lv_at hl 0 rfl) ?_
  refine lv_iload_n hx hb dL_law_930 rfl (lv_at hl 3 rfl) ?_
  refine lv_iconst (v := (1 : Int32)) hx hb dL_law_931 (by decide) ?_
  refine lv_iadd hx hb dL_law_932 ?_
  refine xr_scr h hX hI hXs dL_law_933 (fun h => ?_)
  refine lv_i2c hx hb dL_law_934 rfl ?_
  refine xr_callV (iv := (fun b => some (.int b))) (As := [.int (((xs (a3 + (1 : Int32)).toNatClampNeg).toUInt32 % 65536).toInt32)]) (rest := []) h hX hI (fun _ _ h => w_X0_type h) (fun _ _ h => o_X0_type h) rfl 1 (lw_V q1784 q1785 q1786 q74 q1787) ⟨rfl, xd_X0_type⟩ ⟨rfl, rfl⟩ rfl hl.1 (Nat.le_of_ble_eq_true rfl) dL_law_935 (fun v306 H locs σ cells slots h hI => ?_)
  refine W.eq (g2 := F0 m 938 ls [.int v306]) rfl ?_
  refine lv_aload_n hx hb dL_law_938 rfl (lv_at hl 2 rfl) ?_
  refine lv_aload_n hx hb dL_law_939 rfl (lv_at hl 0 rfl) ?_
  refine lv_iload_n hx hb dL_law_940 rfl (lv_at hl 3 rfl) ?_
  refine lv_iconst (v := (1 : Int32)) hx hb dL_law_941 (by decide) ?_
  refine lv_iadd hx hb dL_law_942 ?_
  refine xr_scr h hX hI hXs dL_law_943 (fun h => ?_)
  refine lv_i2c hx hb dL_law_944 rfl ?_
  refine xr_callV (iv := (fun b => some (.int b))) (As := [.int (((xs (a3 + (1 : Int32)).toNatClampNeg).toUInt32 % 65536).toInt32)]) (rest := [.int v306]) h hX hI (fun _ _ h => w_X3_type h) (fun _ _ h => o_X3_type h) rfl 1 (lw_V q2247 q2248 q2249 q87 q2250) ⟨rfl, xd_X3_type⟩ ⟨rfl, rfl⟩ rfl hl.1 (Nat.le_of_ble_eq_true rfl) dL_law_945 (fun v308 H locs σ cells slots h hI => ?_)
  refine W.eq (g2 := F0 m 948 ls [.int v308, .int v306]) rfl ?_
  refine lv_icmp_eq (tgt := 1529) hx hb dL_law_948 (by decide) (fun hc => ?_) (fun hc => ?_)
  · have h := xif_t h hc
    exact w_law_b1529 hX hXs hl0 hrec18 h hI (lv_sub hl [0, 1, 2, 3] rfl)
  · have h := xif_f h hc
    refine lv_iconst (v := (0 : Int32)) hx hb dL_law_951 (by decide) ?_
    exact xr_lawret h hX hI hXs dL_law_952
theorem w_law_b953 {L b : Nat} {xs : Nat → Int32} {rec18 : Nat → Nat → Int32 → xM Int32} {a1 : Nat} {a2 : Nat} {a3 : Int32} (hX : xX E room_1 p m c code 8 s #[Value.ref b] "PayMatchLaw" meth.name meth (some .boolean) 16 10275 σ0 σ9) (hXs : va_X b L xs s s.heap ∧ b < s.heap.size ∧ s.heap.size ≤ E.2.2) (hl0 : l.stackTraces = false) (hrec18 : ∀ (a1 : Nat) (a2 : Nat) (a3 : Int32) (σ : xS) (H : Heap) (locs : List Loc) (cells slots : Nat) (ls : Array Slot), (rec18 a1 a2 a3).1 σ = some ((1 : Int32), σ9) → xI E σ0 σ s H locs cells slots → lv_has ls 8 [(0, .ref b), (1, .ref a1), (2, .ref a2), (3, .int a3)] → W p l e room_1 s m #[Value.ref b] below meth c H locs cells slots (lw_Z below #[Value.ref b] s) (F0 m 18 ls []))
    (h : (f_law_b953 L xs rec18 a1 a2 a3).1 σ = some ((1 : Int32), σ9)) (hI : xI E σ0 σ s H locs cells slots) (hl : lv_has ls 8 [(0, .ref b), (1, .ref a1), (2, .ref a2), (3, .int a3)]) : W p l e room_1 s m #[Value.ref b] below meth c H locs cells slots (lw_Z below #[Value.ref b] s) (F0 m 953 ls []) := by
  have hx := hX.1.1
  have hb := hX.1.2.1
  delta f_law_b953 at h
  refine lv_aload_n hx hb dL_law_953 rfl (lv_at hl 1 rfl) ?_
  refine xr_callV (iv := (fun b => some (.int b))) (As := []) (rest := []) h hX hI (fun _ _ h => w_X0_clearText h) (fun _ _ h => o_X0_clearText h) rfl 0 (lw_V q1802 q1803 q1804 q74 q1805) ⟨rfl, xd_X0_clearText⟩ ⟨rfl, rfl⟩ rfl hl.1 (Nat.le_of_ble_eq_true rfl) dL_law_954 (fun v303 H locs σ cells slots h hI => ?_)
  refine W.eq (g2 := F0 m 957 ls [.int v303]) rfl ?_
  refine lv_aload_n hx hb dL_law_957 rfl (lv_at hl 2 rfl) ?_
  refine xr_callV (iv := (fun b => some (.int b))) (As := []) (rest := [.int v303]) h hX hI (fun _ _ h => w_X3_clearText h) (fun _ _ h => o_X3_clearText h) rfl 0 (lw_V q2251 q2252 q2253 q87 q2254) ⟨rfl, xd_X3_clearText⟩ ⟨rfl, rfl⟩ rfl hl.1 (Nat.le_of_ble_eq_true rfl) dL_law_958 (fun v304 H locs σ cells slots h hI => ?_)
  refine W.eq (g2 := F0 m 961 ls [.int v304, .int v303]) rfl ?_
  refine lv_icmp_eq (tgt := 1529) hx hb dL_law_961 (by decide) (fun hc => ?_) (fun hc => ?_)
  · have h := xif_t h hc
    exact w_law_b1529 hX hXs hl0 hrec18 h hI (lv_sub hl [0, 1, 2, 3] rfl)
  · have h := xif_f h hc
    refine lv_iconst (v := (0 : Int32)) hx hb dL_law_964 (by decide) ?_
    exact xr_lawret h hX hI hXs dL_law_965
theorem w_law_b966 {L b : Nat} {xs : Nat → Int32} {rec18 : Nat → Nat → Int32 → xM Int32} {a1 : Nat} {a2 : Nat} {a3 : Int32} (hX : xX E room_1 p m c code 8 s #[Value.ref b] "PayMatchLaw" meth.name meth (some .boolean) 16 10275 σ0 σ9) (hXs : va_X b L xs s s.heap ∧ b < s.heap.size ∧ s.heap.size ≤ E.2.2) (hl0 : l.stackTraces = false) (hrec18 : ∀ (a1 : Nat) (a2 : Nat) (a3 : Int32) (σ : xS) (H : Heap) (locs : List Loc) (cells slots : Nat) (ls : Array Slot), (rec18 a1 a2 a3).1 σ = some ((1 : Int32), σ9) → xI E σ0 σ s H locs cells slots → lv_has ls 8 [(0, .ref b), (1, .ref a1), (2, .ref a2), (3, .int a3)] → W p l e room_1 s m #[Value.ref b] below meth c H locs cells slots (lw_Z below #[Value.ref b] s) (F0 m 18 ls []))
    (h : (f_law_b966 L xs rec18 a1 a2 a3).1 σ = some ((1 : Int32), σ9)) (hI : xI E σ0 σ s H locs cells slots) (hl : lv_has ls 8 [(0, .ref b), (1, .ref a1), (2, .ref a2), (3, .int a3)]) : W p l e room_1 s m #[Value.ref b] below meth c H locs cells slots (lw_Z below #[Value.ref b] s) (F0 m 966 ls []) := by
  have hx := hX.1.1
  have hb := hX.1.2.1
  delta f_law_b966 at h
  refine lv_aload_n hx hb dL_law_966 rfl (lv_at hl 1 rfl) ?_
  refine xr_callV (iv := (fun b => some (.int b))) (As := []) (rest := []) h hX hI (fun _ _ h => w_X0_undo h) (fun _ _ h => o_X0_undo h) rfl 0 (lw_V q1826 q1827 q1828 q74 q1829) ⟨rfl, xd_X0_undo⟩ ⟨rfl, rfl⟩ rfl hl.1 (Nat.le_of_ble_eq_true rfl) dL_law_967 (fun v301 H locs σ cells slots h hI => ?_)
  refine W.eq (g2 := F0 m 970 ls [.int v301]) rfl ?_
  refine lv_aload_n hx hb dL_law_970 rfl (lv_at hl 2 rfl) ?_
  refine xr_callV (iv := (fun b => some (.int b))) (As := []) (rest := [.int v301]) h hX hI (fun _ _ h => w_X3_undo h) (fun _ _ h => o_X3_undo h) rfl 0 (lw_V q2283 q2284 q2285 q87 q2286) ⟨rfl, xd_X3_undo⟩ ⟨rfl, rfl⟩ rfl hl.1 (Nat.le_of_ble_eq_true rfl) dL_law_971 (fun v302 H locs σ cells slots h hI => ?_)
  refine W.eq (g2 := F0 m 974 ls [.int v302, .int v301]) rfl ?_
  refine lv_icmp_eq (tgt := 1529) hx hb dL_law_974 (by decide) (fun hc => ?_) (fun hc => ?_)
  · have h := xif_t h hc
    exact w_law_b1529 hX hXs hl0 hrec18 h hI (lv_sub hl [0, 1, 2, 3] rfl)
  · have h := xif_f h hc
    refine lv_iconst (v := (0 : Int32)) hx hb dL_law_977 (by decide) ?_
    exact xr_lawret h hX hI hXs dL_law_978
theorem w_law_b979 {L b : Nat} {xs : Nat → Int32} {rec18 : Nat → Nat → Int32 → xM Int32} {a1 : Nat} {a2 : Nat} {a3 : Int32} (hX : xX E room_1 p m c code 8 s #[Value.ref b] "PayMatchLaw" meth.name meth (some .boolean) 16 10275 σ0 σ9) (hXs : va_X b L xs s s.heap ∧ b < s.heap.size ∧ s.heap.size ≤ E.2.2) (hl0 : l.stackTraces = false) (hrec18 : ∀ (a1 : Nat) (a2 : Nat) (a3 : Int32) (σ : xS) (H : Heap) (locs : List Loc) (cells slots : Nat) (ls : Array Slot), (rec18 a1 a2 a3).1 σ = some ((1 : Int32), σ9) → xI E σ0 σ s H locs cells slots → lv_has ls 8 [(0, .ref b), (1, .ref a1), (2, .ref a2), (3, .int a3)] → W p l e room_1 s m #[Value.ref b] below meth c H locs cells slots (lw_Z below #[Value.ref b] s) (F0 m 18 ls []))
    (h : (f_law_b979 L xs rec18 a1 a2 a3).1 σ = some ((1 : Int32), σ9)) (hI : xI E σ0 σ s H locs cells slots) (hl : lv_has ls 8 [(0, .ref b), (1, .ref a1), (2, .ref a2), (3, .int a3)]) : W p l e room_1 s m #[Value.ref b] below meth c H locs cells slots (lw_Z below #[Value.ref b] s) (F0 m 979 ls []) := by
  have hx := hX.1.1
  have hb := hX.1.2.1
  delta f_law_b979 at h
  refine lv_aload_n hx hb dL_law_979 rfl (lv_at hl 1 rfl) ?_
  refine xr_callV (iv := (fun b => some (.int b))) (As := []) (rest := []) h hX hI (fun _ _ h => w_X0_keep h) (fun _ _ h => o_X0_keep h) rfl 0 (lw_V q1845 q1846 q1847 q74 q1848) ⟨rfl, xd_X0_keep⟩ ⟨rfl, rfl⟩ rfl hl.1 (Nat.le_of_ble_eq_true rfl) dL_law_980 (fun v299 H locs σ cells slots h hI => ?_)
  refine W.eq (g2 := F0 m 983 ls [.int v299]) rfl ?_
  refine lv_aload_n hx hb dL_law_983 rfl (lv_at hl 2 rfl) ?_
  refine xr_callV (iv := (fun b => some (.int b))) (As := []) (rest := [.int v299]) h hX hI (fun _ _ h => w_X3_keep h) (fun _ _ h => o_X3_keep h) rfl 0 (lw_V q2287 q2288 q2289 q87 q2290) ⟨rfl, xd_X3_keep⟩ ⟨rfl, rfl⟩ rfl hl.1 (Nat.le_of_ble_eq_true rfl) dL_law_984 (fun v300 H locs σ cells slots h hI => ?_)
  refine W.eq (g2 := F0 m 987 ls [.int v300, .int v299]) rfl ?_
  refine lv_icmp_eq (tgt := 1529) hx hb dL_law_987 (by decide) (fun hc => ?_) (fun hc => ?_)
  · have h := xif_t h hc
    exact w_law_b1529 hX hXs hl0 hrec18 h hI (lv_sub hl [0, 1, 2, 3] rfl)
  · have h := xif_f h hc
    refine lv_iconst (v := (0 : Int32)) hx hb dL_law_990 (by decide) ?_
    exact xr_lawret h hX hI hXs dL_law_991
theorem w_law_b992 {L b : Nat} {xs : Nat → Int32} {rec18 : Nat → Nat → Int32 → xM Int32} {a1 : Nat} {a2 : Nat} {a3 : Int32} (hX : xX E room_1 p m c code 8 s #[Value.ref b] "PayMatchLaw" meth.name meth (some .boolean) 16 10275 σ0 σ9) (hXs : va_X b L xs s s.heap ∧ b < s.heap.size ∧ s.heap.size ≤ E.2.2) (hl0 : l.stackTraces = false) (hrec18 : ∀ (a1 : Nat) (a2 : Nat) (a3 : Int32) (σ : xS) (H : Heap) (locs : List Loc) (cells slots : Nat) (ls : Array Slot), (rec18 a1 a2 a3).1 σ = some ((1 : Int32), σ9) → xI E σ0 σ s H locs cells slots → lv_has ls 8 [(0, .ref b), (1, .ref a1), (2, .ref a2), (3, .int a3)] → W p l e room_1 s m #[Value.ref b] below meth c H locs cells slots (lw_Z below #[Value.ref b] s) (F0 m 18 ls []))
    (h : (f_law_b992 L xs rec18 a1 a2 a3).1 σ = some ((1 : Int32), σ9)) (hI : xI E σ0 σ s H locs cells slots) (hl : lv_has ls 8 [(0, .ref b), (1, .ref a1), (2, .ref a2), (3, .int a3)]) : W p l e room_1 s m #[Value.ref b] below meth c H locs cells slots (lw_Z below #[Value.ref b] s) (F0 m 992 ls []) := by
  have hx := hX.1.1
  have hb := hX.1.2.1
  delta f_law_b992 at h
  refine lv_aload_n hx hb dL_law_992 rfl (lv_at hl 1 rfl) ?_
  refine xr_callV (iv := (fun b => some (.int b))) (As := []) (rest := []) h hX hI (fun _ _ h => w_X0_restore h) (fun _ _ h => o_X0_restore h) rfl 0 (lw_V q1849 q1850 q1851 q74 q1852) ⟨rfl, xd_X0_restore⟩ ⟨rfl, rfl⟩ rfl hl.1 (Nat.le_of_ble_eq_true rfl) dL_law_993 (fun v297 H locs σ cells slots h hI => ?_)
  refine W.eq (g2 := F0 m 996 ls [.int v297]) rfl ?_
  refine lv_aload_n hx hb dL_law_996 rfl (lv_at hl 2 rfl) ?_
  refine xr_callV (iv := (fun b => some (.int b))) (As := []) (rest := [.int v297]) h hX hI (fun _ _ h => w_X3_restore h) (fun _ _ h => o_X3_restore h) rfl 0 (lw_V q2291 q2292 q2293 q87 q2294) ⟨rfl, xd_X3_restore⟩ ⟨rfl, rfl⟩ rfl hl.1 (Nat.le_of_ble_eq_true rfl) dL_law_997 (fun v298 H locs σ cells slots h hI => ?_)
  refine W.eq (g2 := F0 m 1000 ls [.int v298, .int v297]) rfl ?_
  refine lv_icmp_eq (tgt := 1529) hx hb dL_law_1000 (by decide) (fun hc => ?_) (fun hc => ?_)
  · have h := xif_t h hc
    exact w_law_b1529 hX hXs hl0 hrec18 h hI (lv_sub hl [0, 1, 2, 3] rfl)
  · have h := xif_f h hc
    refine lv_iconst (v := (0 : Int32)) hx hb dL_law_1003 (by decide) ?_
    exact xr_lawret h hX hI hXs dL_law_1004
theorem w_law_b1005 {L b : Nat} {xs : Nat → Int32} {rec18 : Nat → Nat → Int32 → xM Int32} {a1 : Nat} {a2 : Nat} {a3 : Int32} (hX : xX E room_1 p m c code 8 s #[Value.ref b] "PayMatchLaw" meth.name meth (some .boolean) 16 10275 σ0 σ9) (hXs : va_X b L xs s s.heap ∧ b < s.heap.size ∧ s.heap.size ≤ E.2.2) (hl0 : l.stackTraces = false) (hrec18 : ∀ (a1 : Nat) (a2 : Nat) (a3 : Int32) (σ : xS) (H : Heap) (locs : List Loc) (cells slots : Nat) (ls : Array Slot), (rec18 a1 a2 a3).1 σ = some ((1 : Int32), σ9) → xI E σ0 σ s H locs cells slots → lv_has ls 8 [(0, .ref b), (1, .ref a1), (2, .ref a2), (3, .int a3)] → W p l e room_1 s m #[Value.ref b] below meth c H locs cells slots (lw_Z below #[Value.ref b] s) (F0 m 18 ls []))
    (h : (f_law_b1005 L xs rec18 a1 a2 a3).1 σ = some ((1 : Int32), σ9)) (hI : xI E σ0 σ s H locs cells slots) (hl : lv_has ls 8 [(0, .ref b), (1, .ref a1), (2, .ref a2), (3, .int a3)]) : W p l e room_1 s m #[Value.ref b] below meth c H locs cells slots (lw_Z below #[Value.ref b] s) (F0 m 1005 ls []) := by
  have hx := hX.1.1
  have hb := hX.1.2.1
  delta f_law_b1005 at h
  refine lv_aload_n hx hb dL_law_1005 rfl (lv_at hl 1 rfl) ?_
  refine lv_aload_n hx hb dL_law_1006 rfl (lv_at hl 0 rfl) ?_
  refine lv_iload_n hx hb dL_law_1007 rfl (lv_at hl 3 rfl) ?_
  refine lv_iconst (v := (1 : Int32)) hx hb dL_law_1008 (by decide) ?_
  refine lv_iadd hx hb dL_law_1009 ?_
  refine xr_scr h hX hI hXs dL_law_1010 (fun h => ?_)
  refine lv_aload_n hx hb dL_law_1011 rfl (lv_at hl 0 rfl) ?_
  refine lv_iload_n hx hb dL_law_1012 rfl (lv_at hl 3 rfl) ?_
  refine lv_iconst (v := (2 : Int32)) hx hb dL_law_1013 (by decide) ?_
  refine lv_iadd hx hb dL_law_1014 ?_
  refine xr_scr h hX hI hXs dL_law_1015 (fun h => ?_)
  refine xr_callV (iv := (fun b => some (.int b))) (As := [.int (xs (a3 + (1 : Int32)).toNatClampNeg), .int (xs (a3 + (2 : Int32)).toNatClampNeg)]) (rest := []) h hX hI (fun _ _ h => w_X0_supplier h) (fun _ _ h => o_X0_supplier h) rfl 2 (lw_V q1853 q1854 q1855 q74 q1856) ⟨rfl, xd_X0_supplier⟩ ⟨rfl, rfl⟩ rfl hl.1 (Nat.le_of_ble_eq_true rfl) dL_law_1016 (fun v293 H locs σ cells slots h hI => ?_)
  refine W.eq (g2 := F0 m 1019 ls [.int v293]) rfl ?_
  refine lv_aload_n hx hb dL_law_1019 rfl (lv_at hl 2 rfl) ?_
  refine lv_aload_n hx hb dL_law_1020 rfl (lv_at hl 0 rfl) ?_
  refine lv_iload_n hx hb dL_law_1021 rfl (lv_at hl 3 rfl) ?_
  refine lv_iconst (v := (1 : Int32)) hx hb dL_law_1022 (by decide) ?_
  refine lv_iadd hx hb dL_law_1023 ?_
  refine xr_scr h hX hI hXs dL_law_1024 (fun h => ?_)
  refine lv_aload_n hx hb dL_law_1025 rfl (lv_at hl 0 rfl) ?_
  refine lv_iload_n hx hb dL_law_1026 rfl (lv_at hl 3 rfl) ?_
  refine lv_iconst (v := (2 : Int32)) hx hb dL_law_1027 (by decide) ?_
  refine lv_iadd hx hb dL_law_1028 ?_
  refine xr_scr h hX hI hXs dL_law_1029 (fun h => ?_)
  refine xr_callV (iv := (fun b => some (.int b))) (As := [.int (xs (a3 + (1 : Int32)).toNatClampNeg), .int (xs (a3 + (2 : Int32)).toNatClampNeg)]) (rest := [.int v293]) h hX hI (fun _ _ h => w_X3_supplier h) (fun _ _ h => o_X3_supplier h) rfl 2 (lw_V q2295 q2296 q2297 q87 q2298) ⟨rfl, xd_X3_supplier⟩ ⟨rfl, rfl⟩ rfl hl.1 (Nat.le_of_ble_eq_true rfl) dL_law_1030 (fun v296 H locs σ cells slots h hI => ?_)
  refine W.eq (g2 := F0 m 1033 ls [.int v296, .int v293]) rfl ?_
  refine lv_icmp_eq (tgt := 1529) hx hb dL_law_1033 (by decide) (fun hc => ?_) (fun hc => ?_)
  · have h := xif_t h hc
    exact w_law_b1529 hX hXs hl0 hrec18 h hI (lv_sub hl [0, 1, 2, 3] rfl)
  · have h := xif_f h hc
    refine lv_iconst (v := (0 : Int32)) hx hb dL_law_1036 (by decide) ?_
    exact xr_lawret h hX hI hXs dL_law_1037
theorem w_law_b1112 {L b : Nat} {xs : Nat → Int32} {rec18 : Nat → Nat → Int32 → xM Int32} {a1 : Nat} {a2 : Nat} {a3 : Int32} (hX : xX E room_1 p m c code 8 s #[Value.ref b] "PayMatchLaw" meth.name meth (some .boolean) 16 10275 σ0 σ9) (hXs : va_X b L xs s s.heap ∧ b < s.heap.size ∧ s.heap.size ≤ E.2.2) (hl0 : l.stackTraces = false) (hrec18 : ∀ (a1 : Nat) (a2 : Nat) (a3 : Int32) (σ : xS) (H : Heap) (locs : List Loc) (cells slots : Nat) (ls : Array Slot), (rec18 a1 a2 a3).1 σ = some ((1 : Int32), σ9) → xI E σ0 σ s H locs cells slots → lv_has ls 8 [(0, .ref b), (1, .ref a1), (2, .ref a2), (3, .int a3)] → W p l e room_1 s m #[Value.ref b] below meth c H locs cells slots (lw_Z below #[Value.ref b] s) (F0 m 18 ls []))
    (h : (f_law_b1112 L xs rec18 a1 a2 a3).1 σ = some ((1 : Int32), σ9)) (hI : xI E σ0 σ s H locs cells slots) (hl : lv_has ls 8 [(0, .ref b), (1, .ref a1), (2, .ref a2), (3, .int a3)]) : W p l e room_1 s m #[Value.ref b] below meth c H locs cells slots (lw_Z below #[Value.ref b] s) (F0 m 1112 ls []) := by
  have hx := hX.1.1
  have hb := hX.1.2.1
  delta f_law_b1112 at h
  refine lv_goto (tgt := 1529) hx hb dL_law_1112 (by decide) ?_
  exact w_law_b1529 hX hXs hl0 hrec18 h hI (lv_sub hl [0, 1, 2, 3] rfl)
theorem w_law_b1081 {L b : Nat} {xs : Nat → Int32} {rec18 : Nat → Nat → Int32 → xM Int32} {t0 : Nat} {t1 : Int32} {t2 : Int32} {a1 : Nat} {a2 : Nat} {a3 : Int32} {a4 : UInt64} (hX : xX E room_1 p m c code 8 s #[Value.ref b] "PayMatchLaw" meth.name meth (some .boolean) 16 10275 σ0 σ9) (hXs : va_X b L xs s s.heap ∧ b < s.heap.size ∧ s.heap.size ≤ E.2.2) (hl0 : l.stackTraces = false) (hrec18 : ∀ (a1 : Nat) (a2 : Nat) (a3 : Int32) (σ : xS) (H : Heap) (locs : List Loc) (cells slots : Nat) (ls : Array Slot), (rec18 a1 a2 a3).1 σ = some ((1 : Int32), σ9) → xI E σ0 σ s H locs cells slots → lv_has ls 8 [(0, .ref b), (1, .ref a1), (2, .ref a2), (3, .int a3)] → W p l e room_1 s m #[Value.ref b] below meth c H locs cells slots (lw_Z below #[Value.ref b] s) (F0 m 18 ls []))
    (h : (f_law_b1081 L xs rec18 t0 t1 t2 a1 a2 a3 a4).1 σ = some ((1 : Int32), σ9)) (hI : xI E σ0 σ s H locs cells slots) (hl : lv_has ls 8 [(0, .ref b), (1, .ref a1), (2, .ref a2), (3, .int a3), (4, .double a4)]) : W p l e room_1 s m #[Value.ref b] below meth c H locs cells slots (lw_Z below #[Value.ref b] s) (F0 m 1081 ls [.int t2, .int t1, .ref t0]) := by
  have hx := hX.1.1
  have hb := hX.1.2.1
  delta f_law_b1081 at h
  refine xr_callV (iv := (fun b => some (.double b))) (As := [.int t1, .int t2]) (rest := []) h hX hI (fun _ _ h => w_X3_tolerance h) (fun _ _ h => o_X3_tolerance h) rfl 2 (lw_V q2303 q2304 q2305 q87 q2306) ⟨rfl, xd_X3_tolerance⟩ ⟨rfl, rfl⟩ rfl hl.1 (Nat.le_of_ble_eq_true rfl) dL_law_1081 (fun v290 H locs σ cells slots h hI => ?_)
  refine W.eq (g2 := F0 m 1084 ls [.double v290]) rfl ?_
  refine lv_dstore (lv' := [(6, .double v290), (0, .ref b), (1, .ref a1), (2, .ref a2), (3, .int a3), (4, .double a4)]) hx hb dL_law_1084 hl (Nat.le_of_ble_eq_true rfl) rfl (fun ls hl => ?_)
  refine lv_dload hx hb dL_law_1086 (lv_at hl 5 rfl) ?_
  refine lv_dload hx hb dL_law_1088 (lv_at hl 0 rfl) ?_
  refine lv_dcmp hx hb dL_law_1090 ?_
  refine lv_if_eq (tgt := 1112) hx hb dL_law_1091 (by decide) (fun hc => ?_) (fun hc => ?_)
  · have h := xif_t h hc
    exact w_law_b1112 hX hXs hl0 hrec18 h hI (lv_sub hl [1, 2, 3, 4] rfl)
  · have h := xif_f h hc
    refine lv_dload hx hb dL_law_1094 (lv_at hl 5 rfl) ?_
    refine lv_dload hx hb dL_law_1096 (lv_at hl 5 rfl) ?_
    refine lv_dcmp hx hb dL_law_1098 ?_
    refine lv_if_eq (tgt := 1110) hx hb dL_law_1099 (by decide) (fun hc => ?_) (fun hc => ?_)
    · have h := xif_t h hc
      refine lv_iconst (v := (0 : Int32)) hx hb dL_law_1110 (by decide) ?_
      exact xr_lawret h hX hI hXs dL_law_1111
    · have h := xif_f h hc
      refine lv_dload hx hb dL_law_1102 (lv_at hl 0 rfl) ?_
      refine lv_dload hx hb dL_law_1104 (lv_at hl 0 rfl) ?_
      refine lv_dcmp hx hb dL_law_1106 ?_
      refine lv_if_ne (tgt := 1112) hx hb dL_law_1107 (by decide) (fun hc => ?_) (fun hc => ?_)
      · have h := xif_f h hc
        exact w_law_b1112 hX hXs hl0 hrec18 h hI (lv_sub hl [1, 2, 3, 4] rfl)
      · have h := xif_t h hc
        refine lv_iconst (v := (0 : Int32)) hx hb dL_law_1110 (by decide) ?_
        exact xr_lawret h hX hI hXs dL_law_1111
theorem w_law_b1057 {L b : Nat} {xs : Nat → Int32} {rec18 : Nat → Nat → Int32 → xM Int32} {t0 : Nat} {t1 : Int32} {t2 : Int32} {a1 : Nat} {a2 : Nat} {a3 : Int32} (hX : xX E room_1 p m c code 8 s #[Value.ref b] "PayMatchLaw" meth.name meth (some .boolean) 16 10275 σ0 σ9) (hXs : va_X b L xs s s.heap ∧ b < s.heap.size ∧ s.heap.size ≤ E.2.2) (hl0 : l.stackTraces = false) (hrec18 : ∀ (a1 : Nat) (a2 : Nat) (a3 : Int32) (σ : xS) (H : Heap) (locs : List Loc) (cells slots : Nat) (ls : Array Slot), (rec18 a1 a2 a3).1 σ = some ((1 : Int32), σ9) → xI E σ0 σ s H locs cells slots → lv_has ls 8 [(0, .ref b), (1, .ref a1), (2, .ref a2), (3, .int a3)] → W p l e room_1 s m #[Value.ref b] below meth c H locs cells slots (lw_Z below #[Value.ref b] s) (F0 m 18 ls []))
    (h : (f_law_b1057 L xs rec18 t0 t1 t2 a1 a2 a3).1 σ = some ((1 : Int32), σ9)) (hI : xI E σ0 σ s H locs cells slots) (hl : lv_has ls 8 [(0, .ref b), (1, .ref a1), (2, .ref a2), (3, .int a3)]) : W p l e room_1 s m #[Value.ref b] below meth c H locs cells slots (lw_Z below #[Value.ref b] s) (F0 m 1057 ls [.int t2, .int t1, .ref t0]) := by
  have hx := hX.1.1
  have hb := hX.1.2.1
  delta f_law_b1057 at h
  refine xr_callV (iv := (fun b => some (.double b))) (As := [.int t1, .int t2]) (rest := []) h hX hI (fun _ _ h => w_X0_tolerance h) (fun _ _ h => o_X0_tolerance h) rfl 2 (lw_V q1861 q1242 q1243 q74 q1244) ⟨rfl, xd_X0_tolerance⟩ ⟨rfl, rfl⟩ rfl hl.1 (Nat.le_of_ble_eq_true rfl) dL_law_1057 (fun v287 H locs σ cells slots h hI => ?_)
  refine W.eq (g2 := F0 m 1060 ls [.double v287]) rfl ?_
  refine lv_dstore (lv' := [(4, .double v287), (0, .ref b), (1, .ref a1), (2, .ref a2), (3, .int a3)]) hx hb dL_law_1060 hl (Nat.le_of_ble_eq_true rfl) rfl (fun ls hl => ?_)
  refine lv_aload_n hx hb dL_law_1062 rfl (lv_at hl 3 rfl) ?_
  refine lv_aload_n hx hb dL_law_1063 rfl (lv_at hl 1 rfl) ?_
  refine lv_iload_n hx hb dL_law_1064 rfl (lv_at hl 4 rfl) ?_
  refine lv_iconst (v := (1 : Int32)) hx hb dL_law_1065 (by decide) ?_
  refine lv_iadd hx hb dL_law_1066 ?_
  refine xr_scr h hX hI hXs dL_law_1067 (fun h => ?_)
  refine lv_aload_n hx hb dL_law_1068 rfl (lv_at hl 1 rfl) ?_
  refine lv_iload_n hx hb dL_law_1069 rfl (lv_at hl 4 rfl) ?_
  refine lv_iconst (v := (2 : Int32)) hx hb dL_law_1070 (by decide) ?_
  refine lv_iadd hx hb dL_law_1071 ?_
  refine xr_scr h hX hI hXs dL_law_1072 (fun h => ?_)
  refine lv_if_eq (tgt := 1080) hx hb dL_law_1073 (by decide) (fun hc => ?_) (fun hc => ?_)
  · have h := xif_t h hc
    refine lv_iconst (v := (0 : Int32)) hx hb dL_law_1080 (by decide) ?_
    exact w_law_b1081 hX hXs hl0 hrec18 h hI (lv_sub hl [1, 2, 3, 4, 0] rfl)
  · have h := xif_f h hc
    refine lv_iconst (v := (1 : Int32)) hx hb dL_law_1076 (by decide) ?_
    refine lv_goto (tgt := 1081) hx hb dL_law_1077 (by decide) ?_
    exact w_law_b1081 hX hXs hl0 hrec18 h hI (lv_sub hl [1, 2, 3, 4, 0] rfl)
theorem w_law_b1038 {L b : Nat} {xs : Nat → Int32} {rec18 : Nat → Nat → Int32 → xM Int32} {a1 : Nat} {a2 : Nat} {a3 : Int32} (hX : xX E room_1 p m c code 8 s #[Value.ref b] "PayMatchLaw" meth.name meth (some .boolean) 16 10275 σ0 σ9) (hXs : va_X b L xs s s.heap ∧ b < s.heap.size ∧ s.heap.size ≤ E.2.2) (hl0 : l.stackTraces = false) (hrec18 : ∀ (a1 : Nat) (a2 : Nat) (a3 : Int32) (σ : xS) (H : Heap) (locs : List Loc) (cells slots : Nat) (ls : Array Slot), (rec18 a1 a2 a3).1 σ = some ((1 : Int32), σ9) → xI E σ0 σ s H locs cells slots → lv_has ls 8 [(0, .ref b), (1, .ref a1), (2, .ref a2), (3, .int a3)] → W p l e room_1 s m #[Value.ref b] below meth c H locs cells slots (lw_Z below #[Value.ref b] s) (F0 m 18 ls []))
    (h : (f_law_b1038 L xs rec18 a1 a2 a3).1 σ = some ((1 : Int32), σ9)) (hI : xI E σ0 σ s H locs cells slots) (hl : lv_has ls 8 [(0, .ref b), (1, .ref a1), (2, .ref a2), (3, .int a3)]) : W p l e room_1 s m #[Value.ref b] below meth c H locs cells slots (lw_Z below #[Value.ref b] s) (F0 m 1038 ls []) := by
  have hx := hX.1.1
  have hb := hX.1.2.1
  delta f_law_b1038 at h
  refine lv_aload_n hx hb dL_law_1038 rfl (lv_at hl 1 rfl) ?_
  refine lv_aload_n hx hb dL_law_1039 rfl (lv_at hl 0 rfl) ?_
  refine lv_iload_n hx hb dL_law_1040 rfl (lv_at hl 3 rfl) ?_
  refine lv_iconst (v := (1 : Int32)) hx hb dL_law_1041 (by decide) ?_
  refine lv_iadd hx hb dL_law_1042 ?_
  refine xr_scr h hX hI hXs dL_law_1043 (fun h => ?_)
  refine lv_aload_n hx hb dL_law_1044 rfl (lv_at hl 0 rfl) ?_
  refine lv_iload_n hx hb dL_law_1045 rfl (lv_at hl 3 rfl) ?_
  refine lv_iconst (v := (2 : Int32)) hx hb dL_law_1046 (by decide) ?_
  refine lv_iadd hx hb dL_law_1047 ?_
  refine xr_scr h hX hI hXs dL_law_1048 (fun h => ?_)
  refine lv_if_eq (tgt := 1056) hx hb dL_law_1049 (by decide) (fun hc => ?_) (fun hc => ?_)
  · have h := xif_t h hc
    refine lv_iconst (v := (0 : Int32)) hx hb dL_law_1056 (by decide) ?_
    exact w_law_b1057 hX hXs hl0 hrec18 h hI (lv_sub hl [0, 1, 2, 3] rfl)
  · have h := xif_f h hc
    refine lv_iconst (v := (1 : Int32)) hx hb dL_law_1052 (by decide) ?_
    refine lv_goto (tgt := 1057) hx hb dL_law_1053 (by decide) ?_
    exact w_law_b1057 hX hXs hl0 hrec18 h hI (lv_sub hl [0, 1, 2, 3] rfl)
theorem w_law_b1115 {L b : Nat} {xs : Nat → Int32} {rec18 : Nat → Nat → Int32 → xM Int32} {a1 : Nat} {a2 : Nat} {a3 : Int32} (hX : xX E room_1 p m c code 8 s #[Value.ref b] "PayMatchLaw" meth.name meth (some .boolean) 16 10275 σ0 σ9) (hXs : va_X b L xs s s.heap ∧ b < s.heap.size ∧ s.heap.size ≤ E.2.2) (hl0 : l.stackTraces = false) (hrec18 : ∀ (a1 : Nat) (a2 : Nat) (a3 : Int32) (σ : xS) (H : Heap) (locs : List Loc) (cells slots : Nat) (ls : Array Slot), (rec18 a1 a2 a3).1 σ = some ((1 : Int32), σ9) → xI E σ0 σ s H locs cells slots → lv_has ls 8 [(0, .ref b), (1, .ref a1), (2, .ref a2), (3, .int a3)] → W p l e room_1 s m #[Value.ref b] below meth c H locs cells slots (lw_Z below #[Value.ref b] s) (F0 m 18 ls []))
    (h : (f_law_b1115 L xs rec18 a1 a2 a3).1 σ = some ((1 : Int32), σ9)) (hI : xI E σ0 σ s H locs cells slots) (hl : lv_has ls 8 [(0, .ref b), (1, .ref a1), (2, .ref a2), (3, .int a3)]) : W p l e room_1 s m #[Value.ref b] below meth c H locs cells slots (lw_Z below #[Value.ref b] s) (F0 m 1115 ls []) := by
  have hx := hX.1.1
  have hb := hX.1.2.1
  delta f_law_b1115 at h
  refine lv_aload_n hx hb dL_law_1115 rfl (lv_at hl 1 rfl) ?_
  refine lv_aload_n hx hb dL_law_1116 rfl (lv_at hl 0 rfl) ?_
  refine lv_iload_n hx hb dL_law_1117 rfl (lv_at hl 3 rfl) ?_
  refine lv_iconst (v := (1 : Int32)) hx hb dL_law_1118 (by decide) ?_
  refine lv_iadd hx hb dL_law_1119 ?_
  refine xr_scr h hX hI hXs dL_law_1120 (fun h => ?_)
  refine lv_aload_n hx hb dL_law_1121 rfl (lv_at hl 0 rfl) ?_
  refine lv_iload_n hx hb dL_law_1122 rfl (lv_at hl 3 rfl) ?_
  refine lv_iconst (v := (2 : Int32)) hx hb dL_law_1123 (by decide) ?_
  refine lv_iadd hx hb dL_law_1124 ?_
  refine xr_scr h hX hI hXs dL_law_1125 (fun h => ?_)
  refine xr_callV (iv := (fun b => some (.int b))) (As := [.int (xs (a3 + (1 : Int32)).toNatClampNeg), .int (xs (a3 + (2 : Int32)).toNatClampNeg)]) (rest := []) h hX hI (fun _ _ h => w_X0_order h) (fun _ _ h => o_X0_order h) rfl 2 (lw_V q1862 q1863 q1864 q74 q1865) ⟨rfl, xd_X0_order⟩ ⟨rfl, rfl⟩ rfl hl.1 (Nat.le_of_ble_eq_true rfl) dL_law_1126 (fun v281 H locs σ cells slots h hI => ?_)
  refine W.eq (g2 := F0 m 1129 ls [.int v281]) rfl ?_
  refine lv_aload_n hx hb dL_law_1129 rfl (lv_at hl 2 rfl) ?_
  refine lv_aload_n hx hb dL_law_1130 rfl (lv_at hl 0 rfl) ?_
  refine lv_iload_n hx hb dL_law_1131 rfl (lv_at hl 3 rfl) ?_
  refine lv_iconst (v := (1 : Int32)) hx hb dL_law_1132 (by decide) ?_
  refine lv_iadd hx hb dL_law_1133 ?_
  refine xr_scr h hX hI hXs dL_law_1134 (fun h => ?_)
  refine lv_aload_n hx hb dL_law_1135 rfl (lv_at hl 0 rfl) ?_
  refine lv_iload_n hx hb dL_law_1136 rfl (lv_at hl 3 rfl) ?_
  refine lv_iconst (v := (2 : Int32)) hx hb dL_law_1137 (by decide) ?_
  refine lv_iadd hx hb dL_law_1138 ?_
  refine xr_scr h hX hI hXs dL_law_1139 (fun h => ?_)
  refine xr_callV (iv := (fun b => some (.int b))) (As := [.int (xs (a3 + (1 : Int32)).toNatClampNeg), .int (xs (a3 + (2 : Int32)).toNatClampNeg)]) (rest := [.int v281]) h hX hI (fun _ _ h => w_X3_order h) (fun _ _ h => o_X3_order h) rfl 2 (lw_V q2308 q2309 q2310 q87 q2311) ⟨rfl, xd_X3_order⟩ ⟨rfl, rfl⟩ rfl hl.1 (Nat.le_of_ble_eq_true rfl) dL_law_1140 (fun v284 H locs σ cells slots h hI => ?_)
  refine W.eq (g2 := F0 m 1143 ls [.int v284, .int v281]) rfl ?_
  refine lv_icmp_eq (tgt := 1529) hx hb dL_law_1143 (by decide) (fun hc => ?_) (fun hc => ?_)
  · have h := xif_t h hc
    exact w_law_b1529 hX hXs hl0 hrec18 h hI (lv_sub hl [0, 1, 2, 3] rfl)
  · have h := xif_f h hc
    refine lv_iconst (v := (0 : Int32)) hx hb dL_law_1146 (by decide) ?_
    exact xr_lawret h hX hI hXs dL_law_1147
theorem w_law_b1148 {L b : Nat} {xs : Nat → Int32} {rec18 : Nat → Nat → Int32 → xM Int32} {a1 : Nat} {a2 : Nat} {a3 : Int32} (hX : xX E room_1 p m c code 8 s #[Value.ref b] "PayMatchLaw" meth.name meth (some .boolean) 16 10275 σ0 σ9) (hXs : va_X b L xs s s.heap ∧ b < s.heap.size ∧ s.heap.size ≤ E.2.2) (hl0 : l.stackTraces = false) (hrec18 : ∀ (a1 : Nat) (a2 : Nat) (a3 : Int32) (σ : xS) (H : Heap) (locs : List Loc) (cells slots : Nat) (ls : Array Slot), (rec18 a1 a2 a3).1 σ = some ((1 : Int32), σ9) → xI E σ0 σ s H locs cells slots → lv_has ls 8 [(0, .ref b), (1, .ref a1), (2, .ref a2), (3, .int a3)] → W p l e room_1 s m #[Value.ref b] below meth c H locs cells slots (lw_Z below #[Value.ref b] s) (F0 m 18 ls []))
    (h : (f_law_b1148 L xs rec18 a1 a2 a3).1 σ = some ((1 : Int32), σ9)) (hI : xI E σ0 σ s H locs cells slots) (hl : lv_has ls 8 [(0, .ref b), (1, .ref a1), (2, .ref a2), (3, .int a3)]) : W p l e room_1 s m #[Value.ref b] below meth c H locs cells slots (lw_Z below #[Value.ref b] s) (F0 m 1148 ls []) := by
  have hx := hX.1.1
  have hb := hX.1.2.1
  delta f_law_b1148 at h
  refine lv_aload_n hx hb dL_law_1148 rfl (lv_at hl 1 rfl) ?_
  refine lv_aload_n hx hb dL_law_1149 rfl (lv_at hl 0 rfl) ?_
  refine lv_iload_n hx hb dL_law_1150 rfl (lv_at hl 3 rfl) ?_
  refine lv_iconst (v := (1 : Int32)) hx hb dL_law_1151 (by decide) ?_
  refine lv_iadd hx hb dL_law_1152 ?_
  refine xr_scr h hX hI hXs dL_law_1153 (fun h => ?_)
  refine lv_aload_n hx hb dL_law_1154 rfl (lv_at hl 0 rfl) ?_
  refine lv_iload_n hx hb dL_law_1155 rfl (lv_at hl 3 rfl) ?_
  refine lv_iconst (v := (2 : Int32)) hx hb dL_law_1156 (by decide) ?_
  refine lv_iadd hx hb dL_law_1157 ?_
  refine xr_scr h hX hI hXs dL_law_1158 (fun h => ?_)
  refine lv_aload_n hx hb dL_law_1159 rfl (lv_at hl 0 rfl) ?_
  refine lv_iload_n hx hb dL_law_1160 rfl (lv_at hl 3 rfl) ?_
  refine lv_iconst (v := (3 : Int32)) hx hb dL_law_1161 (by decide) ?_
  refine lv_iadd hx hb dL_law_1162 ?_
  refine xr_scr h hX hI hXs dL_law_1163 (fun h => ?_)
  refine xr_callV (iv := (fun b => some (.int b))) (As := [.int (xs (a3 + (1 : Int32)).toNatClampNeg), .int (xs (a3 + (2 : Int32)).toNatClampNeg), .int (xs (a3 + (3 : Int32)).toNatClampNeg)]) (rest := []) h hX hI (fun _ _ h => w_X0_line h) (fun _ _ h => o_X0_line h) rfl 3 (lw_V q1875 q1876 q1877 q74 q1878) ⟨rfl, xd_X0_line⟩ ⟨rfl, rfl⟩ rfl hl.1 (Nat.le_of_ble_eq_true rfl) dL_law_1164 (fun v274 H locs σ cells slots h hI => ?_)
  refine W.eq (g2 := F0 m 1167 ls [.int v274]) rfl ?_
  refine lv_aload_n hx hb dL_law_1167 rfl (lv_at hl 2 rfl) ?_
  refine lv_aload_n hx hb dL_law_1168 rfl (lv_at hl 0 rfl) ?_
  refine lv_iload_n hx hb dL_law_1169 rfl (lv_at hl 3 rfl) ?_
  refine lv_iconst (v := (1 : Int32)) hx hb dL_law_1170 (by decide) ?_
  refine lv_iadd hx hb dL_law_1171 ?_
  refine xr_scr h hX hI hXs dL_law_1172 (fun h => ?_)
  refine lv_aload_n hx hb dL_law_1173 rfl (lv_at hl 0 rfl) ?_
  refine lv_iload_n hx hb dL_law_1174 rfl (lv_at hl 3 rfl) ?_
  refine lv_iconst (v := (2 : Int32)) hx hb dL_law_1175 (by decide) ?_
  refine lv_iadd hx hb dL_law_1176 ?_
  refine xr_scr h hX hI hXs dL_law_1177 (fun h => ?_)
  refine lv_aload_n hx hb dL_law_1178 rfl (lv_at hl 0 rfl) ?_
  refine lv_iload_n hx hb dL_law_1179 rfl (lv_at hl 3 rfl) ?_
  refine lv_iconst (v := (3 : Int32)) hx hb dL_law_1180 (by decide) ?_
  refine lv_iadd hx hb dL_law_1181 ?_
  refine xr_scr h hX hI hXs dL_law_1182 (fun h => ?_)
  refine xr_callV (iv := (fun b => some (.int b))) (As := [.int (xs (a3 + (1 : Int32)).toNatClampNeg), .int (xs (a3 + (2 : Int32)).toNatClampNeg), .int (xs (a3 + (3 : Int32)).toNatClampNeg)]) (rest := [.int v274]) h hX hI (fun _ _ h => w_X3_line h) (fun _ _ h => o_X3_line h) rfl 3 (lw_V q2316 q2317 q2318 q87 q2319) ⟨rfl, xd_X3_line⟩ ⟨rfl, rfl⟩ rfl hl.1 (Nat.le_of_ble_eq_true rfl) dL_law_1183 (fun v278 H locs σ cells slots h hI => ?_)
  refine W.eq (g2 := F0 m 1186 ls [.int v278, .int v274]) rfl ?_
  refine lv_icmp_eq (tgt := 1529) hx hb dL_law_1186 (by decide) (fun hc => ?_) (fun hc => ?_)
  · have h := xif_t h hc
    exact w_law_b1529 hX hXs hl0 hrec18 h hI (lv_sub hl [0, 1, 2, 3] rfl)
  · have h := xif_f h hc
    refine lv_iconst (v := (0 : Int32)) hx hb dL_law_1189 (by decide) ?_
    exact xr_lawret h hX hI hXs dL_law_1190
theorem w_law_b1191 {L b : Nat} {xs : Nat → Int32} {rec18 : Nat → Nat → Int32 → xM Int32} {a1 : Nat} {a2 : Nat} {a3 : Int32} (hX : xX E room_1 p m c code 8 s #[Value.ref b] "PayMatchLaw" meth.name meth (some .boolean) 16 10275 σ0 σ9) (hXs : va_X b L xs s s.heap ∧ b < s.heap.size ∧ s.heap.size ≤ E.2.2) (hl0 : l.stackTraces = false) (hrec18 : ∀ (a1 : Nat) (a2 : Nat) (a3 : Int32) (σ : xS) (H : Heap) (locs : List Loc) (cells slots : Nat) (ls : Array Slot), (rec18 a1 a2 a3).1 σ = some ((1 : Int32), σ9) → xI E σ0 σ s H locs cells slots → lv_has ls 8 [(0, .ref b), (1, .ref a1), (2, .ref a2), (3, .int a3)] → W p l e room_1 s m #[Value.ref b] below meth c H locs cells slots (lw_Z below #[Value.ref b] s) (F0 m 18 ls []))
    (h : (f_law_b1191 L xs rec18 a1 a2 a3).1 σ = some ((1 : Int32), σ9)) (hI : xI E σ0 σ s H locs cells slots) (hl : lv_has ls 8 [(0, .ref b), (1, .ref a1), (2, .ref a2), (3, .int a3)]) : W p l e room_1 s m #[Value.ref b] below meth c H locs cells slots (lw_Z below #[Value.ref b] s) (F0 m 1191 ls []) := by
  have hx := hX.1.1
  have hb := hX.1.2.1
  delta f_law_b1191 at h
  refine lv_aload_n hx hb dL_law_1191 rfl (lv_at hl 1 rfl) ?_
  refine lv_aload_n hx hb dL_law_1192 rfl (lv_at hl 0 rfl) ?_
  refine lv_iload_n hx hb dL_law_1193 rfl (lv_at hl 3 rfl) ?_
  refine lv_iconst (v := (1 : Int32)) hx hb dL_law_1194 (by decide) ?_
  refine lv_iadd hx hb dL_law_1195 ?_
  refine xr_scr h hX hI hXs dL_law_1196 (fun h => ?_)
  refine lv_aload_n hx hb dL_law_1197 rfl (lv_at hl 0 rfl) ?_
  refine lv_iload_n hx hb dL_law_1198 rfl (lv_at hl 3 rfl) ?_
  refine lv_iconst (v := (2 : Int32)) hx hb dL_law_1199 (by decide) ?_
  refine lv_iadd hx hb dL_law_1200 ?_
  refine xr_scr h hX hI hXs dL_law_1201 (fun h => ?_)
  refine xr_callV (iv := (fun b => some (.int b))) (As := [.int (xs (a3 + (1 : Int32)).toNatClampNeg), .int (xs (a3 + (2 : Int32)).toNatClampNeg)]) (rest := []) h hX hI (fun _ _ h => w_X0_invoice h) (fun _ _ h => o_X0_invoice h) rfl 2 (lw_V q1881 q1882 q1883 q74 q1884) ⟨rfl, xd_X0_invoice⟩ ⟨rfl, rfl⟩ rfl hl.1 (Nat.le_of_ble_eq_true rfl) dL_law_1202 (fun v267 H locs σ cells slots h hI => ?_)
  refine W.eq (g2 := F0 m 1205 ls [.int v267]) rfl ?_
  refine lv_aload_n hx hb dL_law_1205 rfl (lv_at hl 2 rfl) ?_
  refine lv_aload_n hx hb dL_law_1206 rfl (lv_at hl 0 rfl) ?_
  refine lv_iload_n hx hb dL_law_1207 rfl (lv_at hl 3 rfl) ?_
  refine lv_iconst (v := (1 : Int32)) hx hb dL_law_1208 (by decide) ?_
  refine lv_iadd hx hb dL_law_1209 ?_
  refine xr_scr h hX hI hXs dL_law_1210 (fun h => ?_)
  refine lv_aload_n hx hb dL_law_1211 rfl (lv_at hl 0 rfl) ?_
  refine lv_iload_n hx hb dL_law_1212 rfl (lv_at hl 3 rfl) ?_
  refine lv_iconst (v := (2 : Int32)) hx hb dL_law_1213 (by decide) ?_
  refine lv_iadd hx hb dL_law_1214 ?_
  refine xr_scr h hX hI hXs dL_law_1215 (fun h => ?_)
  refine xr_callV (iv := (fun b => some (.int b))) (As := [.int (xs (a3 + (1 : Int32)).toNatClampNeg), .int (xs (a3 + (2 : Int32)).toNatClampNeg)]) (rest := [.int v267]) h hX hI (fun _ _ h => w_X3_invoice h) (fun _ _ h => o_X3_invoice h) rfl 2 (lw_V q2323 q2324 q2325 q87 q2326) ⟨rfl, xd_X3_invoice⟩ ⟨rfl, rfl⟩ rfl hl.1 (Nat.le_of_ble_eq_true rfl) dL_law_1216 (fun v270 H locs σ cells slots h hI => ?_)
  refine W.eq (g2 := F0 m 1219 ls [.int v270, .int v267]) rfl ?_
  refine lv_icmp_eq (tgt := 1529) hx hb dL_law_1219 (by decide) (fun hc => ?_) (fun hc => ?_)
  · have h := xif_t h hc
    exact w_law_b1529 hX hXs hl0 hrec18 h hI (lv_sub hl [0, 1, 2, 3] rfl)
  · have h := xif_f h hc
    refine lv_iconst (v := (0 : Int32)) hx hb dL_law_1222 (by decide) ?_
    exact xr_lawret h hX hI hXs dL_law_1223
theorem w_law_b1224 {L b : Nat} {xs : Nat → Int32} {rec18 : Nat → Nat → Int32 → xM Int32} {a1 : Nat} {a2 : Nat} {a3 : Int32} (hX : xX E room_1 p m c code 8 s #[Value.ref b] "PayMatchLaw" meth.name meth (some .boolean) 16 10275 σ0 σ9) (hXs : va_X b L xs s s.heap ∧ b < s.heap.size ∧ s.heap.size ≤ E.2.2) (hl0 : l.stackTraces = false) (hrec18 : ∀ (a1 : Nat) (a2 : Nat) (a3 : Int32) (σ : xS) (H : Heap) (locs : List Loc) (cells slots : Nat) (ls : Array Slot), (rec18 a1 a2 a3).1 σ = some ((1 : Int32), σ9) → xI E σ0 σ s H locs cells slots → lv_has ls 8 [(0, .ref b), (1, .ref a1), (2, .ref a2), (3, .int a3)] → W p l e room_1 s m #[Value.ref b] below meth c H locs cells slots (lw_Z below #[Value.ref b] s) (F0 m 18 ls []))
    (h : (f_law_b1224 L xs rec18 a1 a2 a3).1 σ = some ((1 : Int32), σ9)) (hI : xI E σ0 σ s H locs cells slots) (hl : lv_has ls 8 [(0, .ref b), (1, .ref a1), (2, .ref a2), (3, .int a3)]) : W p l e room_1 s m #[Value.ref b] below meth c H locs cells slots (lw_Z below #[Value.ref b] s) (F0 m 1224 ls []) := by
  have hx := hX.1.1
  have hb := hX.1.2.1
  delta f_law_b1224 at h
  refine lv_aload_n hx hb dL_law_1224 rfl (lv_at hl 1 rfl) ?_
  refine lv_aload_n hx hb dL_law_1225 rfl (lv_at hl 0 rfl) ?_
  refine lv_iload_n hx hb dL_law_1226 rfl (lv_at hl 3 rfl) ?_
  refine lv_iconst (v := (1 : Int32)) hx hb dL_law_1227 (by decide) ?_
  refine lv_iadd hx hb dL_law_1228 ?_
  refine xr_scr h hX hI hXs dL_law_1229 (fun h => ?_)
  refine lv_aload_n hx hb dL_law_1230 rfl (lv_at hl 0 rfl) ?_
  refine lv_iload_n hx hb dL_law_1231 rfl (lv_at hl 3 rfl) ?_
  refine lv_iconst (v := (2 : Int32)) hx hb dL_law_1232 (by decide) ?_
  refine lv_iadd hx hb dL_law_1233 ?_
  refine xr_scr h hX hI hXs dL_law_1234 (fun h => ?_)
  refine lv_aload_n hx hb dL_law_1235 rfl (lv_at hl 0 rfl) ?_
  refine lv_iload_n hx hb dL_law_1236 rfl (lv_at hl 3 rfl) ?_
  refine lv_iconst (v := (3 : Int32)) hx hb dL_law_1237 (by decide) ?_
  refine lv_iadd hx hb dL_law_1238 ?_
  refine xr_scr h hX hI hXs dL_law_1239 (fun h => ?_)
  refine xr_callV (iv := (fun b => some (.int b))) (As := [.int (xs (a3 + (1 : Int32)).toNatClampNeg), .int (xs (a3 + (2 : Int32)).toNatClampNeg), .int (xs (a3 + (3 : Int32)).toNatClampNeg)]) (rest := []) h hX hI (fun _ _ h => w_X0_entry h) (fun _ _ h => o_X0_entry h) rfl 3 (lw_V q1885 q1886 q1887 q74 q1888) ⟨rfl, xd_X0_entry⟩ ⟨rfl, rfl⟩ rfl hl.1 (Nat.le_of_ble_eq_true rfl) dL_law_1240 (fun v260 H locs σ cells slots h hI => ?_)
  refine W.eq (g2 := F0 m 1243 ls [.int v260]) rfl ?_
  refine lv_aload_n hx hb dL_law_1243 rfl (lv_at hl 2 rfl) ?_
  refine lv_aload_n hx hb dL_law_1244 rfl (lv_at hl 0 rfl) ?_
  refine lv_iload_n hx hb dL_law_1245 rfl (lv_at hl 3 rfl) ?_
  refine lv_iconst (v := (1 : Int32)) hx hb dL_law_1246 (by decide) ?_
  refine lv_iadd hx hb dL_law_1247 ?_
  refine xr_scr h hX hI hXs dL_law_1248 (fun h => ?_)
  refine lv_aload_n hx hb dL_law_1249 rfl (lv_at hl 0 rfl) ?_
  refine lv_iload_n hx hb dL_law_1250 rfl (lv_at hl 3 rfl) ?_
  refine lv_iconst (v := (2 : Int32)) hx hb dL_law_1251 (by decide) ?_
  refine lv_iadd hx hb dL_law_1252 ?_
  refine xr_scr h hX hI hXs dL_law_1253 (fun h => ?_)
  refine lv_aload_n hx hb dL_law_1254 rfl (lv_at hl 0 rfl) ?_
  refine lv_iload_n hx hb dL_law_1255 rfl (lv_at hl 3 rfl) ?_
  refine lv_iconst (v := (3 : Int32)) hx hb dL_law_1256 (by decide) ?_
  refine lv_iadd hx hb dL_law_1257 ?_
  refine xr_scr h hX hI hXs dL_law_1258 (fun h => ?_)
  refine xr_callV (iv := (fun b => some (.int b))) (As := [.int (xs (a3 + (1 : Int32)).toNatClampNeg), .int (xs (a3 + (2 : Int32)).toNatClampNeg), .int (xs (a3 + (3 : Int32)).toNatClampNeg)]) (rest := [.int v260]) h hX hI (fun _ _ h => w_X3_entry h) (fun _ _ h => o_X3_entry h) rfl 3 (lw_V q2327 q2328 q2329 q87 q2330) ⟨rfl, xd_X3_entry⟩ ⟨rfl, rfl⟩ rfl hl.1 (Nat.le_of_ble_eq_true rfl) dL_law_1259 (fun v264 H locs σ cells slots h hI => ?_)
  refine W.eq (g2 := F0 m 1262 ls [.int v264, .int v260]) rfl ?_
  refine lv_icmp_eq (tgt := 1529) hx hb dL_law_1262 (by decide) (fun hc => ?_) (fun hc => ?_)
  · have h := xif_t h hc
    exact w_law_b1529 hX hXs hl0 hrec18 h hI (lv_sub hl [0, 1, 2, 3] rfl)
  · have h := xif_f h hc
    refine lv_iconst (v := (0 : Int32)) hx hb dL_law_1265 (by decide) ?_
    exact xr_lawret h hX hI hXs dL_law_1266
theorem w_law_b1267 {L b : Nat} {xs : Nat → Int32} {rec18 : Nat → Nat → Int32 → xM Int32} {a1 : Nat} {a2 : Nat} {a3 : Int32} (hX : xX E room_1 p m c code 8 s #[Value.ref b] "PayMatchLaw" meth.name meth (some .boolean) 16 10275 σ0 σ9) (hXs : va_X b L xs s s.heap ∧ b < s.heap.size ∧ s.heap.size ≤ E.2.2) (hl0 : l.stackTraces = false) (hrec18 : ∀ (a1 : Nat) (a2 : Nat) (a3 : Int32) (σ : xS) (H : Heap) (locs : List Loc) (cells slots : Nat) (ls : Array Slot), (rec18 a1 a2 a3).1 σ = some ((1 : Int32), σ9) → xI E σ0 σ s H locs cells slots → lv_has ls 8 [(0, .ref b), (1, .ref a1), (2, .ref a2), (3, .int a3)] → W p l e room_1 s m #[Value.ref b] below meth c H locs cells slots (lw_Z below #[Value.ref b] s) (F0 m 18 ls []))
    (h : (f_law_b1267 L xs rec18 a1 a2 a3).1 σ = some ((1 : Int32), σ9)) (hI : xI E σ0 σ s H locs cells slots) (hl : lv_has ls 8 [(0, .ref b), (1, .ref a1), (2, .ref a2), (3, .int a3)]) : W p l e room_1 s m #[Value.ref b] below meth c H locs cells slots (lw_Z below #[Value.ref b] s) (F0 m 1267 ls []) := by
  have hx := hX.1.1
  have hb := hX.1.2.1
  delta f_law_b1267 at h
  refine lv_aload_n hx hb dL_law_1267 rfl (lv_at hl 1 rfl) ?_
  refine lv_aload_n hx hb dL_law_1268 rfl (lv_at hl 0 rfl) ?_
  refine lv_iload_n hx hb dL_law_1269 rfl (lv_at hl 3 rfl) ?_
  refine lv_iconst (v := (1 : Int32)) hx hb dL_law_1270 (by decide) ?_
  refine lv_iadd hx hb dL_law_1271 ?_
  refine xr_scr h hX hI hXs dL_law_1272 (fun h => ?_)
  refine lv_aload_n hx hb dL_law_1273 rfl (lv_at hl 0 rfl) ?_
  refine lv_iload_n hx hb dL_law_1274 rfl (lv_at hl 3 rfl) ?_
  refine lv_iconst (v := (2 : Int32)) hx hb dL_law_1275 (by decide) ?_
  refine lv_iadd hx hb dL_law_1276 ?_
  refine xr_scr h hX hI hXs dL_law_1277 (fun h => ?_)
  refine lv_aload_n hx hb dL_law_1278 rfl (lv_at hl 0 rfl) ?_
  refine lv_iload_n hx hb dL_law_1279 rfl (lv_at hl 3 rfl) ?_
  refine lv_iconst (v := (3 : Int32)) hx hb dL_law_1280 (by decide) ?_
  refine lv_iadd hx hb dL_law_1281 ?_
  refine xr_scr h hX hI hXs dL_law_1282 (fun h => ?_)
  refine lv_aload_n hx hb dL_law_1283 rfl (lv_at hl 0 rfl) ?_
  refine lv_iload_n hx hb dL_law_1284 rfl (lv_at hl 3 rfl) ?_
  refine lv_iconst (v := (4 : Int32)) hx hb dL_law_1285 (by decide) ?_
  refine lv_iadd hx hb dL_law_1286 ?_
  refine xr_scr h hX hI hXs dL_law_1287 (fun h => ?_)
  refine xr_callV (iv := (fun b => some (.int b))) (As := [.int (xs (a3 + (1 : Int32)).toNatClampNeg), .int (xs (a3 + (2 : Int32)).toNatClampNeg), .int (xs (a3 + (3 : Int32)).toNatClampNeg), .int (xs (a3 + (4 : Int32)).toNatClampNeg)]) (rest := []) h hX hI (fun _ _ h => w_X0_wouldMatch h) (fun _ _ h => o_X0_wouldMatch h) rfl 4 (lw_V q1889 q1890 q1891 q74 q1892) ⟨rfl, xd_X0_wouldMatch⟩ ⟨rfl, rfl⟩ rfl hl.1 (Nat.le_of_ble_eq_true rfl) dL_law_1288 (fun v251 H locs σ cells slots h hI => ?_)
  refine W.eq (g2 := F0 m 1291 ls [.int v251]) rfl ?_
  refine lv_aload_n hx hb dL_law_1291 rfl (lv_at hl 2 rfl) ?_
  refine lv_aload_n hx hb dL_law_1292 rfl (lv_at hl 0 rfl) ?_
  refine lv_iload_n hx hb dL_law_1293 rfl (lv_at hl 3 rfl) ?_
  refine lv_iconst (v := (1 : Int32)) hx hb dL_law_1294 (by decide) ?_
  refine lv_iadd hx hb dL_law_1295 ?_
  refine xr_scr h hX hI hXs dL_law_1296 (fun h => ?_)
  refine lv_aload_n hx hb dL_law_1297 rfl (lv_at hl 0 rfl) ?_
  refine lv_iload_n hx hb dL_law_1298 rfl (lv_at hl 3 rfl) ?_
  refine lv_iconst (v := (2 : Int32)) hx hb dL_law_1299 (by decide) ?_
  refine lv_iadd hx hb dL_law_1300 ?_
  refine xr_scr h hX hI hXs dL_law_1301 (fun h => ?_)
  refine lv_aload_n hx hb dL_law_1302 rfl (lv_at hl 0 rfl) ?_
  refine lv_iload_n hx hb dL_law_1303 rfl (lv_at hl 3 rfl) ?_
  refine lv_iconst (v := (3 : Int32)) hx hb dL_law_1304 (by decide) ?_
  refine lv_iadd hx hb dL_law_1305 ?_
  refine xr_scr h hX hI hXs dL_law_1306 (fun h => ?_)
  refine lv_aload_n hx hb dL_law_1307 rfl (lv_at hl 0 rfl) ?_
  refine lv_iload_n hx hb dL_law_1308 rfl (lv_at hl 3 rfl) ?_
  refine lv_iconst (v := (4 : Int32)) hx hb dL_law_1309 (by decide) ?_
  refine lv_iadd hx hb dL_law_1310 ?_
  refine xr_scr h hX hI hXs dL_law_1311 (fun h => ?_)
  refine xr_callV (iv := (fun b => some (.int b))) (As := [.int (xs (a3 + (1 : Int32)).toNatClampNeg), .int (xs (a3 + (2 : Int32)).toNatClampNeg), .int (xs (a3 + (3 : Int32)).toNatClampNeg), .int (xs (a3 + (4 : Int32)).toNatClampNeg)]) (rest := [.int v251]) h hX hI (fun _ _ h => w_X3_wouldMatch h) (fun _ _ h => o_X3_wouldMatch h) rfl 4 (lw_V q2331 q2332 q2333 q87 q2334) ⟨rfl, xd_X3_wouldMatch⟩ ⟨rfl, rfl⟩ rfl hl.1 (Nat.le_of_ble_eq_true rfl) dL_law_1312 (fun v256 H locs σ cells slots h hI => ?_)
  refine W.eq (g2 := F0 m 1315 ls [.int v256, .int v251]) rfl ?_
  refine lv_icmp_eq (tgt := 1529) hx hb dL_law_1315 (by decide) (fun hc => ?_) (fun hc => ?_)
  · have h := xif_t h hc
    exact w_law_b1529 hX hXs hl0 hrec18 h hI (lv_sub hl [0, 1, 2, 3] rfl)
  · have h := xif_f h hc
    refine lv_iconst (v := (0 : Int32)) hx hb dL_law_1318 (by decide) ?_
    exact xr_lawret h hX hI hXs dL_law_1319
theorem w_law_b1320 {L b : Nat} {xs : Nat → Int32} {rec18 : Nat → Nat → Int32 → xM Int32} {a1 : Nat} {a2 : Nat} {a3 : Int32} (hX : xX E room_1 p m c code 8 s #[Value.ref b] "PayMatchLaw" meth.name meth (some .boolean) 16 10275 σ0 σ9) (hXs : va_X b L xs s s.heap ∧ b < s.heap.size ∧ s.heap.size ≤ E.2.2) (hl0 : l.stackTraces = false) (hrec18 : ∀ (a1 : Nat) (a2 : Nat) (a3 : Int32) (σ : xS) (H : Heap) (locs : List Loc) (cells slots : Nat) (ls : Array Slot), (rec18 a1 a2 a3).1 σ = some ((1 : Int32), σ9) → xI E σ0 σ s H locs cells slots → lv_has ls 8 [(0, .ref b), (1, .ref a1), (2, .ref a2), (3, .int a3)] → W p l e room_1 s m #[Value.ref b] below meth c H locs cells slots (lw_Z below #[Value.ref b] s) (F0 m 18 ls []))
    (h : (f_law_b1320 L xs rec18 a1 a2 a3).1 σ = some ((1 : Int32), σ9)) (hI : xI E σ0 σ s H locs cells slots) (hl : lv_has ls 8 [(0, .ref b), (1, .ref a1), (2, .ref a2), (3, .int a3)]) : W p l e room_1 s m #[Value.ref b] below meth c H locs cells slots (lw_Z below #[Value.ref b] s) (F0 m 1320 ls []) := by
  have hx := hX.1.1
  have hb := hX.1.2.1
  delta f_law_b1320 at h
  refine lv_aload_n hx hb dL_law_1320 rfl (lv_at hl 1 rfl) ?_
  refine lv_aload_n hx hb dL_law_1321 rfl (lv_at hl 0 rfl) ?_
  refine lv_iload_n hx hb dL_law_1322 rfl (lv_at hl 3 rfl) ?_
  refine lv_iconst (v := (1 : Int32)) hx hb dL_law_1323 (by decide) ?_
  refine lv_iadd hx hb dL_law_1324 ?_
  refine xr_scr h hX hI hXs dL_law_1325 (fun h => ?_)
  refine lv_aload_n hx hb dL_law_1326 rfl (lv_at hl 0 rfl) ?_
  refine lv_iload_n hx hb dL_law_1327 rfl (lv_at hl 3 rfl) ?_
  refine lv_iconst (v := (2 : Int32)) hx hb dL_law_1328 (by decide) ?_
  refine lv_iadd hx hb dL_law_1329 ?_
  refine xr_scr h hX hI hXs dL_law_1330 (fun h => ?_)
  refine lv_aload_n hx hb dL_law_1331 rfl (lv_at hl 0 rfl) ?_
  refine lv_iload_n hx hb dL_law_1332 rfl (lv_at hl 3 rfl) ?_
  refine lv_iconst (v := (3 : Int32)) hx hb dL_law_1333 (by decide) ?_
  refine lv_iadd hx hb dL_law_1334 ?_
  refine xr_scr h hX hI hXs dL_law_1335 (fun h => ?_)
  refine xr_callV (iv := (fun b => some (.int b))) (As := [.int (xs (a3 + (1 : Int32)).toNatClampNeg), .int (xs (a3 + (2 : Int32)).toNatClampNeg), .int (xs (a3 + (3 : Int32)).toNatClampNeg)]) (rest := []) h hX hI (fun _ _ h => w_X0_greatestPrice h) (fun _ _ h => o_X0_greatestPrice h) rfl 3 (lw_V q1894 q1895 q1896 q74 q1897) ⟨rfl, xd_X0_greatestPrice⟩ ⟨rfl, rfl⟩ rfl hl.1 (Nat.le_of_ble_eq_true rfl) dL_law_1336 (fun v242 H locs σ cells slots h hI => ?_)
  refine W.eq (g2 := F0 m 1339 ls [.int v242]) rfl ?_
  refine lv_aload_n hx hb dL_law_1339 rfl (lv_at hl 2 rfl) ?_
  refine lv_aload_n hx hb dL_law_1340 rfl (lv_at hl 0 rfl) ?_
  refine lv_iload_n hx hb dL_law_1341 rfl (lv_at hl 3 rfl) ?_
  refine lv_iconst (v := (1 : Int32)) hx hb dL_law_1342 (by decide) ?_
  refine lv_iadd hx hb dL_law_1343 ?_
  refine xr_scr h hX hI hXs dL_law_1344 (fun h => ?_)
  refine lv_aload_n hx hb dL_law_1345 rfl (lv_at hl 0 rfl) ?_
  refine lv_iload_n hx hb dL_law_1346 rfl (lv_at hl 3 rfl) ?_
  refine lv_iconst (v := (2 : Int32)) hx hb dL_law_1347 (by decide) ?_
  refine lv_iadd hx hb dL_law_1348 ?_
  refine xr_scr h hX hI hXs dL_law_1349 (fun h => ?_)
  refine lv_aload_n hx hb dL_law_1350 rfl (lv_at hl 0 rfl) ?_
  refine lv_iload_n hx hb dL_law_1351 rfl (lv_at hl 3 rfl) ?_
  refine lv_iconst (v := (3 : Int32)) hx hb dL_law_1352 (by decide) ?_
  refine lv_iadd hx hb dL_law_1353 ?_
  refine xr_scr h hX hI hXs dL_law_1354 (fun h => ?_)
  refine xr_callV (iv := (fun b => some (.int b))) (As := [.int (xs (a3 + (1 : Int32)).toNatClampNeg), .int (xs (a3 + (2 : Int32)).toNatClampNeg), .int (xs (a3 + (3 : Int32)).toNatClampNeg)]) (rest := [.int v242]) h hX hI (fun _ _ h => w_X3_greatestPrice h) (fun _ _ h => o_X3_greatestPrice h) rfl 3 (lw_V q2335 q2336 q2337 q87 q2338) ⟨rfl, xd_X3_greatestPrice⟩ ⟨rfl, rfl⟩ rfl hl.1 (Nat.le_of_ble_eq_true rfl) dL_law_1355 (fun v246 H locs σ cells slots h hI => ?_)
  refine W.eq (g2 := F0 m 1358 ls [.int v246, .int v242]) rfl ?_
  refine lv_icmp_eq (tgt := 1529) hx hb dL_law_1358 (by decide) (fun hc => ?_) (fun hc => ?_)
  · have h := xif_t h hc
    exact w_law_b1529 hX hXs hl0 hrec18 h hI (lv_sub hl [0, 1, 2, 3] rfl)
  · have h := xif_f h hc
    refine lv_iconst (v := (0 : Int32)) hx hb dL_law_1361 (by decide) ?_
    exact xr_lawret h hX hI hXs dL_law_1362
theorem w_law_b1411 {L b : Nat} {xs : Nat → Int32} {rec18 : Nat → Nat → Int32 → xM Int32} {a1 : Nat} {a2 : Nat} {a3 : Int32} (hX : xX E room_1 p m c code 8 s #[Value.ref b] "PayMatchLaw" meth.name meth (some .boolean) 16 10275 σ0 σ9) (hXs : va_X b L xs s s.heap ∧ b < s.heap.size ∧ s.heap.size ≤ E.2.2) (hl0 : l.stackTraces = false) (hrec18 : ∀ (a1 : Nat) (a2 : Nat) (a3 : Int32) (σ : xS) (H : Heap) (locs : List Loc) (cells slots : Nat) (ls : Array Slot), (rec18 a1 a2 a3).1 σ = some ((1 : Int32), σ9) → xI E σ0 σ s H locs cells slots → lv_has ls 8 [(0, .ref b), (1, .ref a1), (2, .ref a2), (3, .int a3)] → W p l e room_1 s m #[Value.ref b] below meth c H locs cells slots (lw_Z below #[Value.ref b] s) (F0 m 18 ls []))
    (h : (f_law_b1411 L xs rec18 a1 a2 a3).1 σ = some ((1 : Int32), σ9)) (hI : xI E σ0 σ s H locs cells slots) (hl : lv_has ls 8 [(0, .ref b), (1, .ref a1), (2, .ref a2), (3, .int a3)]) : W p l e room_1 s m #[Value.ref b] below meth c H locs cells slots (lw_Z below #[Value.ref b] s) (F0 m 1411 ls []) := by
  have hx := hX.1.1
  have hb := hX.1.2.1
  delta f_law_b1411 at h
  refine lv_goto (tgt := 1529) hx hb dL_law_1411 (by decide) ?_
  exact w_law_b1529 hX hXs hl0 hrec18 h hI (lv_sub hl [0, 1, 2, 3] rfl)
theorem w_law_b1363 {L b : Nat} {xs : Nat → Int32} {rec18 : Nat → Nat → Int32 → xM Int32} {a1 : Nat} {a2 : Nat} {a3 : Int32} (hX : xX E room_1 p m c code 8 s #[Value.ref b] "PayMatchLaw" meth.name meth (some .boolean) 16 10275 σ0 σ9) (hXs : va_X b L xs s s.heap ∧ b < s.heap.size ∧ s.heap.size ≤ E.2.2) (hl0 : l.stackTraces = false) (hrec18 : ∀ (a1 : Nat) (a2 : Nat) (a3 : Int32) (σ : xS) (H : Heap) (locs : List Loc) (cells slots : Nat) (ls : Array Slot), (rec18 a1 a2 a3).1 σ = some ((1 : Int32), σ9) → xI E σ0 σ s H locs cells slots → lv_has ls 8 [(0, .ref b), (1, .ref a1), (2, .ref a2), (3, .int a3)] → W p l e room_1 s m #[Value.ref b] below meth c H locs cells slots (lw_Z below #[Value.ref b] s) (F0 m 18 ls []))
    (h : (f_law_b1363 L xs rec18 a1 a2 a3).1 σ = some ((1 : Int32), σ9)) (hI : xI E σ0 σ s H locs cells slots) (hl : lv_has ls 8 [(0, .ref b), (1, .ref a1), (2, .ref a2), (3, .int a3)]) : W p l e room_1 s m #[Value.ref b] below meth c H locs cells slots (lw_Z below #[Value.ref b] s) (F0 m 1363 ls []) := by
  have hx := hX.1.1
  have hb := hX.1.2.1
  delta f_law_b1363 at h
  refine lv_aload_n hx hb dL_law_1363 rfl (lv_at hl 1 rfl) ?_
  refine lv_aload_n hx hb dL_law_1364 rfl (lv_at hl 0 rfl) ?_
  refine lv_iload_n hx hb dL_law_1365 rfl (lv_at hl 3 rfl) ?_
  refine lv_iconst (v := (1 : Int32)) hx hb dL_law_1366 (by decide) ?_
  refine lv_iadd hx hb dL_law_1367 ?_
  refine xr_scr h hX hI hXs dL_law_1368 (fun h => ?_)
  refine xr_callV (iv := (fun b => some (.double b))) (As := [.int (xs (a3 + (1 : Int32)).toNatClampNeg)]) (rest := []) h hX hI (fun _ _ h => w_X0_value h) (fun _ _ h => o_X0_value h) rfl 1 (lw_V q1899 q1900 q1901 q74 q1902) ⟨rfl, xd_X0_value⟩ ⟨rfl, rfl⟩ rfl hl.1 (Nat.le_of_ble_eq_true rfl) dL_law_1369 (fun v236 H locs σ cells slots h hI => ?_)
  refine W.eq (g2 := F0 m 1372 ls [.double v236]) rfl ?_
  refine lv_dstore (lv' := [(4, .double v236), (0, .ref b), (1, .ref a1), (2, .ref a2), (3, .int a3)]) hx hb dL_law_1372 hl (Nat.le_of_ble_eq_true rfl) rfl (fun ls hl => ?_)
  refine lv_aload_n hx hb dL_law_1374 rfl (lv_at hl 3 rfl) ?_
  refine lv_aload_n hx hb dL_law_1375 rfl (lv_at hl 1 rfl) ?_
  refine lv_iload_n hx hb dL_law_1376 rfl (lv_at hl 4 rfl) ?_
  refine lv_iconst (v := (1 : Int32)) hx hb dL_law_1377 (by decide) ?_
  refine lv_iadd hx hb dL_law_1378 ?_
  refine xr_scr h hX hI hXs dL_law_1379 (fun h => ?_)
  refine xr_callV (iv := (fun b => some (.double b))) (As := [.int (xs (a3 + (1 : Int32)).toNatClampNeg)]) (rest := []) h hX hI (fun _ _ h => w_X3_value h) (fun _ _ h => o_X3_value h) rfl 1 (lw_V q2339 q2340 q2341 q87 q2342) ⟨rfl, xd_X3_value⟩ ⟨rfl, rfl⟩ rfl hl.1 (Nat.le_of_ble_eq_true rfl) dL_law_1380 (fun v238 H locs σ cells slots h hI => ?_)
  refine W.eq (g2 := F0 m 1383 ls [.double v238]) rfl ?_
  refine lv_dstore (lv' := [(6, .double v238), (4, .double v236), (0, .ref b), (1, .ref a1), (2, .ref a2), (3, .int a3)]) hx hb dL_law_1383 hl (Nat.le_of_ble_eq_true rfl) rfl (fun ls hl => ?_)
  refine lv_dload hx hb dL_law_1385 (lv_at hl 1 rfl) ?_
  refine lv_dload hx hb dL_law_1387 (lv_at hl 0 rfl) ?_
  refine lv_dcmp hx hb dL_law_1389 ?_
  refine lv_if_eq (tgt := 1411) hx hb dL_law_1390 (by decide) (fun hc => ?_) (fun hc => ?_)
  · have h := xif_t h hc
    exact w_law_b1411 hX hXs hl0 hrec18 h hI (lv_sub hl [2, 3, 4, 5] rfl)
  · have h := xif_f h hc
    refine lv_dload hx hb dL_law_1393 (lv_at hl 1 rfl) ?_
    refine lv_dload hx hb dL_law_1395 (lv_at hl 1 rfl) ?_
    refine lv_dcmp hx hb dL_law_1397 ?_
    refine lv_if_eq (tgt := 1409) hx hb dL_law_1398 (by decide) (fun hc => ?_) (fun hc => ?_)
    · have h := xif_t h hc
      refine lv_iconst (v := (0 : Int32)) hx hb dL_law_1409 (by decide) ?_
      exact xr_lawret h hX hI hXs dL_law_1410
    · have h := xif_f h hc
      refine lv_dload hx hb dL_law_1401 (lv_at hl 0 rfl) ?_
      refine lv_dload hx hb dL_law_1403 (lv_at hl 0 rfl) ?_
      refine lv_dcmp hx hb dL_law_1405 ?_
      refine lv_if_ne (tgt := 1411) hx hb dL_law_1406 (by decide) (fun hc => ?_) (fun hc => ?_)
      · have h := xif_f h hc
        exact w_law_b1411 hX hXs hl0 hrec18 h hI (lv_sub hl [2, 3, 4, 5] rfl)
      · have h := xif_t h hc
        refine lv_iconst (v := (0 : Int32)) hx hb dL_law_1409 (by decide) ?_
        exact xr_lawret h hX hI hXs dL_law_1410
theorem w_law_b1460 {L b : Nat} {xs : Nat → Int32} {rec18 : Nat → Nat → Int32 → xM Int32} {t0 : Int32} {t1 : Nat} {t2 : Int32} {t3 : Int32} {a1 : Nat} {a2 : Nat} {a3 : Int32} (hX : xX E room_1 p m c code 8 s #[Value.ref b] "PayMatchLaw" meth.name meth (some .boolean) 16 10275 σ0 σ9) (hXs : va_X b L xs s s.heap ∧ b < s.heap.size ∧ s.heap.size ≤ E.2.2) (hl0 : l.stackTraces = false) (hrec18 : ∀ (a1 : Nat) (a2 : Nat) (a3 : Int32) (σ : xS) (H : Heap) (locs : List Loc) (cells slots : Nat) (ls : Array Slot), (rec18 a1 a2 a3).1 σ = some ((1 : Int32), σ9) → xI E σ0 σ s H locs cells slots → lv_has ls 8 [(0, .ref b), (1, .ref a1), (2, .ref a2), (3, .int a3)] → W p l e room_1 s m #[Value.ref b] below meth c H locs cells slots (lw_Z below #[Value.ref b] s) (F0 m 18 ls []))
    (h : (f_law_b1460 L xs rec18 t0 t1 t2 t3 a1 a2 a3).1 σ = some ((1 : Int32), σ9)) (hI : xI E σ0 σ s H locs cells slots) (hl : lv_has ls 8 [(0, .ref b), (1, .ref a1), (2, .ref a2), (3, .int a3)]) : W p l e room_1 s m #[Value.ref b] below meth c H locs cells slots (lw_Z below #[Value.ref b] s) (F0 m 1460 ls [.int t3, .int t2, .ref t1, .int t0]) := by
  have hx := hX.1.1
  have hb := hX.1.2.1
  delta f_law_b1460 at h
  refine lv_aload_n hx hb dL_law_1460 rfl (lv_at hl 0 rfl) ?_
  refine lv_iload_n hx hb dL_law_1461 rfl (lv_at hl 3 rfl) ?_
  refine lv_iconst (v := (3 : Int32)) hx hb dL_law_1462 (by decide) ?_
  refine lv_iadd hx hb dL_law_1463 ?_
  refine xr_scr h hX hI hXs dL_law_1464 (fun h => ?_)
  refine xr_callV (iv := (fun b => some (.int b))) (As := [.int t2, .int t3, .int (xs (a3 + (3 : Int32)).toNatClampNeg)]) (rest := [.int t0]) h hX hI (fun _ _ h => w_X3_takes h) (fun _ _ h => o_X3_takes h) rfl 3 (lw_V q2347 q2348 q2349 q87 q2350) ⟨rfl, xd_X3_takes⟩ ⟨rfl, rfl⟩ rfl hl.1 (Nat.le_of_ble_eq_true rfl) dL_law_1465 (fun v234 H locs σ cells slots h hI => ?_)
  refine W.eq (g2 := F0 m 1468 ls [.int v234, .int t0]) rfl ?_
  refine lv_icmp_eq (tgt := 1529) hx hb dL_law_1468 (by decide) (fun hc => ?_) (fun hc => ?_)
  · have h := xif_t h hc
    exact w_law_b1529 hX hXs hl0 hrec18 h hI (lv_sub hl [0, 1, 2, 3] rfl)
  · have h := xif_f h hc
    refine lv_iconst (v := (0 : Int32)) hx hb dL_law_1471 (by decide) ?_
    exact xr_lawret h hX hI hXs dL_law_1472
theorem w_law_b1433 {L b : Nat} {xs : Nat → Int32} {rec18 : Nat → Nat → Int32 → xM Int32} {t0 : Nat} {t1 : Int32} {t2 : Int32} {a1 : Nat} {a2 : Nat} {a3 : Int32} (hX : xX E room_1 p m c code 8 s #[Value.ref b] "PayMatchLaw" meth.name meth (some .boolean) 16 10275 σ0 σ9) (hXs : va_X b L xs s s.heap ∧ b < s.heap.size ∧ s.heap.size ≤ E.2.2) (hl0 : l.stackTraces = false) (hrec18 : ∀ (a1 : Nat) (a2 : Nat) (a3 : Int32) (σ : xS) (H : Heap) (locs : List Loc) (cells slots : Nat) (ls : Array Slot), (rec18 a1 a2 a3).1 σ = some ((1 : Int32), σ9) → xI E σ0 σ s H locs cells slots → lv_has ls 8 [(0, .ref b), (1, .ref a1), (2, .ref a2), (3, .int a3)] → W p l e room_1 s m #[Value.ref b] below meth c H locs cells slots (lw_Z below #[Value.ref b] s) (F0 m 18 ls []))
    (h : (f_law_b1433 L xs rec18 t0 t1 t2 a1 a2 a3).1 σ = some ((1 : Int32), σ9)) (hI : xI E σ0 σ s H locs cells slots) (hl : lv_has ls 8 [(0, .ref b), (1, .ref a1), (2, .ref a2), (3, .int a3)]) : W p l e room_1 s m #[Value.ref b] below meth c H locs cells slots (lw_Z below #[Value.ref b] s) (F0 m 1433 ls [.int t2, .int t1, .ref t0]) := by
  have hx := hX.1.1
  have hb := hX.1.2.1
  delta f_law_b1433 at h
  refine lv_aload_n hx hb dL_law_1433 rfl (lv_at hl 0 rfl) ?_
  refine lv_iload_n hx hb dL_law_1434 rfl (lv_at hl 3 rfl) ?_
  refine lv_iconst (v := (3 : Int32)) hx hb dL_law_1435 (by decide) ?_
  refine lv_iadd hx hb dL_law_1436 ?_
  refine xr_scr h hX hI hXs dL_law_1437 (fun h => ?_)
  refine xr_callVH (iv := (fun b => some (.int b))) (As := [.int t1, .int t2, .int (xs (a3 + (3 : Int32)).toNatClampNeg)]) (rest := []) h hX hI (fun _ _ h => w_X0_takes hl0 h) (fun _ _ h => o_X0_takes h) rfl 3 (lw_VW q1911 q1912 q1913 q74 q1914) ⟨rfl, xd_X0_takes⟩ ⟨rfl, rfl⟩ rfl hl.1 (Nat.le_of_ble_eq_true rfl) dL_law_1438 (fun v230 H locs σ cells slots h hI => ?_)
  refine W.eq (g2 := F0 m 1441 ls [.int v230]) rfl ?_
  refine lv_aload_n hx hb dL_law_1441 rfl (lv_at hl 2 rfl) ?_
  refine lv_aload_n hx hb dL_law_1442 rfl (lv_at hl 0 rfl) ?_
  refine lv_iload_n hx hb dL_law_1443 rfl (lv_at hl 3 rfl) ?_
  refine lv_iconst (v := (1 : Int32)) hx hb dL_law_1444 (by decide) ?_
  refine lv_iadd hx hb dL_law_1445 ?_
  refine xr_scr h hX hI hXs dL_law_1446 (fun h => ?_)
  refine lv_aload_n hx hb dL_law_1447 rfl (lv_at hl 0 rfl) ?_
  refine lv_iload_n hx hb dL_law_1448 rfl (lv_at hl 3 rfl) ?_
  refine lv_iconst (v := (2 : Int32)) hx hb dL_law_1449 (by decide) ?_
  refine lv_iadd hx hb dL_law_1450 ?_
  refine xr_scr h hX hI hXs dL_law_1451 (fun h => ?_)
  refine lv_if_eq (tgt := 1459) hx hb dL_law_1452 (by decide) (fun hc => ?_) (fun hc => ?_)
  · have h := xif_t h hc
    refine lv_iconst (v := (0 : Int32)) hx hb dL_law_1459 (by decide) ?_
    exact w_law_b1460 hX hXs hl0 hrec18 h hI (lv_sub hl [0, 1, 2, 3] rfl)
  · have h := xif_f h hc
    refine lv_iconst (v := (1 : Int32)) hx hb dL_law_1455 (by decide) ?_
    refine lv_goto (tgt := 1460) hx hb dL_law_1456 (by decide) ?_
    exact w_law_b1460 hX hXs hl0 hrec18 h hI (lv_sub hl [0, 1, 2, 3] rfl)
theorem w_law_b1414 {L b : Nat} {xs : Nat → Int32} {rec18 : Nat → Nat → Int32 → xM Int32} {a1 : Nat} {a2 : Nat} {a3 : Int32} (hX : xX E room_1 p m c code 8 s #[Value.ref b] "PayMatchLaw" meth.name meth (some .boolean) 16 10275 σ0 σ9) (hXs : va_X b L xs s s.heap ∧ b < s.heap.size ∧ s.heap.size ≤ E.2.2) (hl0 : l.stackTraces = false) (hrec18 : ∀ (a1 : Nat) (a2 : Nat) (a3 : Int32) (σ : xS) (H : Heap) (locs : List Loc) (cells slots : Nat) (ls : Array Slot), (rec18 a1 a2 a3).1 σ = some ((1 : Int32), σ9) → xI E σ0 σ s H locs cells slots → lv_has ls 8 [(0, .ref b), (1, .ref a1), (2, .ref a2), (3, .int a3)] → W p l e room_1 s m #[Value.ref b] below meth c H locs cells slots (lw_Z below #[Value.ref b] s) (F0 m 18 ls []))
    (h : (f_law_b1414 L xs rec18 a1 a2 a3).1 σ = some ((1 : Int32), σ9)) (hI : xI E σ0 σ s H locs cells slots) (hl : lv_has ls 8 [(0, .ref b), (1, .ref a1), (2, .ref a2), (3, .int a3)]) : W p l e room_1 s m #[Value.ref b] below meth c H locs cells slots (lw_Z below #[Value.ref b] s) (F0 m 1414 ls []) := by
  have hx := hX.1.1
  have hb := hX.1.2.1
  delta f_law_b1414 at h
  refine lv_aload_n hx hb dL_law_1414 rfl (lv_at hl 1 rfl) ?_
  refine lv_aload_n hx hb dL_law_1415 rfl (lv_at hl 0 rfl) ?_
  refine lv_iload_n hx hb dL_law_1416 rfl (lv_at hl 3 rfl) ?_
  refine lv_iconst (v := (1 : Int32)) hx hb dL_law_1417 (by decide) ?_
  refine lv_iadd hx hb dL_law_1418 ?_
  refine xr_scr h hX hI hXs dL_law_1419 (fun h => ?_)
  refine lv_aload_n hx hb dL_law_1420 rfl (lv_at hl 0 rfl) ?_
  refine lv_iload_n hx hb dL_law_1421 rfl (lv_at hl 3 rfl) ?_
  refine lv_iconst (v := (2 : Int32)) hx hb dL_law_1422 (by decide) ?_
  refine lv_iadd hx hb dL_law_1423 ?_
  refine xr_scr h hX hI hXs dL_law_1424 (fun h => ?_)
  refine lv_if_eq (tgt := 1432) hx hb dL_law_1425 (by decide) (fun hc => ?_) (fun hc => ?_)
  · have h := xif_t h hc
    refine lv_iconst (v := (0 : Int32)) hx hb dL_law_1432 (by decide) ?_
    exact w_law_b1433 hX hXs hl0 hrec18 h hI (lv_sub hl [0, 1, 2, 3] rfl)
  · have h := xif_f h hc
    refine lv_iconst (v := (1 : Int32)) hx hb dL_law_1428 (by decide) ?_
    refine lv_goto (tgt := 1433) hx hb dL_law_1429 (by decide) ?_
    exact w_law_b1433 hX hXs hl0 hrec18 h hI (lv_sub hl [0, 1, 2, 3] rfl)
theorem w_law_b1473 {L b : Nat} {xs : Nat → Int32} {rec18 : Nat → Nat → Int32 → xM Int32} {a1 : Nat} {a2 : Nat} {a3 : Int32} (hX : xX E room_1 p m c code 8 s #[Value.ref b] "PayMatchLaw" meth.name meth (some .boolean) 16 10275 σ0 σ9) (hXs : va_X b L xs s s.heap ∧ b < s.heap.size ∧ s.heap.size ≤ E.2.2) (hl0 : l.stackTraces = false) (hrec18 : ∀ (a1 : Nat) (a2 : Nat) (a3 : Int32) (σ : xS) (H : Heap) (locs : List Loc) (cells slots : Nat) (ls : Array Slot), (rec18 a1 a2 a3).1 σ = some ((1 : Int32), σ9) → xI E σ0 σ s H locs cells slots → lv_has ls 8 [(0, .ref b), (1, .ref a1), (2, .ref a2), (3, .int a3)] → W p l e room_1 s m #[Value.ref b] below meth c H locs cells slots (lw_Z below #[Value.ref b] s) (F0 m 18 ls []))
    (h : (f_law_b1473 L xs rec18 a1 a2 a3).1 σ = some ((1 : Int32), σ9)) (hI : xI E σ0 σ s H locs cells slots) (hl : lv_has ls 8 [(0, .ref b), (1, .ref a1), (2, .ref a2), (3, .int a3)]) : W p l e room_1 s m #[Value.ref b] below meth c H locs cells slots (lw_Z below #[Value.ref b] s) (F0 m 1473 ls []) := by
  have hx := hX.1.1
  have hb := hX.1.2.1
  delta f_law_b1473 at h
  refine lv_aload_n hx hb dL_law_1473 rfl (lv_at hl 1 rfl) ?_
  refine lv_aload_n hx hb dL_law_1474 rfl (lv_at hl 0 rfl) ?_
  refine lv_iload_n hx hb dL_law_1475 rfl (lv_at hl 3 rfl) ?_
  refine lv_iconst (v := (1 : Int32)) hx hb dL_law_1476 (by decide) ?_
  refine lv_iadd hx hb dL_law_1477 ?_
  refine xr_scr h hX hI hXs dL_law_1478 (fun h => ?_)
  refine lv_aload_n hx hb dL_law_1479 rfl (lv_at hl 0 rfl) ?_
  refine lv_iload_n hx hb dL_law_1480 rfl (lv_at hl 3 rfl) ?_
  refine lv_iconst (v := (2 : Int32)) hx hb dL_law_1481 (by decide) ?_
  refine lv_iadd hx hb dL_law_1482 ?_
  refine xr_scr h hX hI hXs dL_law_1483 (fun h => ?_)
  refine xr_callV (iv := (fun b => some (.int b))) (As := [.int (xs (a3 + (1 : Int32)).toNatClampNeg), .int (xs (a3 + (2 : Int32)).toNatClampNeg)]) (rest := []) h hX hI (fun _ _ h => w_X0_event h) (fun _ _ h => o_X0_event h) rfl 2 (lw_V q1939 q1940 q1941 q74 q1942) ⟨rfl, xd_X0_event⟩ ⟨rfl, rfl⟩ rfl hl.1 (Nat.le_of_ble_eq_true rfl) dL_law_1484 (fun v223 H locs σ cells slots h hI => ?_)
  refine W.eq (g2 := F0 m 1487 ls [.int v223]) rfl ?_
  refine lv_aload_n hx hb dL_law_1487 rfl (lv_at hl 2 rfl) ?_
  refine lv_aload_n hx hb dL_law_1488 rfl (lv_at hl 0 rfl) ?_
  refine lv_iload_n hx hb dL_law_1489 rfl (lv_at hl 3 rfl) ?_
  refine lv_iconst (v := (1 : Int32)) hx hb dL_law_1490 (by decide) ?_
  refine lv_iadd hx hb dL_law_1491 ?_
  refine xr_scr h hX hI hXs dL_law_1492 (fun h => ?_)
  refine lv_aload_n hx hb dL_law_1493 rfl (lv_at hl 0 rfl) ?_
  refine lv_iload_n hx hb dL_law_1494 rfl (lv_at hl 3 rfl) ?_
  refine lv_iconst (v := (2 : Int32)) hx hb dL_law_1495 (by decide) ?_
  refine lv_iadd hx hb dL_law_1496 ?_
  refine xr_scr h hX hI hXs dL_law_1497 (fun h => ?_)
  refine xr_callV (iv := (fun b => some (.int b))) (As := [.int (xs (a3 + (1 : Int32)).toNatClampNeg), .int (xs (a3 + (2 : Int32)).toNatClampNeg)]) (rest := [.int v223]) h hX hI (fun _ _ h => w_X3_event h) (fun _ _ h => o_X3_event h) rfl 2 (lw_V q2351 q2352 q2353 q87 q2354) ⟨rfl, xd_X3_event⟩ ⟨rfl, rfl⟩ rfl hl.1 (Nat.le_of_ble_eq_true rfl) dL_law_1498 (fun v226 H locs σ cells slots h hI => ?_)
  refine W.eq (g2 := F0 m 1501 ls [.int v226, .int v223]) rfl ?_
  refine lv_icmp_eq (tgt := 1529) hx hb dL_law_1501 (by decide) (fun hc => ?_) (fun hc => ?_)
  · have h := xif_t h hc
    exact w_law_b1529 hX hXs hl0 hrec18 h hI (lv_sub hl [0, 1, 2, 3] rfl)
  · have h := xif_f h hc
    refine lv_iconst (v := (0 : Int32)) hx hb dL_law_1504 (by decide) ?_
    exact xr_lawret h hX hI hXs dL_law_1505
theorem w_law_b1506 {L b : Nat} {xs : Nat → Int32} {rec18 : Nat → Nat → Int32 → xM Int32} {a1 : Nat} {a2 : Nat} {a3 : Int32} (hX : xX E room_1 p m c code 8 s #[Value.ref b] "PayMatchLaw" meth.name meth (some .boolean) 16 10275 σ0 σ9) (hXs : va_X b L xs s s.heap ∧ b < s.heap.size ∧ s.heap.size ≤ E.2.2) (hl0 : l.stackTraces = false) (hrec18 : ∀ (a1 : Nat) (a2 : Nat) (a3 : Int32) (σ : xS) (H : Heap) (locs : List Loc) (cells slots : Nat) (ls : Array Slot), (rec18 a1 a2 a3).1 σ = some ((1 : Int32), σ9) → xI E σ0 σ s H locs cells slots → lv_has ls 8 [(0, .ref b), (1, .ref a1), (2, .ref a2), (3, .int a3)] → W p l e room_1 s m #[Value.ref b] below meth c H locs cells slots (lw_Z below #[Value.ref b] s) (F0 m 18 ls []))
    (h : (f_law_b1506 L xs rec18 a1 a2 a3).1 σ = some ((1 : Int32), σ9)) (hI : xI E σ0 σ s H locs cells slots) (hl : lv_has ls 8 [(0, .ref b), (1, .ref a1), (2, .ref a2), (3, .int a3)]) : W p l e room_1 s m #[Value.ref b] below meth c H locs cells slots (lw_Z below #[Value.ref b] s) (F0 m 1506 ls []) := by
  have hx := hX.1.1
  have hb := hX.1.2.1
  delta f_law_b1506 at h
  refine lv_aload_n hx hb dL_law_1506 rfl (lv_at hl 1 rfl) ?_
  refine lv_aload_n hx hb dL_law_1507 rfl (lv_at hl 0 rfl) ?_
  refine lv_iload_n hx hb dL_law_1508 rfl (lv_at hl 3 rfl) ?_
  refine lv_iconst (v := (1 : Int32)) hx hb dL_law_1509 (by decide) ?_
  refine lv_iadd hx hb dL_law_1510 ?_
  refine xr_scr h hX hI hXs dL_law_1511 (fun h => ?_)
  refine xr_callV (iv := (fun b => some (.int b))) (As := [.int (xs (a3 + (1 : Int32)).toNatClampNeg)]) (rest := []) h hX hI (fun _ _ h => w_X0_count h) (fun _ _ h => o_X0_count h) rfl 1 (lw_V q1950 q1951 q1952 q74 q1953) ⟨rfl, xd_X0_count⟩ ⟨rfl, rfl⟩ rfl hl.1 (Nat.le_of_ble_eq_true rfl) dL_law_1512 (fun v218 H locs σ cells slots h hI => ?_)
  refine W.eq (g2 := F0 m 1515 ls [.int v218]) rfl ?_
  refine lv_aload_n hx hb dL_law_1515 rfl (lv_at hl 2 rfl) ?_
  refine lv_aload_n hx hb dL_law_1516 rfl (lv_at hl 0 rfl) ?_
  refine lv_iload_n hx hb dL_law_1517 rfl (lv_at hl 3 rfl) ?_
  refine lv_iconst (v := (1 : Int32)) hx hb dL_law_1518 (by decide) ?_
  refine lv_iadd hx hb dL_law_1519 ?_
  refine xr_scr h hX hI hXs dL_law_1520 (fun h => ?_)
  refine xr_callV (iv := (fun b => some (.int b))) (As := [.int (xs (a3 + (1 : Int32)).toNatClampNeg)]) (rest := [.int v218]) h hX hI (fun _ _ h => w_X3_count h) (fun _ _ h => o_X3_count h) rfl 1 (lw_V q2355 q2356 q2357 q87 q2358) ⟨rfl, xd_X3_count⟩ ⟨rfl, rfl⟩ rfl hl.1 (Nat.le_of_ble_eq_true rfl) dL_law_1521 (fun v220 H locs σ cells slots h hI => ?_)
  refine W.eq (g2 := F0 m 1524 ls [.int v220, .int v218]) rfl ?_
  refine lv_icmp_eq (tgt := 1529) hx hb dL_law_1524 (by decide) (fun hc => ?_) (fun hc => ?_)
  · have h := xif_t h hc
    exact w_law_b1529 hX hXs hl0 hrec18 h hI (lv_sub hl [0, 1, 2, 3] rfl)
  · have h := xif_f h hc
    refine lv_iconst (v := (0 : Int32)) hx hb dL_law_1527 (by decide) ?_
    exact xr_lawret h hX hI hXs dL_law_1528
theorem w_law_b18 {L b : Nat} {xs : Nat → Int32} {rec18 : Nat → Nat → Int32 → xM Int32} {a1 : Nat} {a2 : Nat} {a3 : Int32} (hX : xX E room_1 p m c code 8 s #[Value.ref b] "PayMatchLaw" meth.name meth (some .boolean) 16 10275 σ0 σ9) (hXs : va_X b L xs s s.heap ∧ b < s.heap.size ∧ s.heap.size ≤ E.2.2) (hl0 : l.stackTraces = false) (hrec18 : ∀ (a1 : Nat) (a2 : Nat) (a3 : Int32) (σ : xS) (H : Heap) (locs : List Loc) (cells slots : Nat) (ls : Array Slot), (rec18 a1 a2 a3).1 σ = some ((1 : Int32), σ9) → xI E σ0 σ s H locs cells slots → lv_has ls 8 [(0, .ref b), (1, .ref a1), (2, .ref a2), (3, .int a3)] → W p l e room_1 s m #[Value.ref b] below meth c H locs cells slots (lw_Z below #[Value.ref b] s) (F0 m 18 ls []))
    (h : (f_law_b18 L xs rec18 a1 a2 a3).1 σ = some ((1 : Int32), σ9)) (hI : xI E σ0 σ s H locs cells slots) (hl : lv_has ls 8 [(0, .ref b), (1, .ref a1), (2, .ref a2), (3, .int a3)]) : W p l e room_1 s m #[Value.ref b] below meth c H locs cells slots (lw_Z below #[Value.ref b] s) (F0 m 18 ls []) := by
  have hx := hX.1.1
  have hb := hX.1.2.1
  delta f_law_b18 at h
  refine lv_iload_n hx hb dL_law_18 rfl (lv_at hl 3 rfl) ?_
  refine lv_aload_n hx hb dL_law_19 rfl (lv_at hl 0 rfl) ?_
  refine xr_scl hX hI hXs dL_law_20 ?_
  refine lv_bipush (v := (6 : Int32)) hx hb dL_law_21 (by decide) ?_
  refine lv_isub hx hb dL_law_23 ?_
  refine lv_icmp_gt (tgt := 1535) hx hb dL_law_24 (by decide) (fun hc => ?_) (fun hc => ?_)
  · have h := xif_t h hc
    refine lv_iconst (v := (1 : Int32)) hx hb dL_law_1535 (by decide) ?_
    exact xr_lawret h hX hI hXs dL_law_1536
  · have h := xif_f h hc
    refine lv_aload_n hx hb dL_law_27 rfl (lv_at hl 0 rfl) ?_
    refine lv_iload_n hx hb dL_law_28 rfl (lv_at hl 3 rfl) ?_
    refine xr_scr h hX hI hXs dL_law_29 (fun h => ?_)
    refine lv_bipush (v := (63 : Int32)) hx hb dL_law_30 (by decide) ?_
    refine lv_iand hx hb dL_law_32 ?_
    refine xif h (fun hc0 h => ?_) (fun hc0 h => ?_)
    · refine W.eq (g2 := F0 m 33 ls (.int (0 : Int32) :: [])) (by rw [hc0]) ?_
      refine lv_tableIn (tgt := 196) (off := 163) hx hb dL_law_33 (by decide) (by decide) (by decide) (by decide) ?_
      exact w_law_b196 hX hXs hl0 hrec18 h hI (lv_sub hl [0, 1, 2, 3] rfl)
    · refine xif h (fun hc1 h => ?_) (fun hc1 h => ?_)
      · refine W.eq (g2 := F0 m 33 ls (.int (1 : Int32) :: [])) (by rw [hc1]) ?_
        refine lv_tableIn (tgt := 209) (off := 176) hx hb dL_law_33 (by decide) (by decide) (by decide) (by decide) ?_
        exact w_law_b209 hX hXs hl0 hrec18 h hI (lv_sub hl [0, 1, 2, 3] rfl)
      · refine xif h (fun hc2 h => ?_) (fun hc2 h => ?_)
        · refine W.eq (g2 := F0 m 33 ls (.int (2 : Int32) :: [])) (by rw [hc2]) ?_
          refine lv_tableIn (tgt := 298) (off := 265) hx hb dL_law_33 (by decide) (by decide) (by decide) (by decide) ?_
          exact w_law_b298 hX hXs hl0 hrec18 h hI (lv_sub hl [0, 1, 2, 3] rfl)
        · refine xif h (fun hc3 h => ?_) (fun hc3 h => ?_)
          · refine W.eq (g2 := F0 m 33 ls (.int (3 : Int32) :: [])) (by rw [hc3]) ?_
            refine lv_tableIn (tgt := 331) (off := 298) hx hb dL_law_33 (by decide) (by decide) (by decide) (by decide) ?_
            exact w_law_b331 hX hXs hl0 hrec18 h hI (lv_sub hl [0, 1, 2, 3] rfl)
          · refine xif h (fun hc4 h => ?_) (fun hc4 h => ?_)
            · refine W.eq (g2 := F0 m 33 ls (.int (4 : Int32) :: [])) (by rw [hc4]) ?_
              refine lv_tableIn (tgt := 380) (off := 347) hx hb dL_law_33 (by decide) (by decide) (by decide) (by decide) ?_
              exact w_law_b380 hX hXs hl0 hrec18 h hI (lv_sub hl [0, 1, 2, 3] rfl)
            · refine xif h (fun hc5 h => ?_) (fun hc5 h => ?_)
              · refine W.eq (g2 := F0 m 33 ls (.int (5 : Int32) :: [])) (by rw [hc5]) ?_
                refine lv_tableIn (tgt := 433) (off := 400) hx hb dL_law_33 (by decide) (by decide) (by decide) (by decide) ?_
                exact w_law_b433 hX hXs hl0 hrec18 h hI (lv_sub hl [0, 1, 2, 3] rfl)
              · refine xif h (fun hc6 h => ?_) (fun hc6 h => ?_)
                · refine W.eq (g2 := F0 m 33 ls (.int (6 : Int32) :: [])) (by rw [hc6]) ?_
                  refine lv_tableIn (tgt := 466) (off := 433) hx hb dL_law_33 (by decide) (by decide) (by decide) (by decide) ?_
                  exact w_law_b466 hX hXs hl0 hrec18 h hI (lv_sub hl [0, 1, 2, 3] rfl)
                · refine xif h (fun hc7 h => ?_) (fun hc7 h => ?_)
                  · refine W.eq (g2 := F0 m 33 ls (.int (7 : Int32) :: [])) (by rw [hc7]) ?_
                    refine lv_tableIn (tgt := 489) (off := 456) hx hb dL_law_33 (by decide) (by decide) (by decide) (by decide) ?_
                    exact w_law_b489 hX hXs hl0 hrec18 h hI (lv_sub hl [0, 1, 2, 3] rfl)
                  · refine xif h (fun hc8 h => ?_) (fun hc8 h => ?_)
                    · refine W.eq (g2 := F0 m 33 ls (.int (8 : Int32) :: [])) (by rw [hc8]) ?_
                      refine lv_tableIn (tgt := 542) (off := 509) hx hb dL_law_33 (by decide) (by decide) (by decide) (by decide) ?_
                      exact w_law_b542 hX hXs hl0 hrec18 h hI (lv_sub hl [0, 1, 2, 3] rfl)
                    · refine xif h (fun hc9 h => ?_) (fun hc9 h => ?_)
                      · refine W.eq (g2 := F0 m 33 ls (.int (9 : Int32) :: [])) (by rw [hc9]) ?_
                        refine lv_tableIn (tgt := 595) (off := 562) hx hb dL_law_33 (by decide) (by decide) (by decide) (by decide) ?_
                        exact w_law_b595 hX hXs hl0 hrec18 h hI (lv_sub hl [0, 1, 2, 3] rfl)
                      · refine xif h (fun hc10 h => ?_) (fun hc10 h => ?_)
                        · refine W.eq (g2 := F0 m 33 ls (.int (10 : Int32) :: [])) (by rw [hc10]) ?_
                          refine lv_tableIn (tgt := 618) (off := 585) hx hb dL_law_33 (by decide) (by decide) (by decide) (by decide) ?_
                          exact w_law_b618 hX hXs hl0 hrec18 h hI (lv_sub hl [0, 1, 2, 3] rfl)
                        · refine xif h (fun hc11 h => ?_) (fun hc11 h => ?_)
                          · refine W.eq (g2 := F0 m 33 ls (.int (11 : Int32) :: [])) (by rw [hc11]) ?_
                            refine lv_tableIn (tgt := 641) (off := 608) hx hb dL_law_33 (by decide) (by decide) (by decide) (by decide) ?_
                            exact w_law_b641 hX hXs hl0 hrec18 h hI (lv_sub hl [0, 1, 2, 3] rfl)
                          · refine xif h (fun hc12 h => ?_) (fun hc12 h => ?_)
                            · refine W.eq (g2 := F0 m 33 ls (.int (12 : Int32) :: [])) (by rw [hc12]) ?_
                              refine lv_tableIn (tgt := 694) (off := 661) hx hb dL_law_33 (by decide) (by decide) (by decide) (by decide) ?_
                              exact w_law_b694 hX hXs hl0 hrec18 h hI (lv_sub hl [0, 1, 2, 3] rfl)
                            · refine xif h (fun hc13 h => ?_) (fun hc13 h => ?_)
                              · refine W.eq (g2 := F0 m 33 ls (.int (13 : Int32) :: [])) (by rw [hc13]) ?_
                                refine lv_tableIn (tgt := 737) (off := 704) hx hb dL_law_33 (by decide) (by decide) (by decide) (by decide) ?_
                                exact w_law_b737 hX hXs hl0 hrec18 h hI (lv_sub hl [0, 1, 2, 3] rfl)
                              · refine xif h (fun hc14 h => ?_) (fun hc14 h => ?_)
                                · refine W.eq (g2 := F0 m 33 ls (.int (14 : Int32) :: [])) (by rw [hc14]) ?_
                                  refine lv_tableIn (tgt := 800) (off := 767) hx hb dL_law_33 (by decide) (by decide) (by decide) (by decide) ?_
                                  exact w_law_b800 hX hXs hl0 hrec18 h hI (lv_sub hl [0, 1, 2, 3] rfl)
                                · refine xif h (fun hc15 h => ?_) (fun hc15 h => ?_)
                                  · refine W.eq (g2 := F0 m 33 ls (.int (15 : Int32) :: [])) (by rw [hc15]) ?_
                                    refine lv_tableIn (tgt := 813) (off := 780) hx hb dL_law_33 (by decide) (by decide) (by decide) (by decide) ?_
                                    exact w_law_b813 hX hXs hl0 hrec18 h hI (lv_sub hl [0, 1, 2, 3] rfl)
                                  · refine xif h (fun hc16 h => ?_) (fun hc16 h => ?_)
                                    · refine W.eq (g2 := F0 m 33 ls (.int (16 : Int32) :: [])) (by rw [hc16]) ?_
                                      refine lv_tableIn (tgt := 836) (off := 803) hx hb dL_law_33 (by decide) (by decide) (by decide) (by decide) ?_
                                      exact w_law_b836 hX hXs hl0 hrec18 h hI (lv_sub hl [0, 1, 2, 3] rfl)
                                    · refine xif h (fun hc17 h => ?_) (fun hc17 h => ?_)
                                      · refine W.eq (g2 := F0 m 33 ls (.int (17 : Int32) :: [])) (by rw [hc17]) ?_
                                        refine lv_tableIn (tgt := 859) (off := 826) hx hb dL_law_33 (by decide) (by decide) (by decide) (by decide) ?_
                                        exact w_law_b859 hX hXs hl0 hrec18 h hI (lv_sub hl [0, 1, 2, 3] rfl)
                                      · refine xif h (fun hc18 h => ?_) (fun hc18 h => ?_)
                                        · refine W.eq (g2 := F0 m 33 ls (.int (18 : Int32) :: [])) (by rw [hc18]) ?_
                                          refine lv_tableIn (tgt := 882) (off := 849) hx hb dL_law_33 (by decide) (by decide) (by decide) (by decide) ?_
                                          exact w_law_b882 hX hXs hl0 hrec18 h hI (lv_sub hl [0, 1, 2, 3] rfl)
                                        · refine xif h (fun hc19 h => ?_) (fun hc19 h => ?_)
                                          · refine W.eq (g2 := F0 m 33 ls (.int (19 : Int32) :: [])) (by rw [hc19]) ?_
                                            refine lv_tableIn (tgt := 905) (off := 872) hx hb dL_law_33 (by decide) (by decide) (by decide) (by decide) ?_
                                            exact w_law_b905 hX hXs hl0 hrec18 h hI (lv_sub hl [0, 1, 2, 3] rfl)
                                          · refine xif h (fun hc20 h => ?_) (fun hc20 h => ?_)
                                            · refine W.eq (g2 := F0 m 33 ls (.int (20 : Int32) :: [])) (by rw [hc20]) ?_
                                              refine lv_tableIn (tgt := 928) (off := 895) hx hb dL_law_33 (by decide) (by decide) (by decide) (by decide) ?_
                                              exact w_law_b928 hX hXs hl0 hrec18 h hI (lv_sub hl [0, 1, 2, 3] rfl)
                                            · refine xif h (fun hc21 h => ?_) (fun hc21 h => ?_)
                                              · refine W.eq (g2 := F0 m 33 ls (.int (21 : Int32) :: [])) (by rw [hc21]) ?_
                                                refine lv_tableIn (tgt := 953) (off := 920) hx hb dL_law_33 (by decide) (by decide) (by decide) (by decide) ?_
                                                exact w_law_b953 hX hXs hl0 hrec18 h hI (lv_sub hl [0, 1, 2, 3] rfl)
                                              · refine xif h (fun hc22 h => ?_) (fun hc22 h => ?_)
                                                · refine W.eq (g2 := F0 m 33 ls (.int (22 : Int32) :: [])) (by rw [hc22]) ?_
                                                  refine lv_tableIn (tgt := 966) (off := 933) hx hb dL_law_33 (by decide) (by decide) (by decide) (by decide) ?_
                                                  exact w_law_b966 hX hXs hl0 hrec18 h hI (lv_sub hl [0, 1, 2, 3] rfl)
                                                · refine xif h (fun hc23 h => ?_) (fun hc23 h => ?_)
                                                  · refine W.eq (g2 := F0 m 33 ls (.int (23 : Int32) :: [])) (by rw [hc23]) ?_
                                                    refine lv_tableIn (tgt := 979) (off := 946) hx hb dL_law_33 (by decide) (by decide) (by decide) (by decide) ?_
                                                    exact w_law_b979 hX hXs hl0 hrec18 h hI (lv_sub hl [0, 1, 2, 3] rfl)
                                                  · refine xif h (fun hc24 h => ?_) (fun hc24 h => ?_)
                                                    · refine W.eq (g2 := F0 m 33 ls (.int (24 : Int32) :: [])) (by rw [hc24]) ?_
                                                      refine lv_tableIn (tgt := 992) (off := 959) hx hb dL_law_33 (by decide) (by decide) (by decide) (by decide) ?_
                                                      exact w_law_b992 hX hXs hl0 hrec18 h hI (lv_sub hl [0, 1, 2, 3] rfl)
                                                    · refine xif h (fun hc25 h => ?_) (fun hc25 h => ?_)
                                                      · refine W.eq (g2 := F0 m 33 ls (.int (25 : Int32) :: [])) (by rw [hc25]) ?_
                                                        refine lv_tableIn (tgt := 1005) (off := 972) hx hb dL_law_33 (by decide) (by decide) (by decide) (by decide) ?_
                                                        exact w_law_b1005 hX hXs hl0 hrec18 h hI (lv_sub hl [0, 1, 2, 3] rfl)
                                                      · refine xif h (fun hc26 h => ?_) (fun hc26 h => ?_)
                                                        · refine W.eq (g2 := F0 m 33 ls (.int (26 : Int32) :: [])) (by rw [hc26]) ?_
                                                          refine lv_tableIn (tgt := 1038) (off := 1005) hx hb dL_law_33 (by decide) (by decide) (by decide) (by decide) ?_
                                                          exact w_law_b1038 hX hXs hl0 hrec18 h hI (lv_sub hl [0, 1, 2, 3] rfl)
                                                        · refine xif h (fun hc27 h => ?_) (fun hc27 h => ?_)
                                                          · refine W.eq (g2 := F0 m 33 ls (.int (27 : Int32) :: [])) (by rw [hc27]) ?_
                                                            refine lv_tableIn (tgt := 1115) (off := 1082) hx hb dL_law_33 (by decide) (by decide) (by decide) (by decide) ?_
                                                            exact w_law_b1115 hX hXs hl0 hrec18 h hI (lv_sub hl [0, 1, 2, 3] rfl)
                                                          · refine xif h (fun hc28 h => ?_) (fun hc28 h => ?_)
                                                            · refine W.eq (g2 := F0 m 33 ls (.int (28 : Int32) :: [])) (by rw [hc28]) ?_
                                                              refine lv_tableIn (tgt := 1148) (off := 1115) hx hb dL_law_33 (by decide) (by decide) (by decide) (by decide) ?_
                                                              exact w_law_b1148 hX hXs hl0 hrec18 h hI (lv_sub hl [0, 1, 2, 3] rfl)
                                                            · refine xif h (fun hc29 h => ?_) (fun hc29 h => ?_)
                                                              · refine W.eq (g2 := F0 m 33 ls (.int (29 : Int32) :: [])) (by rw [hc29]) ?_
                                                                refine lv_tableIn (tgt := 1191) (off := 1158) hx hb dL_law_33 (by decide) (by decide) (by decide) (by decide) ?_
                                                                exact w_law_b1191 hX hXs hl0 hrec18 h hI (lv_sub hl [0, 1, 2, 3] rfl)
                                                              · refine xif h (fun hc30 h => ?_) (fun hc30 h => ?_)
                                                                · refine W.eq (g2 := F0 m 33 ls (.int (30 : Int32) :: [])) (by rw [hc30]) ?_
                                                                  refine lv_tableIn (tgt := 1224) (off := 1191) hx hb dL_law_33 (by decide) (by decide) (by decide) (by decide) ?_
                                                                  exact w_law_b1224 hX hXs hl0 hrec18 h hI (lv_sub hl [0, 1, 2, 3] rfl)
                                                                · refine xif h (fun hc31 h => ?_) (fun hc31 h => ?_)
                                                                  · refine W.eq (g2 := F0 m 33 ls (.int (31 : Int32) :: [])) (by rw [hc31]) ?_
                                                                    refine lv_tableIn (tgt := 1267) (off := 1234) hx hb dL_law_33 (by decide) (by decide) (by decide) (by decide) ?_
                                                                    exact w_law_b1267 hX hXs hl0 hrec18 h hI (lv_sub hl [0, 1, 2, 3] rfl)
                                                                  · refine xif h (fun hc32 h => ?_) (fun hc32 h => ?_)
                                                                    · refine W.eq (g2 := F0 m 33 ls (.int (32 : Int32) :: [])) (by rw [hc32]) ?_
                                                                      refine lv_tableIn (tgt := 1320) (off := 1287) hx hb dL_law_33 (by decide) (by decide) (by decide) (by decide) ?_
                                                                      exact w_law_b1320 hX hXs hl0 hrec18 h hI (lv_sub hl [0, 1, 2, 3] rfl)
                                                                    · refine xif h (fun hc33 h => ?_) (fun hc33 h => ?_)
                                                                      · refine W.eq (g2 := F0 m 33 ls (.int (33 : Int32) :: [])) (by rw [hc33]) ?_
                                                                        refine lv_tableIn (tgt := 1363) (off := 1330) hx hb dL_law_33 (by decide) (by decide) (by decide) (by decide) ?_
                                                                        exact w_law_b1363 hX hXs hl0 hrec18 h hI (lv_sub hl [0, 1, 2, 3] rfl)
                                                                      · refine xif h (fun hc34 h => ?_) (fun hc34 h => ?_)
                                                                        · refine W.eq (g2 := F0 m 33 ls (.int (34 : Int32) :: [])) (by rw [hc34]) ?_
                                                                          refine lv_tableIn (tgt := 1414) (off := 1381) hx hb dL_law_33 (by decide) (by decide) (by decide) (by decide) ?_
                                                                          exact w_law_b1414 hX hXs hl0 hrec18 h hI (lv_sub hl [0, 1, 2, 3] rfl)
                                                                        · refine xif h (fun hc35 h => ?_) (fun hc35 h => ?_)
                                                                          · refine W.eq (g2 := F0 m 33 ls (.int (35 : Int32) :: [])) (by rw [hc35]) ?_
                                                                            refine lv_tableIn (tgt := 1473) (off := 1440) hx hb dL_law_33 (by decide) (by decide) (by decide) (by decide) ?_
                                                                            exact w_law_b1473 hX hXs hl0 hrec18 h hI (lv_sub hl [0, 1, 2, 3] rfl)
                                                                          · refine xif h (fun hc36 h => ?_) (fun hc36 h => ?_)
                                                                            · refine W.eq (g2 := F0 m 33 ls (.int (36 : Int32) :: [])) (by rw [hc36]) ?_
                                                                              refine lv_tableIn (tgt := 1506) (off := 1473) hx hb dL_law_33 (by decide) (by decide) (by decide) (by decide) ?_
                                                                              exact w_law_b1506 hX hXs hl0 hrec18 h hI (lv_sub hl [0, 1, 2, 3] rfl)
                                                                            · refine lv_tableOut (tgt := 1529) hx hb dL_law_33 (xtblo (L := [(0 : Int32), (1 : Int32), (2 : Int32), (3 : Int32), (4 : Int32), (5 : Int32), (6 : Int32), (7 : Int32), (8 : Int32), (9 : Int32), (10 : Int32), (11 : Int32), (12 : Int32), (13 : Int32), (14 : Int32), (15 : Int32), (16 : Int32), (17 : Int32), (18 : Int32), (19 : Int32), (20 : Int32), (21 : Int32), (22 : Int32), (23 : Int32), (24 : Int32), (25 : Int32), (26 : Int32), (27 : Int32), (28 : Int32), (29 : Int32), (30 : Int32), (31 : Int32), (32 : Int32), (33 : Int32), (34 : Int32), (35 : Int32), (36 : Int32)]) (by decide) (by decide) (List.forall_mem_cons.mpr ⟨hc0, (List.forall_mem_cons.mpr ⟨hc1, (List.forall_mem_cons.mpr ⟨hc2, (List.forall_mem_cons.mpr ⟨hc3, (List.forall_mem_cons.mpr ⟨hc4, (List.forall_mem_cons.mpr ⟨hc5, (List.forall_mem_cons.mpr ⟨hc6, (List.forall_mem_cons.mpr ⟨hc7, (List.forall_mem_cons.mpr ⟨hc8, (List.forall_mem_cons.mpr ⟨hc9, (List.forall_mem_cons.mpr ⟨hc10, (List.forall_mem_cons.mpr ⟨hc11, (List.forall_mem_cons.mpr ⟨hc12, (List.forall_mem_cons.mpr ⟨hc13, (List.forall_mem_cons.mpr ⟨hc14, (List.forall_mem_cons.mpr ⟨hc15, (List.forall_mem_cons.mpr ⟨hc16, (List.forall_mem_cons.mpr ⟨hc17, (List.forall_mem_cons.mpr ⟨hc18, (List.forall_mem_cons.mpr ⟨hc19, (List.forall_mem_cons.mpr ⟨hc20, (List.forall_mem_cons.mpr ⟨hc21, (List.forall_mem_cons.mpr ⟨hc22, (List.forall_mem_cons.mpr ⟨hc23, (List.forall_mem_cons.mpr ⟨hc24, (List.forall_mem_cons.mpr ⟨hc25, (List.forall_mem_cons.mpr ⟨hc26, (List.forall_mem_cons.mpr ⟨hc27, (List.forall_mem_cons.mpr ⟨hc28, (List.forall_mem_cons.mpr ⟨hc29, (List.forall_mem_cons.mpr ⟨hc30, (List.forall_mem_cons.mpr ⟨hc31, (List.forall_mem_cons.mpr ⟨hc32, (List.forall_mem_cons.mpr ⟨hc33, (List.forall_mem_cons.mpr ⟨hc34, (List.forall_mem_cons.mpr ⟨hc35, (List.forall_mem_cons.mpr ⟨hc36, (fun _ h => absurd h List.not_mem_nil)⟩)⟩)⟩)⟩)⟩)⟩)⟩)⟩)⟩)⟩)⟩)⟩)⟩)⟩)⟩)⟩)⟩)⟩)⟩)⟩)⟩)⟩)⟩)⟩)⟩)⟩)⟩)⟩)⟩)⟩)⟩)⟩)⟩)⟩)⟩)⟩)⟩)) (by decide) ?_
                                                                              exact w_law_b1529 hX hXs hl0 hrec18 h hI (lv_sub hl [0, 1, 2, 3] rfl)
theorem w_law_L18 {L b : Nat} {xs : Nat → Int32} (hX : xX E room_1 p m c code 8 s #[Value.ref b] "PayMatchLaw" meth.name meth (some .boolean) 16 10275 σ0 σ9) (hXs : va_X b L xs s s.heap ∧ b < s.heap.size ∧ s.heap.size ≤ E.2.2) (hl0 : l.stackTraces = false) : ∀ (n : Nat) (a1 : Nat) (a2 : Nat) (a3 : Int32) (σ : xS) (H : Heap) (locs : List Loc) (cells slots : Nat) (ls : Array Slot), (f_law_L18 L xs n a1 a2 a3).1 σ = some ((1 : Int32), σ9) → xI E σ0 σ s H locs cells slots → lv_has ls 8 [(0, .ref b), (1, .ref a1), (2, .ref a2), (3, .int a3)] → W p l e room_1 s m #[Value.ref b] below meth c H locs cells slots (lw_Z below #[Value.ref b] s) (F0 m 18 ls []) := by
  intro n
  induction n with
  | zero =>
    intro a1 a2 a3 σ H locs cells slots ls h
    exact xr_no h
  | succ n ih =>
    intro a1 a2 a3 σ H locs cells slots ls h hI hl
    exact w_law_b18 hX hXs hl0 ih h hI hl
theorem w_law {L b : Nat} {xs : Nat → Int32} (hX : xX E room_1 p m c code 8 s #[Value.ref b] "PayMatchLaw" meth.name meth (some .boolean) 16 10275 σ0 σ9) (hXs : va_X b L xs s s.heap ∧ b < s.heap.size ∧ s.heap.size ≤ E.2.2) (hl0 : l.stackTraces = false) (h : (f_law L xs).1 σ = some ((1 : Int32), σ9)) (hI : xI E σ0 σ s H locs cells slots) (hl : lv_has ls 8 [(0, .ref b)]) : W p l e room_1 s m #[Value.ref b] below meth c H locs cells slots (lw_Z below #[Value.ref b] s) (F0 m 0 ls []) := by
  have hx := hX.1.1
  have hb := hX.1.2.1
  delta f_law at h
  refine xr_nw h hX hI xn_L_7 dL_law_0 (fun v431 H σ cells slots h hI => ?_)
  refine lv_dup hx hb dL_law_3 rfl ?_
  refine xr_callI (As := []) (rest := [.ref v431]) h hX hI (fun _ _ h => w_X0_init h) 0 q119 q121 q74 q120 rfl xd_X0_init ⟨rfl, rfl⟩ rfl hl.1 (Nat.le_of_ble_eq_true rfl) dL_law_4 (fun _ H locs σ cells slots h hI => ?_)
  refine lv_astore_n (lv' := [(1, .ref v431), (0, .ref b)]) hx hb dL_law_7 rfl hl (Nat.le_of_ble_eq_true rfl) rfl (fun ls hl => ?_)
  refine xr_nw h hX hI xn_L_10 dL_law_8 (fun v432 H σ cells slots h hI => ?_)
  refine lv_dup hx hb dL_law_11 rfl ?_
  refine xr_callI (As := []) (rest := [.ref v432]) h hX hI (fun _ _ h => w_X3_init h) 0 q1965 q1967 q87 q1966 rfl xd_X3_init ⟨rfl, rfl⟩ rfl hl.1 (Nat.le_of_ble_eq_true rfl) dL_law_12 (fun _ H locs σ cells slots h hI => ?_)
  refine lv_astore_n (lv' := [(2, .ref v432), (1, .ref v431), (0, .ref b)]) hx hb dL_law_15 rfl hl (Nat.le_of_ble_eq_true rfl) rfl (fun ls hl => ?_)
  refine lv_iconst (v := (0 : Int32)) hx hb dL_law_16 (by decide) ?_
  refine lv_istore_n (lv' := [(3, .int (0 : Int32)), (2, .ref v432), (1, .ref v431), (0, .ref b)]) hx hb dL_law_17 rfl hl (Nat.le_of_ble_eq_true rfl) rfl (fun ls hl => ?_)
  exact w_law_L18 hX hXs hl0 xFU v431 v432 (0 : Int32) _ _ _ _ _ _ h hI (lv_sub hl [3, 2, 1, 0] rfl)
end
