/-! walks, printed by gen.py -/
set_option maxRecDepth 100000
section
variable {E : xE} {p : Program} {l : Launch} {e : Env} {R : Room} {s : State} {m : MethodId} {args : Array Value} {below : List Frame} {meth : Method} {c : Code} {H : Heap} {locs : List Loc} {cells slots : Nat} {ls : Array Slot} {σ0 σ σ9 : xS}
/-! PayMatch.match(I)I  -/
theorem w_X0_match_b67 {a0 : Nat} {a1 : Int32} {r : Int32} (hX : xX E R p m c cX0_match 5 s args RX0 "match" meth (some .int) 14 438 σ0 σ9)
    (h : (f_X0_match_b67 a0 a1).1 σ = some (r, σ9)) (hI : xI E σ0 σ s H locs cells slots) (hl : lv_has ls 5 [(0, .ref a0), (1, .int a1)]) : W p l e R s m args below meth c H locs cells slots (xMQ E below args s σ0 σ9 (some (.int r))) (F0 m 67 ls []) := by
  have hx := hX.1.1
  have hb := hX.1.2.1
  delta f_X0_match_b67 at h
  refine lv_aload_n hx hb dX0_match_67 rfl (lv_at hl 0 rfl) ?_
  refine xr_gN h hX hI xl_X0_22_0.g dX0_match_68 (fun v18 h => ?_)
  refine xr_callV (iv := (fun b => some (.ref b))) (As := []) (rest := []) h hX hI (fun _ _ h => w_X1_copy h) (fun _ _ h => o_X1_copy h) rfl 0 (lw_V q323 q324 q325 q75 q326) ⟨rfl, xd_X1_copy⟩ ⟨rfl, rfl⟩ rfl hl.1 (Nat.le_of_ble_eq_true rfl) dX0_match_71 (fun v19 H locs σ cells slots h hI => ?_)
  refine W.eq (g2 := F0 m 74 ls [.ref v19]) rfl ?_
  refine lv_astore_n (lv' := [(3, .ref v19), (0, .ref a0), (1, .int a1)]) hx hb dX0_match_74 rfl hl (Nat.le_of_ble_eq_true rfl) rfl (fun ls hl => ?_)
  refine lv_aload_n hx hb dX0_match_75 rfl (lv_at hl 0 rfl) ?_
  refine lv_aload_n hx hb dX0_match_76 rfl (lv_at hl 0 rfl) ?_
  refine xr_gN h hX hI xl_X0_211_1.g dX0_match_77 (fun v20 h => ?_)
  refine lv_iload_n hx hb dX0_match_80 rfl (lv_at hl 2 rfl) ?_
  refine xr_callV (iv := (fun b => some (.ref b))) (As := [.int a1]) (rest := [.ref v19]) h hX hI (fun _ _ h => w_X2_get h) (fun _ _ h => o_X2_get h) rfl 1 (lw_V q1249 q1250 q1251 q76 q1252) ⟨rfl, xd_X2_get⟩ ⟨rfl, rfl⟩ rfl hl.1 (Nat.le_of_ble_eq_true rfl) dX0_match_81 (fun v21 H locs σ cells slots h hI => ?_)
  refine W.eq (g2 := F0 m 84 ls [.ref v21, .ref v19]) rfl ?_
  refine xr_cks h hX hI xc_X0_261 dX0_match_84 (fun h => ?_)
  refine xr_callV (iv := (fun b => some (.int b))) (As := [.ref v21]) (rest := []) h hX hI (fun _ _ h => w_X1_match h) (fun _ _ h => o_X1_match h) rfl 1 (lw_V q1731 q1732 q1733 q75 q1734) ⟨rfl, xd_X1_match⟩ ⟨rfl, rfl⟩ rfl hl.1 (Nat.le_of_ble_eq_true rfl) dX0_match_87 (fun v22 H locs σ cells slots h hI => ?_)
  refine W.eq (g2 := F0 m 90 ls [.int v22]) rfl ?_
  refine lv_istore (lv' := [(4, .int v22), (3, .ref v19), (0, .ref a0), (1, .int a1)]) hx hb dX0_match_90 hl (Nat.le_of_ble_eq_true rfl) rfl (fun ls hl => ?_)
  refine lv_aload_n hx hb dX0_match_92 rfl (lv_at hl 2 rfl) ?_
  refine lv_aload_n hx hb dX0_match_93 rfl (lv_at hl 1 rfl) ?_
  refine lv_iload hx hb dX0_match_94 (lv_at hl 0 rfl) ?_
  refine xr_callV (iv := (fun b => some (.int b))) (As := [.ref v19, .int v22]) (rest := []) h hX hI (fun _ _ h => w_X0_become h) (fun _ _ h => o_X0_become h) rfl 2 (lw_V q1182 q1184 qs9 q74 q1185) ⟨rfl, xd_X0_become⟩ ⟨rfl, rfl⟩ rfl hl.1 (Nat.le_of_ble_eq_true rfl) dX0_match_96 (fun v23 H locs σ cells slots h hI => ?_)
  refine W.eq (g2 := F0 m 99 ls [.int v23]) rfl ?_
  exact xr_ireturn h hX hI dX0_match_99
theorem o_X0_match {a0 : Nat} {a1 : Int32} {r : Int32} {σ σ9 : xS} (h : (f_X0_match a0 a1).1 σ = some (r, σ9)) : ∃ fs, σ.1 a0 = some (.inl (0, fs)) := xck_of h
theorem w_X0_match {E : xE} {l : Launch} {a0 : Nat} {a1 : Int32} {r : Int32} {σ σ9 : xS} (h : (f_X0_match a0 a1).1 σ = some (r, σ9)) : xMet E l yX0_match (ws_ yX0_match cX0_match 5 (some .int)) 14 438 [.ref a0, .int a1] σ σ9 (some (.int r)) := by
  refine xstart (by decide +kernel) ((f_X0_match a0 a1).2 _ _ _ h) (Nat.le_of_ble_eq_true rfl) ?_
  intro p e s m args below meth c H locs cells slots ls R hX hI hl
  have hx := hX.1.1
  have hb := hX.1.2.1
  have hl : lv_has ls 5 [(0, .ref a0), (1, .int a1)] := hl
  generalize hσ0 : σ = σ0 at hX hI ⊢
  have h : (f_X0_match a0 a1).1 σ0 = some (r, σ9) := by rw [← hσ0]; exact h
  clear hσ0
  delta f_X0_match at h
  have h := (xck_bd h).2
  refine lv_aload_n hx hb dX0_match_0 rfl (lv_at hl 0 rfl) ?_
  refine xr_gN h hX hI xl_X0_22_0.g dX0_match_1 (fun v24 h => ?_)
  refine xr_gN h hX hI xl_X0_211_1.g dX0_match_4 (fun v25 h => ?_)
  refine lv_iload_n hx hb dX0_match_7 rfl (lv_at hl 1 rfl) ?_
  refine xr_callV (iv := (fun b => some (.int b))) (As := [.int a1]) (rest := []) h hX hI (fun _ _ h => w_X2_has h) (fun _ _ h => o_X2_has h) rfl 1 (lw_V q1225 q1226 q1227 q76 q1228) ⟨rfl, xd_X2_has⟩ ⟨rfl, rfl⟩ rfl hl.1 (Nat.le_of_ble_eq_true rfl) dX0_match_8 (fun v26 H locs σ cells slots h hI => ?_)
  refine W.eq (g2 := F0 m 11 ls [.int v26]) rfl ?_
  refine lv_if_ne (tgt := 16) hx hb dX0_match_11 (by decide) (fun hc => ?_) (fun hc => ?_)
  · have h := xif_f h hc
    refine lv_aload_n hx hb dX0_match_16 rfl (lv_at hl 0 rfl) ?_
    refine xr_gN h hX hI xl_X0_22_0.g dX0_match_17 (fun v27 h => ?_)
    refine xr_gN h hX hI xl_X0_211_1.g dX0_match_20 (fun v28 h => ?_)
    refine lv_iload_n hx hb dX0_match_23 rfl (lv_at hl 1 rfl) ?_
    refine xr_callV (iv := (fun b => some (.ref b))) (As := [.int a1]) (rest := []) h hX hI (fun _ _ h => w_X2_get h) (fun _ _ h => o_X2_get h) rfl 1 (lw_V q1249 q1250 q1251 q76 q1252) ⟨rfl, xd_X2_get⟩ ⟨rfl, rfl⟩ rfl hl.1 (Nat.le_of_ble_eq_true rfl) dX0_match_24 (fun v29 H locs σ cells slots h hI => ?_)
    refine W.eq (g2 := F0 m 27 ls [.ref v29]) rfl ?_
    refine xr_cks h hX hI xc_X0_261 dX0_match_27 (fun h => ?_)
    refine lv_astore_n (lv' := [(2, .ref v29), (0, .ref a0), (1, .int a1)]) hx hb dX0_match_30 rfl hl (Nat.le_of_ble_eq_true rfl) rfl (fun ls hl => ?_)
    refine lv_aload_n hx hb dX0_match_31 rfl (lv_at hl 0 rfl) ?_
    refine xr_callV (iv := (fun b => some (.int b))) (As := []) (rest := []) h hX hI (fun _ _ h => w_X4_isWaiting h) (fun _ _ h => o_X4_isWaiting h) rfl 0 (lw_V q1699 q1700 q1701 q105 q1702) ⟨rfl, xd_X4_isWaiting⟩ ⟨rfl, rfl⟩ rfl hl.1 (Nat.le_of_ble_eq_true rfl) dX0_match_32 (fun v30 H locs σ cells slots h hI => ?_)
    refine W.eq (g2 := F0 m 35 ls [.int v30]) rfl ?_
    refine lv_if_ne (tgt := 41) hx hb dX0_match_35 (by decide) (fun hc => ?_) (fun hc => ?_)
    · have h := xif_f h hc
      refine lv_aload_n hx hb dX0_match_41 rfl (lv_at hl 0 rfl) ?_
      refine xr_gI h hX hI xl_X0_266_4.g dX0_match_42 (fun v31 h => ?_)
      refine lv_iconst (v := (2 : Int32)) hx hb dX0_match_45 (by decide) ?_
      refine lv_icmp_ne (tgt := 67) hx hb dX0_match_46 (by decide) (fun hc => ?_) (fun hc => ?_)
      · have h := xif_f h hc
        exact w_X0_match_b67 hX h hI (lv_sub hl [1, 2] rfl)
      · have h := xif_t h hc
        refine lv_aload_n hx hb dX0_match_49 rfl (lv_at hl 0 rfl) ?_
        refine xr_gI h hX hI xl_X0_267_4.g dX0_match_50 (fun v32 h => ?_)
        refine lv_aload_n hx hb dX0_match_53 rfl (lv_at hl 1 rfl) ?_
        refine xr_gN h hX hI xl_X0_22_0.g dX0_match_54 (fun v33 h => ?_)
        refine lv_aload_n hx hb dX0_match_57 rfl (lv_at hl 0 rfl) ?_
        refine xr_callV (iv := (fun b => some (.int b))) (As := [.ref v29]) (rest := [.int v32]) h hX hI (fun _ _ h => w_X1_against h) (fun _ _ h => o_X1_against h) rfl 1 (lw_V q1703 q1704 q1705 q75 q1706) ⟨rfl, xd_X1_against⟩ ⟨rfl, rfl⟩ rfl hl.1 (Nat.le_of_ble_eq_true rfl) dX0_match_58 (fun v34 H locs σ cells slots h hI => ?_)
        refine W.eq (g2 := F0 m 61 ls [.int v34, .int v32]) rfl ?_
        refine lv_icmp_ne (tgt := 67) hx hb dX0_match_61 (by decide) (fun hc => ?_) (fun hc => ?_)
        · have h := xif_f h hc
          exact w_X0_match_b67 hX h hI (lv_sub hl [1, 2] rfl)
        · have h := xif_t h hc
          refine lv_bipush (v := (-5 : Int32)) hx hb dX0_match_64 (by decide) ?_
          exact xr_ireturn h hX hI dX0_match_66
    · have h := xif_t h hc
      refine lv_bipush (v := (-4 : Int32)) hx hb dX0_match_38 (by decide) ?_
      exact xr_ireturn h hX hI dX0_match_40
  · have h := xif_t h hc
    refine lv_iconst (v := (-1 : Int32)) hx hb dX0_match_14 (by decide) ?_
    exact xr_ireturn h hX hI dX0_match_15
/-! PayMatchModel.isInvoice(I)Z  -/
theorem o_X3_isInvoice {a0 : Nat} {a1 : Int32} {r : Int32} {σ σ9 : xS} (h : (f_X3_isInvoice a0 a1).1 σ = some (r, σ9)) : ∃ fs, σ.1 a0 = some (.inl (3, fs)) := xck_of h
theorem w_X3_isInvoice {E : xE} {l : Launch} {a0 : Nat} {a1 : Int32} {r : Int32} {σ σ9 : xS} (h : (f_X3_isInvoice a0 a1).1 σ = some (r, σ9)) : xMet E l yX3_isInvoice (ws_ yX3_isInvoice cX3_isInvoice 2 (some .boolean)) 1 22 [.ref a0, .int a1] σ σ9 (some (.int r)) := by
  refine xstart (by decide +kernel) ((f_X3_isInvoice a0 a1).2 _ _ _ h) (Nat.le_of_ble_eq_true rfl) ?_
  intro p e s m args below meth c H locs cells slots ls R hX hI hl
  have hx := hX.1.1
  have hb := hX.1.2.1
  have hl : lv_has ls 2 [(0, .ref a0), (1, .int a1)] := hl
  generalize hσ0 : σ = σ0 at hX hI ⊢
  have h : (f_X3_isInvoice a0 a1).1 σ0 = some (r, σ9) := by rw [← hσ0]; exact h
  clear hσ0
  delta f_X3_isInvoice at h
  have h := (xck_bd h).2
  refine lv_iload_n hx hb dX3_isInvoice_0 rfl (lv_at hl 1 rfl) ?_
  refine lv_iconst (v := (0 : Int32)) hx hb dX3_isInvoice_1 (by decide) ?_
  refine lv_aload_n hx hb dX3_isInvoice_2 rfl (lv_at hl 0 rfl) ?_
  refine lv_iconst (v := (3 : Int32)) hx hb dX3_isInvoice_3 (by decide) ?_
  refine xr_callV (iv := (fun b => some (.int b))) (As := [.int (3 : Int32)]) (rest := [.int (0 : Int32), .int a1]) h hX hI (fun _ _ h => w_X3_at h) (fun _ _ h => o_X3_at h) rfl 1 (lw_V q2022 q2024 qs31 q87 q2025) ⟨rfl, xd_X3_at⟩ ⟨rfl, rfl⟩ rfl hl.1 (Nat.le_of_ble_eq_true rfl) dX3_isInvoice_4 (fun v3 H locs σ cells slots h hI => ?_)
  refine W.eq (g2 := F0 m 7 ls [.int v3, .int (0 : Int32), .int a1]) rfl ?_
  refine lv_iconst (v := (1 : Int32)) hx hb dX3_isInvoice_7 (by decide) ?_
  refine lv_isub hx hb dX3_isInvoice_8 ?_
  refine xr_callS (iv := (fun b => some (.int b))) (As := [.int a1, .int (0 : Int32), .int (v3 - (1 : Int32))]) (rest := []) h hX hI (fun _ _ h => w_X3_in h) 3 (lw_S q2043 q2044 q87 q2045) xd_X3_in ⟨rfl, rfl⟩ rfl hl.1 (Nat.le_of_ble_eq_true rfl) dX3_isInvoice_9 (fun v4 H locs σ cells slots h hI => ?_)
  refine W.eq (g2 := F0 m 12 ls [.int v4]) rfl ?_
  exact xr_zreturn h hX hI dX3_isInvoice_12
/-! PayMatchModel.isWaiting(I)Z  -/
theorem o_X3_isWaiting {a0 : Nat} {a1 : Int32} {r : Int32} {σ σ9 : xS} (h : (f_X3_isWaiting a0 a1).1 σ = some (r, σ9)) : ∃ fs, σ.1 a0 = some (.inl (3, fs)) := xck_of h
theorem w_X3_isWaiting {E : xE} {l : Launch} {a0 : Nat} {a1 : Int32} {r : Int32} {σ σ9 : xS} (h : (f_X3_isWaiting a0 a1).1 σ = some (r, σ9)) : xMet E l yX3_isWaiting (ws_ yX3_isWaiting cX3_isWaiting 3 (some .boolean)) 1 21 [.ref a0, .int a1] σ σ9 (some (.int r)) := by
  refine xstart (by decide +kernel) ((f_X3_isWaiting a0 a1).2 _ _ _ h) (Nat.le_of_ble_eq_true rfl) ?_
  intro p e s m args below meth c H locs cells slots ls R hX hI hl
  have hx := hX.1.1
  have hb := hX.1.2.1
  have hl : lv_has ls 3 [(0, .ref a0), (1, .int a1)] := hl
  generalize hσ0 : σ = σ0 at hX hI ⊢
  have h : (f_X3_isWaiting a0 a1).1 σ0 = some (r, σ9) := by rw [← hσ0]; exact h
  clear hσ0
  delta f_X3_isWaiting at h
  have h := (xck_bd h).2
  refine lv_aload_n hx hb dX3_isWaiting_0 rfl (lv_at hl 0 rfl) ?_
  refine lv_iload_n hx hb dX3_isWaiting_1 rfl (lv_at hl 1 rfl) ?_
  refine lv_iconst (v := (4 : Int32)) hx hb dX3_isWaiting_2 (by decide) ?_
  refine xr_callS (iv := (fun b => some (.int b))) (As := [.int a1, .int (4 : Int32)]) (rest := [.ref a0]) h hX hI (fun _ _ h => w_X3_ofInvoice h) 2 (lw_S q2068 q2069 q87 q2070) xd_X3_ofInvoice ⟨rfl, rfl⟩ rfl hl.1 (Nat.le_of_ble_eq_true rfl) dX3_isWaiting_3 (fun v3 H locs σ cells slots h hI => ?_)
  refine W.eq (g2 := F0 m 6 ls [.int v3, .ref a0]) rfl ?_
  refine xr_callV (iv := (fun b => some (.int b))) (As := [.int v3]) (rest := []) h hX hI (fun _ _ h => w_X3_at h) (fun _ _ h => o_X3_at h) rfl 1 (lw_V q2022 q2024 qs31 q87 q2025) ⟨rfl, xd_X3_at⟩ ⟨rfl, rfl⟩ rfl hl.1 (Nat.le_of_ble_eq_true rfl) dX3_isWaiting_6 (fun v4 H locs σ cells slots h hI => ?_)
  refine W.eq (g2 := F0 m 9 ls [.int v4]) rfl ?_
  refine lv_istore_n (lv' := [(2, .int v4), (0, .ref a0), (1, .int a1)]) hx hb dX3_isWaiting_9 rfl hl (Nat.le_of_ble_eq_true rfl) rfl (fun ls hl => ?_)
  refine lv_iload_n hx hb dX3_isWaiting_10 rfl (lv_at hl 0 rfl) ?_
  refine lv_if_eq (tgt := 19) hx hb dX3_isWaiting_11 (by decide) (fun hc => ?_) (fun hc => ?_)
  · have h := xif_t h hc
    refine lv_iconst (v := (1 : Int32)) hx hb dX3_isWaiting_19 (by decide) ?_
    refine lv_goto (tgt := 24) hx hb dX3_isWaiting_20 (by decide) ?_
    exact xr_zreturn h hX hI dX3_isWaiting_24
  · have h := xif_f h hc
    refine lv_iload_n hx hb dX3_isWaiting_14 rfl (lv_at hl 0 rfl) ?_
    refine lv_iconst (v := (2 : Int32)) hx hb dX3_isWaiting_15 (by decide) ?_
    refine lv_icmp_ne (tgt := 23) hx hb dX3_isWaiting_16 (by decide) (fun hc => ?_) (fun hc => ?_)
    · have h := xif_f h hc
      refine lv_iconst (v := (0 : Int32)) hx hb dX3_isWaiting_23 (by decide) ?_
      exact xr_zreturn h hX hI dX3_isWaiting_24
    · have h := xif_t h hc
      refine lv_iconst (v := (1 : Int32)) hx hb dX3_isWaiting_19 (by decide) ?_
      refine lv_goto (tgt := 24) hx hb dX3_isWaiting_20 (by decide) ?_
      exact xr_zreturn h hX hI dX3_isWaiting_24
/-! PayMatchModel.isDear(IIII)Z  -/
theorem o_X3_isDear {a0 : Nat} {a1 : Int32} {a2 : Int32} {a3 : Int32} {a4 : Int32} {r : Int32} {σ σ9 : xS} (h : (f_X3_isDear a0 a1 a2 a3 a4).1 σ = some (r, σ9)) : ∃ fs, σ.1 a0 = some (.inl (3, fs)) := xck_of h
theorem w_X3_isDear {E : xE} {l : Launch} {a0 : Nat} {a1 : Int32} {a2 : Int32} {a3 : Int32} {a4 : Int32} {r : Int32} {σ σ9 : xS} (h : (f_X3_isDear a0 a1 a2 a3 a4).1 σ = some (r, σ9)) : xMet E l yX3_isDear (ws_ yX3_isDear cX3_isDear 7 (some .boolean)) 2 81 [.ref a0, .int a1, .int a2, .int a3, .int a4] σ σ9 (some (.int r)) := by
  refine xstart (by decide +kernel) ((f_X3_isDear a0 a1 a2 a3 a4).2 _ _ _ h) (Nat.le_of_ble_eq_true rfl) ?_
  intro p e s m args below meth c H locs cells slots ls R hX hI hl
  have hx := hX.1.1
  have hb := hX.1.2.1
  have hl : lv_has ls 7 [(0, .ref a0), (1, .int a1), (2, .int a2), (3, .int a3), (4, .int a4)] := hl
  generalize hσ0 : σ = σ0 at hX hI ⊢
  have h : (f_X3_isDear a0 a1 a2 a3 a4).1 σ0 = some (r, σ9) := by rw [← hσ0]; exact h
  clear hσ0
  delta f_X3_isDear at h
  have h := (xck_bd h).2
  refine lv_aload_n hx hb dX3_isDear_0 rfl (lv_at hl 0 rfl) ?_
  refine lv_iload_n hx hb dX3_isDear_1 rfl (lv_at hl 1 rfl) ?_
  refine lv_iload_n hx hb dX3_isDear_2 rfl (lv_at hl 2 rfl) ?_
  refine lv_iconst (v := (2 : Int32)) hx hb dX3_isDear_3 (by decide) ?_
  refine xr_callS (iv := (fun b => some (.int b))) (As := [.int a1, .int a2, .int (2 : Int32)]) (rest := [.ref a0]) h hX hI (fun _ _ h => w_X3_ofLine h) 3 (lw_S q2103 q2104 q87 q2105) xd_X3_ofLine ⟨rfl, rfl⟩ rfl hl.1 (Nat.le_of_ble_eq_true rfl) dX3_isDear_4 (fun v9 H locs σ cells slots h hI => ?_)
  refine W.eq (g2 := F0 m 7 ls [.int v9, .ref a0]) rfl ?_
  refine xr_callV (iv := (fun b => some (.int b))) (As := [.int v9]) (rest := []) h hX hI (fun _ _ h => w_X3_at h) (fun _ _ h => o_X3_at h) rfl 1 (lw_V q2022 q2024 qs31 q87 q2025) ⟨rfl, xd_X3_at⟩ ⟨rfl, rfl⟩ rfl hl.1 (Nat.le_of_ble_eq_true rfl) dX3_isDear_7 (fun v10 H locs σ cells slots h hI => ?_)
  refine W.eq (g2 := F0 m 10 ls [.int v10]) rfl ?_
  refine lv_istore (lv' := [(5, .int v10), (0, .ref a0), (1, .int a1), (2, .int a2), (3, .int a3), (4, .int a4)]) hx hb dX3_isDear_10 hl (Nat.le_of_ble_eq_true rfl) rfl (fun ls hl => ?_)
  refine lv_iload hx hb dX3_isDear_12 (lv_at hl 5 rfl) ?_
  refine lv_iload hx hb dX3_isDear_14 (lv_at hl 0 rfl) ?_
  refine lv_isub hx hb dX3_isDear_16 ?_
  refine lv_istore (lv' := [(6, .int (a4 - v10)), (5, .int v10), (0, .ref a0), (1, .int a1), (2, .int a2), (3, .int a3), (4, .int a4)]) hx hb dX3_isDear_17 hl (Nat.le_of_ble_eq_true rfl) rfl (fun ls hl => ?_)
  refine lv_iload hx hb dX3_isDear_19 (lv_at hl 0 rfl) ?_
  refine lv_if_le (tgt := 76) hx hb dX3_isDear_21 (by decide) (fun hc => ?_) (fun hc => ?_)
  · have h := xif_t h hc
    refine lv_iconst (v := (0 : Int32)) hx hb dX3_isDear_76 (by decide) ?_
    exact xr_zreturn h hX hI dX3_isDear_77
  · have h := xif_f h hc
    refine lv_iload hx hb dX3_isDear_24 (lv_at hl 0 rfl) ?_
    refine lv_i2d hx hb dX3_isDear_26 ?_
    refine lv_ldc2d (v := (4636737291354636288 : UInt64)) hx hb hX.1.2.2.2.1 (hX.1.2.2.2.2 _ q2139) dX3_isDear_27 ?_
    refine xr_dmul h hx hb dX3_isDear_30 (fun h => ?_)
    refine lv_iload hx hb dX3_isDear_31 (lv_at hl 1 rfl) ?_
    refine lv_i2d hx hb dX3_isDear_33 ?_
    refine xr_ddiv h hx hb dX3_isDear_34 (fun h => ?_)
    refine lv_aload_n hx hb dX3_isDear_35 rfl (lv_at hl 2 rfl) ?_
    refine lv_aload_n hx hb dX3_isDear_36 rfl (lv_at hl 2 rfl) ?_
    refine lv_iload_n hx hb dX3_isDear_37 rfl (lv_at hl 3 rfl) ?_
    refine xr_callV (iv := (fun b => some (.int b))) (As := [.int a1]) (rest := [.ref a0, .double (FP.ddiv (FP.dmul (FP.i2d (a4 - v10)) (4636737291354636288 : UInt64)) (FP.i2d v10))]) h hX hI (fun _ _ h => w_X3_whose h) (fun _ _ h => o_X3_whose h) rfl 1 (lw_V q2071 q2073 qs36 q87 q2074) ⟨rfl, xd_X3_whose⟩ ⟨rfl, rfl⟩ rfl hl.1 (Nat.le_of_ble_eq_true rfl) dX3_isDear_38 (fun v11 H locs σ cells slots h hI => ?_)
    refine W.eq (g2 := F0 m 41 ls [.int v11, .ref a0, .double (FP.ddiv (FP.dmul (FP.i2d (a4 - v10)) (4636737291354636288 : UInt64)) (FP.i2d v10))]) rfl ?_
    refine lv_iconst (v := (0 : Int32)) hx hb dX3_isDear_41 (by decide) ?_
    refine xr_callS (iv := (fun b => some (.int b))) (As := [.int v11, .int (0 : Int32)]) (rest := [.ref a0, .double (FP.ddiv (FP.dmul (FP.i2d (a4 - v10)) (4636737291354636288 : UInt64)) (FP.i2d v10))]) h hX hI (fun _ _ h => w_X3_ofSupplier h) 2 (lw_S q2026 q2027 q87 q2028) xd_X3_ofSupplier ⟨rfl, rfl⟩ rfl hl.1 (Nat.le_of_ble_eq_true rfl) dX3_isDear_42 (fun v12 H locs σ cells slots h hI => ?_)
    refine W.eq (g2 := F0 m 45 ls [.int v12, .ref a0, .double (FP.ddiv (FP.dmul (FP.i2d (a4 - v10)) (4636737291354636288 : UInt64)) (FP.i2d v10))]) rfl ?_
    refine xr_callV (iv := (fun b => some (.double b))) (As := [.int v12]) (rest := [.double (FP.ddiv (FP.dmul (FP.i2d (a4 - v10)) (4636737291354636288 : UInt64)) (FP.i2d v10))]) h hX hI (fun _ _ h => w_X3_real h) (fun _ _ h => o_X3_real h) rfl 1 (lw_V q2135 q2137 qs42 q87 q2138) ⟨rfl, xd_X3_real⟩ ⟨rfl, rfl⟩ rfl hl.1 (Nat.le_of_ble_eq_true rfl) dX3_isDear_45 (fun v13 H locs σ cells slots h hI => ?_)
    refine W.eq (g2 := F0 m 48 ls [.double v13, .double (FP.ddiv (FP.dmul (FP.i2d (a4 - v10)) (4636737291354636288 : UInt64)) (FP.i2d v10))]) rfl ?_
    refine lv_dcmp hx hb dX3_isDear_48 ?_
    refine lv_if_le (tgt := 76) hx hb dX3_isDear_49 (by decide) (fun hc => ?_) (fun hc => ?_)
    · have h := xif_t h hc
      refine lv_iconst (v := (0 : Int32)) hx hb dX3_isDear_76 (by decide) ?_
      exact xr_zreturn h hX hI dX3_isDear_77
    · have h := xif_f h hc
      refine lv_iload hx hb dX3_isDear_52 (lv_at hl 0 rfl) ?_
      refine lv_iload_n hx hb dX3_isDear_54 rfl (lv_at hl 5 rfl) ?_
      refine lv_imul hx hb dX3_isDear_55 ?_
      refine lv_aload_n hx hb dX3_isDear_56 rfl (lv_at hl 2 rfl) ?_
      refine lv_aload_n hx hb dX3_isDear_57 rfl (lv_at hl 2 rfl) ?_
      refine lv_iload_n hx hb dX3_isDear_58 rfl (lv_at hl 3 rfl) ?_
      refine xr_callV (iv := (fun b => some (.int b))) (As := [.int a1]) (rest := [.ref a0, .int ((a4 - v10) * a3)]) h hX hI (fun _ _ h => w_X3_whose h) (fun _ _ h => o_X3_whose h) rfl 1 (lw_V q2071 q2073 qs36 q87 q2074) ⟨rfl, xd_X3_whose⟩ ⟨rfl, rfl⟩ rfl hl.1 (Nat.le_of_ble_eq_true rfl) dX3_isDear_59 (fun v14 H locs σ cells slots h hI => ?_)
      refine W.eq (g2 := F0 m 62 ls [.int v14, .ref a0, .int ((a4 - v10) * a3)]) rfl ?_
      refine lv_iconst (v := (2 : Int32)) hx hb dX3_isDear_62 (by decide) ?_
      refine xr_callS (iv := (fun b => some (.int b))) (As := [.int v14, .int (2 : Int32)]) (rest := [.ref a0, .int ((a4 - v10) * a3)]) h hX hI (fun _ _ h => w_X3_ofSupplier h) 2 (lw_S q2026 q2027 q87 q2028) xd_X3_ofSupplier ⟨rfl, rfl⟩ rfl hl.1 (Nat.le_of_ble_eq_true rfl) dX3_isDear_63 (fun v15 H locs σ cells slots h hI => ?_)
      refine W.eq (g2 := F0 m 66 ls [.int v15, .ref a0, .int ((a4 - v10) * a3)]) rfl ?_
      refine xr_callV (iv := (fun b => some (.int b))) (As := [.int v15]) (rest := [.int ((a4 - v10) * a3)]) h hX hI (fun _ _ h => w_X3_at h) (fun _ _ h => o_X3_at h) rfl 1 (lw_V q2022 q2024 qs31 q87 q2025) ⟨rfl, xd_X3_at⟩ ⟨rfl, rfl⟩ rfl hl.1 (Nat.le_of_ble_eq_true rfl) dX3_isDear_66 (fun v16 H locs σ cells slots h hI => ?_)
      refine W.eq (g2 := F0 m 69 ls [.int v16, .int ((a4 - v10) * a3)]) rfl ?_
      refine lv_icmp_le (tgt := 76) hx hb dX3_isDear_69 (by decide) (fun hc => ?_) (fun hc => ?_)
      · have h := xif_t h hc
        refine lv_iconst (v := (0 : Int32)) hx hb dX3_isDear_76 (by decide) ?_
        exact xr_zreturn h hX hI dX3_isDear_77
      · have h := xif_f h hc
        refine lv_iconst (v := (1 : Int32)) hx hb dX3_isDear_72 (by decide) ?_
        refine lv_goto (tgt := 77) hx hb dX3_isDear_73 (by decide) ?_
        exact xr_zreturn h hX hI dX3_isDear_77
/-! PayMatchModel.billedBut(III)I  -/
theorem w_X3_billedBut_b65 {t0 : Int32} {t1 : Int32} {r : Int32} (hX : xX E R p m c cX3_billedBut 5 s args RX3 "billedBut" meth (some .int) 2 44 σ0 σ9)
    (h : (f_X3_billedBut_b65 t0 t1).1 σ = some (r, σ9)) (hI : xI E σ0 σ s H locs cells slots) (hl : lv_has ls 5 []) : W p l e R s m args below meth c H locs cells slots (xMQ E below args s σ0 σ9 (some (.int r))) (F0 m 65 ls [.int t1, .int t0]) := by
  have hx := hX.1.1
  have hb := hX.1.2.1
  delta f_X3_billedBut_b65 at h
  refine lv_isub hx hb dX3_billedBut_65 ?_
  exact xr_ireturn h hX hI dX3_billedBut_66
theorem w_X3_billedBut_b31 {t0 : Int32} {a0 : Nat} {a1 : Int32} {a2 : Int32} {a3 : Int32} {r : Int32} (hX : xX E R p m c cX3_billedBut 5 s args RX3 "billedBut" meth (some .int) 2 44 σ0 σ9)
    (h : (f_X3_billedBut_b31 t0 a0 a1 a2 a3).1 σ = some (r, σ9)) (hI : xI E σ0 σ s H locs cells slots) (hl : lv_has ls 5 [(0, .ref a0), (1, .int a1), (2, .int a2), (3, .int a3)]) : W p l e R s m args below meth c H locs cells slots (xMQ E below args s σ0 σ9 (some (.int r))) (F0 m 31 ls [.int t0]) := by
  have hx := hX.1.1
  have hb := hX.1.2.1
  delta f_X3_billedBut_b31 at h
  refine lv_istore (lv' := [(4, .int t0), (0, .ref a0), (1, .int a1), (2, .int a2), (3, .int a3)]) hx hb dX3_billedBut_31 hl (Nat.le_of_ble_eq_true rfl) rfl (fun ls hl => ?_)
  refine lv_aload_n hx hb dX3_billedBut_33 rfl (lv_at hl 1 rfl) ?_
  refine lv_iload_n hx hb dX3_billedBut_34 rfl (lv_at hl 3 rfl) ?_
  refine lv_aload_n hx hb dX3_billedBut_35 rfl (lv_at hl 1 rfl) ?_
  refine lv_iload_n hx hb dX3_billedBut_36 rfl (lv_at hl 2 rfl) ?_
  refine lv_iload_n hx hb dX3_billedBut_37 rfl (lv_at hl 4 rfl) ?_
  refine lv_iconst (v := (0 : Int32)) hx hb dX3_billedBut_38 (by decide) ?_
  refine xr_callV (iv := (fun b => some (.int b))) (As := [.int a1, .int a3, .int (0 : Int32)]) (rest := [.int a2, .ref a0]) h hX hI (fun _ _ h => w_X3_entryOf h) (fun _ _ h => o_X3_entryOf h) rfl 3 (lw_V q2177 q2179 qs50 q87 q2180) ⟨rfl, xd_X3_entryOf⟩ ⟨rfl, rfl⟩ rfl hl.1 (Nat.le_of_ble_eq_true rfl) dX3_billedBut_39 (fun v9 H locs σ cells slots h hI => ?_)
  refine W.eq (g2 := F0 m 42 ls [.int v9, .int a2, .ref a0]) rfl ?_
  refine lv_iconst (v := (5 : Int32)) hx hb dX3_billedBut_42 (by decide) ?_
  refine xr_callS (iv := (fun b => some (.int b))) (As := [.int a2, .int v9, .int (5 : Int32)]) (rest := [.ref a0]) h hX hI (fun _ _ h => w_X3_ofLine h) 3 (lw_S q2103 q2104 q87 q2105) xd_X3_ofLine ⟨rfl, rfl⟩ rfl hl.1 (Nat.le_of_ble_eq_true rfl) dX3_billedBut_43 (fun v10 H locs σ cells slots h hI => ?_)
  refine W.eq (g2 := F0 m 46 ls [.int v10, .ref a0]) rfl ?_
  refine xr_callV (iv := (fun b => some (.int b))) (As := [.int v10]) (rest := []) h hX hI (fun _ _ h => w_X3_at h) (fun _ _ h => o_X3_at h) rfl 1 (lw_V q2022 q2024 qs31 q87 q2025) ⟨rfl, xd_X3_at⟩ ⟨rfl, rfl⟩ rfl hl.1 (Nat.le_of_ble_eq_true rfl) dX3_billedBut_46 (fun v11 H locs σ cells slots h hI => ?_)
  refine W.eq (g2 := F0 m 49 ls [.int v11]) rfl ?_
  refine lv_iload hx hb dX3_billedBut_49 (lv_at hl 0 rfl) ?_
  refine lv_if_eq (tgt := 64) hx hb dX3_billedBut_51 (by decide) (fun hc => ?_) (fun hc => ?_)
  · have h := xif_t h hc
    refine lv_iconst (v := (0 : Int32)) hx hb dX3_billedBut_64 (by decide) ?_
    exact w_X3_billedBut_b65 hX h hI (lv_sub hl [] rfl)
  · have h := xif_f h hc
    refine lv_aload_n hx hb dX3_billedBut_54 rfl (lv_at hl 1 rfl) ?_
    refine lv_iload_n hx hb dX3_billedBut_55 rfl (lv_at hl 2 rfl) ?_
    refine lv_iload_n hx hb dX3_billedBut_56 rfl (lv_at hl 4 rfl) ?_
    refine lv_iconst (v := (1 : Int32)) hx hb dX3_billedBut_57 (by decide) ?_
    refine xr_callV (iv := (fun b => some (.int b))) (As := [.int a1, .int a3, .int (1 : Int32)]) (rest := [.int v11]) h hX hI (fun _ _ h => w_X3_entryOf h) (fun _ _ h => o_X3_entryOf h) rfl 3 (lw_V q2177 q2179 qs50 q87 q2180) ⟨rfl, xd_X3_entryOf⟩ ⟨rfl, rfl⟩ rfl hl.1 (Nat.le_of_ble_eq_true rfl) dX3_billedBut_58 (fun v12 H locs σ cells slots h hI => ?_)
    refine W.eq (g2 := F0 m 61 ls [.int v12, .int v11]) rfl ?_
    refine lv_goto (tgt := 65) hx hb dX3_billedBut_61 (by decide) ?_
    exact w_X3_billedBut_b65 hX h hI (lv_sub hl [] rfl)
theorem w_X3_billedBut_b26 {a0 : Nat} {a1 : Int32} {a2 : Int32} {a3 : Int32} {r : Int32} (hX : xX E R p m c cX3_billedBut 5 s args RX3 "billedBut" meth (some .int) 2 44 σ0 σ9)
    (h : (f_X3_billedBut_b26 a0 a1 a2 a3).1 σ = some (r, σ9)) (hI : xI E σ0 σ s H locs cells slots) (hl : lv_has ls 5 [(0, .ref a0), (1, .int a1), (2, .int a2), (3, .int a3)]) : W p l e R s m args below meth c H locs cells slots (xMQ E below args s σ0 σ9 (some (.int r))) (F0 m 26 ls []) := by
  have hx := hX.1.1
  have hb := hX.1.2.1
  delta f_X3_billedBut_b26 at h
  refine lv_iconst (v := (1 : Int32)) hx hb dX3_billedBut_26 (by decide) ?_
  refine lv_goto (tgt := 31) hx hb dX3_billedBut_27 (by decide) ?_
  exact w_X3_billedBut_b31 hX h hI (lv_sub hl [0, 1, 2, 3] rfl)
theorem o_X3_billedBut {a0 : Nat} {a1 : Int32} {a2 : Int32} {a3 : Int32} {r : Int32} {σ σ9 : xS} (h : (f_X3_billedBut a0 a1 a2 a3).1 σ = some (r, σ9)) : ∃ fs, σ.1 a0 = some (.inl (3, fs)) := xck_of h
theorem w_X3_billedBut {E : xE} {l : Launch} {a0 : Nat} {a1 : Int32} {a2 : Int32} {a3 : Int32} {r : Int32} {σ σ9 : xS} (h : (f_X3_billedBut a0 a1 a2 a3).1 σ = some (r, σ9)) : xMet E l yX3_billedBut (ws_ yX3_billedBut cX3_billedBut 5 (some .int)) 2 44 [.ref a0, .int a1, .int a2, .int a3] σ σ9 (some (.int r)) := by
  refine xstart (by decide +kernel) ((f_X3_billedBut a0 a1 a2 a3).2 _ _ _ h) (Nat.le_of_ble_eq_true rfl) ?_
  intro p e s m args below meth c H locs cells slots ls R hX hI hl
  have hx := hX.1.1
  have hb := hX.1.2.1
  have hl : lv_has ls 5 [(0, .ref a0), (1, .int a1), (2, .int a2), (3, .int a3)] := hl
  generalize hσ0 : σ = σ0 at hX hI ⊢
  have h : (f_X3_billedBut a0 a1 a2 a3).1 σ0 = some (r, σ9) := by rw [← hσ0]; exact h
  clear hσ0
  delta f_X3_billedBut at h
  have h := (xck_bd h).2
  refine lv_aload_n hx hb dX3_billedBut_0 rfl (lv_at hl 0 rfl) ?_
  refine lv_iload_n hx hb dX3_billedBut_1 rfl (lv_at hl 1 rfl) ?_
  refine lv_iconst (v := (4 : Int32)) hx hb dX3_billedBut_2 (by decide) ?_
  refine xr_callS (iv := (fun b => some (.int b))) (As := [.int a1, .int (4 : Int32)]) (rest := [.ref a0]) h hX hI (fun _ _ h => w_X3_ofInvoice h) 2 (lw_S q2068 q2069 q87 q2070) xd_X3_ofInvoice ⟨rfl, rfl⟩ rfl hl.1 (Nat.le_of_ble_eq_true rfl) dX3_billedBut_3 (fun v13 H locs σ cells slots h hI => ?_)
  refine W.eq (g2 := F0 m 6 ls [.int v13, .ref a0]) rfl ?_
  refine xr_callV (iv := (fun b => some (.int b))) (As := [.int v13]) (rest := []) h hX hI (fun _ _ h => w_X3_at h) (fun _ _ h => o_X3_at h) rfl 1 (lw_V q2022 q2024 qs31 q87 q2025) ⟨rfl, xd_X3_at⟩ ⟨rfl, rfl⟩ rfl hl.1 (Nat.le_of_ble_eq_true rfl) dX3_billedBut_6 (fun v14 H locs σ cells slots h hI => ?_)
  refine W.eq (g2 := F0 m 9 ls [.int v14]) rfl ?_
  refine lv_iconst (v := (1 : Int32)) hx hb dX3_billedBut_9 (by decide) ?_
  refine lv_icmp_eq (tgt := 26) hx hb dX3_billedBut_10 (by decide) (fun hc => ?_) (fun hc => ?_)
  · have h := xif_t h hc
    exact w_X3_billedBut_b26 hX h hI (lv_sub hl [0, 1, 2, 3] rfl)
  · have h := xif_f h hc
    refine lv_aload_n hx hb dX3_billedBut_13 rfl (lv_at hl 0 rfl) ?_
    refine lv_iload_n hx hb dX3_billedBut_14 rfl (lv_at hl 1 rfl) ?_
    refine lv_iconst (v := (4 : Int32)) hx hb dX3_billedBut_15 (by decide) ?_
    refine xr_callS (iv := (fun b => some (.int b))) (As := [.int a1, .int (4 : Int32)]) (rest := [.ref a0]) h hX hI (fun _ _ h => w_X3_ofInvoice h) 2 (lw_S q2068 q2069 q87 q2070) xd_X3_ofInvoice ⟨rfl, rfl⟩ rfl hl.1 (Nat.le_of_ble_eq_true rfl) dX3_billedBut_16 (fun v15 H locs σ cells slots h hI => ?_)
    refine W.eq (g2 := F0 m 19 ls [.int v15, .ref a0]) rfl ?_
    refine xr_callV (iv := (fun b => some (.int b))) (As := [.int v15]) (rest := []) h hX hI (fun _ _ h => w_X3_at h) (fun _ _ h => o_X3_at h) rfl 1 (lw_V q2022 q2024 qs31 q87 q2025) ⟨rfl, xd_X3_at⟩ ⟨rfl, rfl⟩ rfl hl.1 (Nat.le_of_ble_eq_true rfl) dX3_billedBut_19 (fun v16 H locs σ cells slots h hI => ?_)
    refine W.eq (g2 := F0 m 22 ls [.int v16]) rfl ?_
    refine lv_iconst (v := (3 : Int32)) hx hb dX3_billedBut_22 (by decide) ?_
    refine lv_icmp_ne (tgt := 30) hx hb dX3_billedBut_23 (by decide) (fun hc => ?_) (fun hc => ?_)
    · have h := xif_f h hc
      refine lv_iconst (v := (0 : Int32)) hx hb dX3_billedBut_30 (by decide) ?_
      exact w_X3_billedBut_b31 hX h hI (lv_sub hl [0, 1, 2, 3] rfl)
    · have h := xif_t h hc
      exact w_X3_billedBut_b26 hX h hI (lv_sub hl [0, 1, 2, 3] rfl)
/-! PayMatchModel.isMuch(IIII)Z  -/
theorem o_X3_isMuch {a0 : Nat} {a1 : Int32} {a2 : Int32} {a3 : Int32} {a4 : Int32} {r : Int32} {σ σ9 : xS} (h : (f_X3_isMuch a0 a1 a2 a3 a4).1 σ = some (r, σ9)) : ∃ fs, σ.1 a0 = some (.inl (3, fs)) := xck_of h
theorem w_X3_isMuch {E : xE} {l : Launch} {a0 : Nat} {a1 : Int32} {a2 : Int32} {a3 : Int32} {a4 : Int32} {r : Int32} {σ σ9 : xS} (h : (f_X3_isMuch a0 a1 a2 a3 a4).1 σ = some (r, σ9)) : xMet E l yX3_isMuch (ws_ yX3_isMuch cX3_isMuch 5 (some .boolean)) 4 125 [.ref a0, .int a1, .int a2, .int a3, .int a4] σ σ9 (some (.int r)) := by
  refine xstart (by decide +kernel) ((f_X3_isMuch a0 a1 a2 a3 a4).2 _ _ _ h) (Nat.le_of_ble_eq_true rfl) ?_
  intro p e s m args below meth c H locs cells slots ls R hX hI hl
  have hx := hX.1.1
  have hb := hX.1.2.1
  have hl : lv_has ls 5 [(0, .ref a0), (1, .int a1), (2, .int a2), (3, .int a3), (4, .int a4)] := hl
  generalize hσ0 : σ = σ0 at hX hI ⊢
  have h : (f_X3_isMuch a0 a1 a2 a3 a4).1 σ0 = some (r, σ9) := by rw [← hσ0]; exact h
  clear hσ0
  delta f_X3_isMuch at h
  have h := (xck_bd h).2
  refine lv_iload_n hx hb dX3_isMuch_0 rfl (lv_at hl 3 rfl) ?_
  refine lv_iload hx hb dX3_isMuch_1 (lv_at hl 4 rfl) ?_
  refine lv_iadd hx hb dX3_isMuch_3 ?_
  refine lv_aload_n hx hb dX3_isMuch_4 rfl (lv_at hl 0 rfl) ?_
  refine lv_iload_n hx hb dX3_isMuch_5 rfl (lv_at hl 1 rfl) ?_
  refine lv_iload_n hx hb dX3_isMuch_6 rfl (lv_at hl 2 rfl) ?_
  refine xr_callV (iv := (fun b => some (.int b))) (As := [.int a1, .int a2]) (rest := [.int (a3 + a4)]) h hX hI (fun _ _ h => w_X3_billsMost h) (fun _ _ h => o_X3_billsMost h) rfl 2 (lw_V q2152 q2154 qs45 q87 q2155) ⟨rfl, xd_X3_billsMost⟩ ⟨rfl, rfl⟩ rfl hl.1 (Nat.le_of_ble_eq_true rfl) dX3_isMuch_7 (fun v2 H locs σ cells slots h hI => ?_)
  refine W.eq (g2 := F0 m 10 ls [.int v2, .int (a3 + a4)]) rfl ?_
  refine lv_icmp_le (tgt := 17) hx hb dX3_isMuch_10 (by decide) (fun hc => ?_) (fun hc => ?_)
  · have h := xif_t h hc
    refine lv_iconst (v := (0 : Int32)) hx hb dX3_isMuch_17 (by decide) ?_
    exact xr_zreturn h hX hI dX3_isMuch_18
  · have h := xif_f h hc
    refine lv_iconst (v := (1 : Int32)) hx hb dX3_isMuch_13 (by decide) ?_
    refine lv_goto (tgt := 18) hx hb dX3_isMuch_14 (by decide) ?_
    exact xr_zreturn h hX hI dX3_isMuch_18
/-! PayMatchModel.reasonsOf(I)I  -/
theorem w_X3_reasonsOf_b35 {t0 : Int32} {t1 : Int32} {r : Int32} (hX : xX E R p m c cX3_reasonsOf 2 s args RX3 "reasonsOf" meth (some .int) 2 42 σ0 σ9)
    (h : (f_X3_reasonsOf_b35 t0 t1).1 σ = some (r, σ9)) (hI : xI E σ0 σ s H locs cells slots) (hl : lv_has ls 2 []) : W p l e R s m args below meth c H locs cells slots (xMQ E below args s σ0 σ9 (some (.int r))) (F0 m 35 ls [.int t1, .int t0]) := by
  have hx := hX.1.1
  have hb := hX.1.2.1
  delta f_X3_reasonsOf_b35 at h
  refine lv_iadd hx hb dX3_reasonsOf_35 ?_
  exact xr_ireturn h hX hI dX3_reasonsOf_36
theorem w_X3_reasonsOf_b17 {t0 : Int32} {a0 : Nat} {a1 : Int32} {r : Int32} (hX : xX E R p m c cX3_reasonsOf 2 s args RX3 "reasonsOf" meth (some .int) 2 42 σ0 σ9)
    (h : (f_X3_reasonsOf_b17 t0 a0 a1).1 σ = some (r, σ9)) (hI : xI E σ0 σ s H locs cells slots) (hl : lv_has ls 2 [(0, .ref a0), (1, .int a1)]) : W p l e R s m args below meth c H locs cells slots (xMQ E below args s σ0 σ9 (some (.int r))) (F0 m 17 ls [.int t0]) := by
  have hx := hX.1.1
  have hb := hX.1.2.1
  delta f_X3_reasonsOf_b17 at h
  refine lv_aload_n hx hb dX3_reasonsOf_17 rfl (lv_at hl 0 rfl) ?_
  refine lv_iload_n hx hb dX3_reasonsOf_18 rfl (lv_at hl 1 rfl) ?_
  refine lv_iconst (v := (2 : Int32)) hx hb dX3_reasonsOf_19 (by decide) ?_
  refine xr_callS (iv := (fun b => some (.int b))) (As := [.int a1, .int (2 : Int32)]) (rest := [.ref a0, .int t0]) h hX hI (fun _ _ h => w_X3_ofOrder h) 2 (lw_S q2075 q2076 q87 q2077) xd_X3_ofOrder ⟨rfl, rfl⟩ rfl hl.1 (Nat.le_of_ble_eq_true rfl) dX3_reasonsOf_20 (fun v5 H locs σ cells slots h hI => ?_)
  refine W.eq (g2 := F0 m 23 ls [.int v5, .ref a0, .int t0]) rfl ?_
  refine xr_callV (iv := (fun b => some (.int b))) (As := [.int v5]) (rest := [.int t0]) h hX hI (fun _ _ h => w_X3_at h) (fun _ _ h => o_X3_at h) rfl 1 (lw_V q2022 q2024 qs31 q87 q2025) ⟨rfl, xd_X3_at⟩ ⟨rfl, rfl⟩ rfl hl.1 (Nat.le_of_ble_eq_true rfl) dX3_reasonsOf_23 (fun v6 H locs σ cells slots h hI => ?_)
  refine W.eq (g2 := F0 m 26 ls [.int v6, .int t0]) rfl ?_
  refine lv_iconst (v := (2 : Int32)) hx hb dX3_reasonsOf_26 (by decide) ?_
  refine lv_icmp_ne (tgt := 34) hx hb dX3_reasonsOf_27 (by decide) (fun hc => ?_) (fun hc => ?_)
  · have h := xif_f h hc
    refine lv_iconst (v := (0 : Int32)) hx hb dX3_reasonsOf_34 (by decide) ?_
    exact w_X3_reasonsOf_b35 hX h hI (lv_sub hl [] rfl)
  · have h := xif_t h hc
    refine lv_iconst (v := (4 : Int32)) hx hb dX3_reasonsOf_30 (by decide) ?_
    refine lv_goto (tgt := 35) hx hb dX3_reasonsOf_31 (by decide) ?_
    exact w_X3_reasonsOf_b35 hX h hI (lv_sub hl [] rfl)
theorem o_X3_reasonsOf {a0 : Nat} {a1 : Int32} {r : Int32} {σ σ9 : xS} (h : (f_X3_reasonsOf a0 a1).1 σ = some (r, σ9)) : ∃ fs, σ.1 a0 = some (.inl (3, fs)) := xck_of h
theorem w_X3_reasonsOf {E : xE} {l : Launch} {a0 : Nat} {a1 : Int32} {r : Int32} {σ σ9 : xS} (h : (f_X3_reasonsOf a0 a1).1 σ = some (r, σ9)) : xMet E l yX3_reasonsOf (ws_ yX3_reasonsOf cX3_reasonsOf 2 (some .int)) 2 42 [.ref a0, .int a1] σ σ9 (some (.int r)) := by
  refine xstart (by decide +kernel) ((f_X3_reasonsOf a0 a1).2 _ _ _ h) (Nat.le_of_ble_eq_true rfl) ?_
  intro p e s m args below meth c H locs cells slots ls R hX hI hl
  have hx := hX.1.1
  have hb := hX.1.2.1
  have hl : lv_has ls 2 [(0, .ref a0), (1, .int a1)] := hl
  generalize hσ0 : σ = σ0 at hX hI ⊢
  have h : (f_X3_reasonsOf a0 a1).1 σ0 = some (r, σ9) := by rw [← hσ0]; exact h
  clear hσ0
  delta f_X3_reasonsOf at h
  have h := (xck_bd h).2
  refine lv_aload_n hx hb dX3_reasonsOf_0 rfl (lv_at hl 0 rfl) ?_
  refine lv_aload_n hx hb dX3_reasonsOf_1 rfl (lv_at hl 0 rfl) ?_
  refine lv_iload_n hx hb dX3_reasonsOf_2 rfl (lv_at hl 1 rfl) ?_
  refine xr_callV (iv := (fun b => some (.int b))) (As := [.int a1]) (rest := [.ref a0]) h hX hI (fun _ _ h => w_X3_whose h) (fun _ _ h => o_X3_whose h) rfl 1 (lw_V q2071 q2073 qs36 q87 q2074) ⟨rfl, xd_X3_whose⟩ ⟨rfl, rfl⟩ rfl hl.1 (Nat.le_of_ble_eq_true rfl) dX3_reasonsOf_3 (fun v7 H locs σ cells slots h hI => ?_)
  refine W.eq (g2 := F0 m 6 ls [.int v7, .ref a0]) rfl ?_
  refine xr_callV (iv := (fun b => some (.int b))) (As := [.int v7]) (rest := []) h hX hI (fun _ _ h => w_X3_isBlocked h) (fun _ _ h => o_X3_isBlocked h) rfl 1 (lw_V q2060 q2062 qs34 q87 q2063) ⟨rfl, xd_X3_isBlocked⟩ ⟨rfl, rfl⟩ rfl hl.1 (Nat.le_of_ble_eq_true rfl) dX3_reasonsOf_6 (fun v8 H locs σ cells slots h hI => ?_)
  refine W.eq (g2 := F0 m 9 ls [.int v8]) rfl ?_
  refine lv_if_eq (tgt := 16) hx hb dX3_reasonsOf_9 (by decide) (fun hc => ?_) (fun hc => ?_)
  · have h := xif_t h hc
    refine lv_iconst (v := (0 : Int32)) hx hb dX3_reasonsOf_16 (by decide) ?_
    exact w_X3_reasonsOf_b17 hX h hI (lv_sub hl [0, 1] rfl)
  · have h := xif_f h hc
    refine lv_iconst (v := (1 : Int32)) hx hb dX3_reasonsOf_12 (by decide) ?_
    refine lv_goto (tgt := 17) hx hb dX3_reasonsOf_13 (by decide) ?_
    exact w_X3_reasonsOf_b17 hX h hI (lv_sub hl [0, 1] rfl)
/-! PayMatchModel.isTwice(I)Z  -/
theorem w_X3_isTwice_b56 {rec2 : Nat → Int32 → Int32 → xM Int32} {a0 : Nat} {a1 : Int32} {a2 : Int32} {r : Int32} (hX : xX E R p m c cX3_isTwice 3 s args RX3 "isTwice" meth (some .boolean) 3 63 σ0 σ9) (hrec2 : ∀ (a0 : Nat) (a1 : Int32) (a2 : Int32) (σ : xS) (H : Heap) (locs : List Loc) (cells slots : Nat) (ls : Array Slot), (rec2 a0 a1 a2).1 σ = some (r, σ9) → xI E σ0 σ s H locs cells slots → lv_has ls 3 [(0, .ref a0), (1, .int a1), (2, .int a2)] → W p l e R s m args below meth c H locs cells slots (xMQ E below args s σ0 σ9 (some (.int r))) (F0 m 2 ls []))
    (h : (f_X3_isTwice_b56 rec2 a0 a1 a2).1 σ = some (r, σ9)) (hI : xI E σ0 σ s H locs cells slots) (hl : lv_has ls 3 [(0, .ref a0), (1, .int a1), (2, .int a2)]) : W p l e R s m args below meth c H locs cells slots (xMQ E below args s σ0 σ9 (some (.int r))) (F0 m 56 ls []) := by
  have hx := hX.1.1
  have hb := hX.1.2.1
  delta f_X3_isTwice_b56 at h
  refine lv_iinc (k := 2) (lv' := [(2, .int (a2 + (1 : Int32))), (0, .ref a0), (1, .int a1)]) hx hb dX3_isTwice_56 hl rfl (xiinc (by decide)) (Nat.le_of_ble_eq_true rfl) rfl (fun ls hl => ?_)
  refine lv_goto (tgt := 2) hx hb dX3_isTwice_59 (by decide) ?_
  exact hrec2 a0 a1 (a2 + (1 : Int32)) _ _ _ _ _ _ h hI (lv_sub hl [1, 2, 0] rfl)
theorem w_X3_isTwice_b2 {rec2 : Nat → Int32 → Int32 → xM Int32} {a0 : Nat} {a1 : Int32} {a2 : Int32} {r : Int32} (hX : xX E R p m c cX3_isTwice 3 s args RX3 "isTwice" meth (some .boolean) 3 63 σ0 σ9) (hrec2 : ∀ (a0 : Nat) (a1 : Int32) (a2 : Int32) (σ : xS) (H : Heap) (locs : List Loc) (cells slots : Nat) (ls : Array Slot), (rec2 a0 a1 a2).1 σ = some (r, σ9) → xI E σ0 σ s H locs cells slots → lv_has ls 3 [(0, .ref a0), (1, .int a1), (2, .int a2)] → W p l e R s m args below meth c H locs cells slots (xMQ E below args s σ0 σ9 (some (.int r))) (F0 m 2 ls []))
    (h : (f_X3_isTwice_b2 rec2 a0 a1 a2).1 σ = some (r, σ9)) (hI : xI E σ0 σ s H locs cells slots) (hl : lv_has ls 3 [(0, .ref a0), (1, .int a1), (2, .int a2)]) : W p l e R s m args below meth c H locs cells slots (xMQ E below args s σ0 σ9 (some (.int r))) (F0 m 2 ls []) := by
  have hx := hX.1.1
  have hb := hX.1.2.1
  delta f_X3_isTwice_b2 at h
  refine lv_iload_n hx hb dX3_isTwice_2 rfl (lv_at hl 2 rfl) ?_
  refine lv_iload_n hx hb dX3_isTwice_3 rfl (lv_at hl 1 rfl) ?_
  refine lv_icmp_ge (tgt := 62) hx hb dX3_isTwice_4 (by decide) (fun hc => ?_) (fun hc => ?_)
  · have h := xif_t h hc
    refine lv_iconst (v := (0 : Int32)) hx hb dX3_isTwice_62 (by decide) ?_
    exact xr_zreturn h hX hI dX3_isTwice_63
  · have h := xif_f h hc
    refine lv_aload_n hx hb dX3_isTwice_7 rfl (lv_at hl 0 rfl) ?_
    refine lv_iload_n hx hb dX3_isTwice_8 rfl (lv_at hl 2 rfl) ?_
    refine xr_callV (iv := (fun b => some (.int b))) (As := [.int a2]) (rest := []) h hX hI (fun _ _ h => w_X3_payee h) (fun _ _ h => o_X3_payee h) rfl 1 (lw_V q2064 q2066 qs35 q87 q2067) ⟨rfl, xd_X3_payee⟩ ⟨rfl, rfl⟩ rfl hl.1 (Nat.le_of_ble_eq_true rfl) dX3_isTwice_9 (fun v9 H locs σ cells slots h hI => ?_)
    refine W.eq (g2 := F0 m 12 ls [.int v9]) rfl ?_
    refine lv_aload_n hx hb dX3_isTwice_12 rfl (lv_at hl 0 rfl) ?_
    refine lv_iload_n hx hb dX3_isTwice_13 rfl (lv_at hl 1 rfl) ?_
    refine xr_callV (iv := (fun b => some (.int b))) (As := [.int a1]) (rest := [.int v9]) h hX hI (fun _ _ h => w_X3_payee h) (fun _ _ h => o_X3_payee h) rfl 1 (lw_V q2064 q2066 qs35 q87 q2067) ⟨rfl, xd_X3_payee⟩ ⟨rfl, rfl⟩ rfl hl.1 (Nat.le_of_ble_eq_true rfl) dX3_isTwice_14 (fun v10 H locs σ cells slots h hI => ?_)
    refine W.eq (g2 := F0 m 17 ls [.int v10, .int v9]) rfl ?_
    refine lv_icmp_ne (tgt := 56) hx hb dX3_isTwice_17 (by decide) (fun hc => ?_) (fun hc => ?_)
    · have h := xif_f h hc
      exact w_X3_isTwice_b56 hX hrec2 h hI (lv_sub hl [0, 1, 2] rfl)
    · have h := xif_t h hc
      refine lv_aload_n hx hb dX3_isTwice_20 rfl (lv_at hl 0 rfl) ?_
      refine lv_iload_n hx hb dX3_isTwice_21 rfl (lv_at hl 2 rfl) ?_
      refine lv_iconst (v := (0 : Int32)) hx hb dX3_isTwice_22 (by decide) ?_
      refine xr_callS (iv := (fun b => some (.int b))) (As := [.int a2, .int (0 : Int32)]) (rest := [.ref a0]) h hX hI (fun _ _ h => w_X3_ofInvoice h) 2 (lw_S q2068 q2069 q87 q2070) xd_X3_ofInvoice ⟨rfl, rfl⟩ rfl hl.1 (Nat.le_of_ble_eq_true rfl) dX3_isTwice_23 (fun v11 H locs σ cells slots h hI => ?_)
      refine W.eq (g2 := F0 m 26 ls [.int v11, .ref a0]) rfl ?_
      refine xr_callV (iv := (fun b => some (.int b))) (As := [.int v11]) (rest := []) h hX hI (fun _ _ h => w_X3_at h) (fun _ _ h => o_X3_at h) rfl 1 (lw_V q2022 q2024 qs31 q87 q2025) ⟨rfl, xd_X3_at⟩ ⟨rfl, rfl⟩ rfl hl.1 (Nat.le_of_ble_eq_true rfl) dX3_isTwice_26 (fun v12 H locs σ cells slots h hI => ?_)
      refine W.eq (g2 := F0 m 29 ls [.int v12]) rfl ?_
      refine lv_aload_n hx hb dX3_isTwice_29 rfl (lv_at hl 0 rfl) ?_
      refine lv_iload_n hx hb dX3_isTwice_30 rfl (lv_at hl 1 rfl) ?_
      refine lv_iconst (v := (0 : Int32)) hx hb dX3_isTwice_31 (by decide) ?_
      refine xr_callS (iv := (fun b => some (.int b))) (As := [.int a1, .int (0 : Int32)]) (rest := [.ref a0, .int v12]) h hX hI (fun _ _ h => w_X3_ofInvoice h) 2 (lw_S q2068 q2069 q87 q2070) xd_X3_ofInvoice ⟨rfl, rfl⟩ rfl hl.1 (Nat.le_of_ble_eq_true rfl) dX3_isTwice_32 (fun v13 H locs σ cells slots h hI => ?_)
      refine W.eq (g2 := F0 m 35 ls [.int v13, .ref a0, .int v12]) rfl ?_
      refine xr_callV (iv := (fun b => some (.int b))) (As := [.int v13]) (rest := [.int v12]) h hX hI (fun _ _ h => w_X3_at h) (fun _ _ h => o_X3_at h) rfl 1 (lw_V q2022 q2024 qs31 q87 q2025) ⟨rfl, xd_X3_at⟩ ⟨rfl, rfl⟩ rfl hl.1 (Nat.le_of_ble_eq_true rfl) dX3_isTwice_35 (fun v14 H locs σ cells slots h hI => ?_)
      refine W.eq (g2 := F0 m 38 ls [.int v14, .int v12]) rfl ?_
      refine lv_icmp_ne (tgt := 56) hx hb dX3_isTwice_38 (by decide) (fun hc => ?_) (fun hc => ?_)
      · have h := xif_f h hc
        exact w_X3_isTwice_b56 hX hrec2 h hI (lv_sub hl [0, 1, 2] rfl)
      · have h := xif_t h hc
        refine lv_aload_n hx hb dX3_isTwice_41 rfl (lv_at hl 0 rfl) ?_
        refine lv_iload_n hx hb dX3_isTwice_42 rfl (lv_at hl 2 rfl) ?_
        refine lv_iconst (v := (4 : Int32)) hx hb dX3_isTwice_43 (by decide) ?_
        refine xr_callS (iv := (fun b => some (.int b))) (As := [.int a2, .int (4 : Int32)]) (rest := [.ref a0]) h hX hI (fun _ _ h => w_X3_ofInvoice h) 2 (lw_S q2068 q2069 q87 q2070) xd_X3_ofInvoice ⟨rfl, rfl⟩ rfl hl.1 (Nat.le_of_ble_eq_true rfl) dX3_isTwice_44 (fun v15 H locs σ cells slots h hI => ?_)
        refine W.eq (g2 := F0 m 47 ls [.int v15, .ref a0]) rfl ?_
        refine xr_callV (iv := (fun b => some (.int b))) (As := [.int v15]) (rest := []) h hX hI (fun _ _ h => w_X3_at h) (fun _ _ h => o_X3_at h) rfl 1 (lw_V q2022 q2024 qs31 q87 q2025) ⟨rfl, xd_X3_at⟩ ⟨rfl, rfl⟩ rfl hl.1 (Nat.le_of_ble_eq_true rfl) dX3_isTwice_47 (fun v16 H locs σ cells slots h hI => ?_)
        refine W.eq (g2 := F0 m 50 ls [.int v16]) rfl ?_
        refine lv_iconst (v := (4 : Int32)) hx hb dX3_isTwice_50 (by decide) ?_
        refine lv_icmp_eq (tgt := 56) hx hb dX3_isTwice_51 (by decide) (fun hc => ?_) (fun hc => ?_)
        · have h := xif_t h hc
          exact w_X3_isTwice_b56 hX hrec2 h hI (lv_sub hl [0, 1, 2] rfl)
        · have h := xif_f h hc
          refine lv_iconst (v := (1 : Int32)) hx hb dX3_isTwice_54 (by decide) ?_
          exact xr_zreturn h hX hI dX3_isTwice_55
theorem w_X3_isTwice_L2 {r : Int32} (hX : xX E R p m c cX3_isTwice 3 s args RX3 "isTwice" meth (some .boolean) 3 63 σ0 σ9) : ∀ (n : Nat) (a0 : Nat) (a1 : Int32) (a2 : Int32) (σ : xS) (H : Heap) (locs : List Loc) (cells slots : Nat) (ls : Array Slot), (f_X3_isTwice_L2 n a0 a1 a2).1 σ = some (r, σ9) → xI E σ0 σ s H locs cells slots → lv_has ls 3 [(0, .ref a0), (1, .int a1), (2, .int a2)] → W p l e R s m args below meth c H locs cells slots (xMQ E below args s σ0 σ9 (some (.int r))) (F0 m 2 ls []) := by
  intro n
  induction n with
  | zero =>
    intro a0 a1 a2 σ H locs cells slots ls h
    exact xr_no h
  | succ n ih =>
    intro a0 a1 a2 σ H locs cells slots ls h hI hl
    exact w_X3_isTwice_b2 hX ih h hI hl
theorem o_X3_isTwice {a0 : Nat} {a1 : Int32} {r : Int32} {σ σ9 : xS} (h : (f_X3_isTwice a0 a1).1 σ = some (r, σ9)) : ∃ fs, σ.1 a0 = some (.inl (3, fs)) := xck_of h
theorem w_X3_isTwice {E : xE} {l : Launch} {a0 : Nat} {a1 : Int32} {r : Int32} {σ σ9 : xS} (h : (f_X3_isTwice a0 a1).1 σ = some (r, σ9)) : xMet E l yX3_isTwice (ws_ yX3_isTwice cX3_isTwice 3 (some .boolean)) 3 63 [.ref a0, .int a1] σ σ9 (some (.int r)) := by
  refine xstart (by decide +kernel) ((f_X3_isTwice a0 a1).2 _ _ _ h) (Nat.le_of_ble_eq_true rfl) ?_
  intro p e s m args below meth c H locs cells slots ls R hX hI hl
  have hx := hX.1.1
  have hb := hX.1.2.1
  have hl : lv_has ls 3 [(0, .ref a0), (1, .int a1)] := hl
  generalize hσ0 : σ = σ0 at hX hI ⊢
  have h : (f_X3_isTwice a0 a1).1 σ0 = some (r, σ9) := by rw [← hσ0]; exact h
  clear hσ0
  delta f_X3_isTwice at h
  have h := (xck_bd h).2
  refine lv_iconst (v := (0 : Int32)) hx hb dX3_isTwice_0 (by decide) ?_
  refine lv_istore_n (lv' := [(2, .int (0 : Int32)), (0, .ref a0), (1, .int a1)]) hx hb dX3_isTwice_1 rfl hl (Nat.le_of_ble_eq_true rfl) rfl (fun ls hl => ?_)
  exact w_X3_isTwice_L2 hX xFU a0 a1 (0 : Int32) _ _ _ _ _ _ h hI (lv_sub hl [1, 2, 0] rfl)
/-! PayMatchModel.reasons(I)I  -/
theorem w_X3_reasons_b114 {rec18 : Nat → Int32 → Int32 → Int32 → Int32 → Int32 → xM Int32} {t0 : Int32} {a0 : Nat} {a1 : Int32} {a2 : Int32} {a3 : Int32} {a5 : Int32} {r : Int32} (hX : xX E R p m c cX3_reasons 7 s args RX3 "reasons" meth (some .int) 5 149 σ0 σ9) (hrec18 : ∀ (a0 : Nat) (a1 : Int32) (a2 : Int32) (a3 : Int32) (a4 : Int32) (a5 : Int32) (σ : xS) (H : Heap) (locs : List Loc) (cells slots : Nat) (ls : Array Slot), (rec18 a0 a1 a2 a3 a4 a5).1 σ = some (r, σ9) → xI E σ0 σ s H locs cells slots → lv_has ls 7 [(0, .ref a0), (1, .int a1), (2, .int a2), (3, .int a3), (4, .int a4), (5, .int a5)] → W p l e R s m args below meth c H locs cells slots (xMQ E below args s σ0 σ9 (some (.int r))) (F0 m 18 ls []))
    (h : (f_X3_reasons_b114 rec18 t0 a0 a1 a2 a3 a5).1 σ = some (r, σ9)) (hI : xI E σ0 σ s H locs cells slots) (hl : lv_has ls 7 [(0, .ref a0), (1, .int a1), (2, .int a2), (3, .int a3), (5, .int a5)]) : W p l e R s m args below meth c H locs cells slots (xMQ E below args s σ0 σ9 (some (.int r))) (F0 m 114 ls [.int t0]) := by
  have hx := hX.1.1
  have hb := hX.1.2.1
  delta f_X3_reasons_b114 at h
  refine lv_istore (lv' := [(4, .int t0), (0, .ref a0), (1, .int a1), (2, .int a2), (3, .int a3), (5, .int a5)]) hx hb dX3_reasons_114 hl (Nat.le_of_ble_eq_true rfl) rfl (fun ls hl => ?_)
  refine lv_iinc (k := 5) (lv' := [(5, .int (a5 + (1 : Int32))), (4, .int t0), (0, .ref a0), (1, .int a1), (2, .int a2), (3, .int a3)]) hx hb dX3_reasons_116 hl rfl (xiinc (by decide)) (Nat.le_of_ble_eq_true rfl) rfl (fun ls hl => ?_)
  refine lv_goto (tgt := 18) hx hb dX3_reasons_119 (by decide) ?_
  exact hrec18 a0 a1 a2 a3 t0 (a5 + (1 : Int32)) _ _ _ _ _ _ h hI (lv_sub hl [2, 3, 4, 5, 1, 0] rfl)
theorem w_X3_reasons_b109 {rec18 : Nat → Int32 → Int32 → Int32 → Int32 → Int32 → xM Int32} {a0 : Nat} {a1 : Int32} {a2 : Int32} {a3 : Int32} {a5 : Int32} {r : Int32} (hX : xX E R p m c cX3_reasons 7 s args RX3 "reasons" meth (some .int) 5 149 σ0 σ9) (hrec18 : ∀ (a0 : Nat) (a1 : Int32) (a2 : Int32) (a3 : Int32) (a4 : Int32) (a5 : Int32) (σ : xS) (H : Heap) (locs : List Loc) (cells slots : Nat) (ls : Array Slot), (rec18 a0 a1 a2 a3 a4 a5).1 σ = some (r, σ9) → xI E σ0 σ s H locs cells slots → lv_has ls 7 [(0, .ref a0), (1, .int a1), (2, .int a2), (3, .int a3), (4, .int a4), (5, .int a5)] → W p l e R s m args below meth c H locs cells slots (xMQ E below args s σ0 σ9 (some (.int r))) (F0 m 18 ls []))
    (h : (f_X3_reasons_b109 rec18 a0 a1 a2 a3 a5).1 σ = some (r, σ9)) (hI : xI E σ0 σ s H locs cells slots) (hl : lv_has ls 7 [(0, .ref a0), (1, .int a1), (2, .int a2), (3, .int a3), (5, .int a5)]) : W p l e R s m args below meth c H locs cells slots (xMQ E below args s σ0 σ9 (some (.int r))) (F0 m 109 ls []) := by
  have hx := hX.1.1
  have hb := hX.1.2.1
  delta f_X3_reasons_b109 at h
  refine lv_iconst (v := (1 : Int32)) hx hb dX3_reasons_109 (by decide) ?_
  refine lv_goto (tgt := 114) hx hb dX3_reasons_110 (by decide) ?_
  exact w_X3_reasons_b114 hX hrec18 h hI (lv_sub hl [0, 1, 2, 3, 4] rfl)
theorem w_X3_reasons_b77 {rec18 : Nat → Int32 → Int32 → Int32 → Int32 → Int32 → xM Int32} {t0 : Int32} {a0 : Nat} {a1 : Int32} {a2 : Int32} {a4 : Int32} {a5 : Int32} {a6 : Int32} {r : Int32} (hX : xX E R p m c cX3_reasons 7 s args RX3 "reasons" meth (some .int) 5 149 σ0 σ9) (hrec18 : ∀ (a0 : Nat) (a1 : Int32) (a2 : Int32) (a3 : Int32) (a4 : Int32) (a5 : Int32) (σ : xS) (H : Heap) (locs : List Loc) (cells slots : Nat) (ls : Array Slot), (rec18 a0 a1 a2 a3 a4 a5).1 σ = some (r, σ9) → xI E σ0 σ s H locs cells slots → lv_has ls 7 [(0, .ref a0), (1, .int a1), (2, .int a2), (3, .int a3), (4, .int a4), (5, .int a5)] → W p l e R s m args below meth c H locs cells slots (xMQ E below args s σ0 σ9 (some (.int r))) (F0 m 18 ls []))
    (h : (f_X3_reasons_b77 rec18 t0 a0 a1 a2 a4 a5 a6).1 σ = some (r, σ9)) (hI : xI E σ0 σ s H locs cells slots) (hl : lv_has ls 7 [(0, .ref a0), (1, .int a1), (2, .int a2), (4, .int a4), (5, .int a5), (6, .int a6)]) : W p l e R s m args below meth c H locs cells slots (xMQ E below args s σ0 σ9 (some (.int r))) (F0 m 77 ls [.int t0]) := by
  have hx := hX.1.1
  have hb := hX.1.2.1
  delta f_X3_reasons_b77 at h
  refine lv_istore_n (lv' := [(3, .int t0), (0, .ref a0), (1, .int a1), (2, .int a2), (4, .int a4), (5, .int a5), (6, .int a6)]) hx hb dX3_reasons_77 rfl hl (Nat.le_of_ble_eq_true rfl) rfl (fun ls hl => ?_)
  refine lv_iload hx hb dX3_reasons_78 (lv_at hl 4 rfl) ?_
  refine lv_if_ne (tgt := 109) hx hb dX3_reasons_80 (by decide) (fun hc => ?_) (fun hc => ?_)
  · have h := xif_f h hc
    exact w_X3_reasons_b109 hX hrec18 h hI (lv_sub hl [1, 2, 3, 0, 5] rfl)
  · have h := xif_t h hc
    refine lv_aload_n hx hb dX3_reasons_83 rfl (lv_at hl 1 rfl) ?_
    refine lv_iload_n hx hb dX3_reasons_84 rfl (lv_at hl 3 rfl) ?_
    refine lv_iload hx hb dX3_reasons_85 (lv_at hl 6 rfl) ?_
    refine lv_aload_n hx hb dX3_reasons_87 rfl (lv_at hl 1 rfl) ?_
    refine lv_iload_n hx hb dX3_reasons_88 rfl (lv_at hl 2 rfl) ?_
    refine lv_iload_n hx hb dX3_reasons_89 rfl (lv_at hl 3 rfl) ?_
    refine lv_iload hx hb dX3_reasons_90 (lv_at hl 5 rfl) ?_
    refine xr_callV (iv := (fun b => some (.int b))) (As := [.int a1, .int a2, .int a5]) (rest := [.int a6, .int a2, .ref a0]) h hX hI (fun _ _ h => w_X3_billedBut h) (fun _ _ h => o_X3_billedBut h) rfl 3 (lw_V q2201 q2203 qs55 q87 q2204) ⟨rfl, xd_X3_billedBut⟩ ⟨rfl, rfl⟩ rfl hl.1 (Nat.le_of_ble_eq_true rfl) dX3_reasons_92 (fun v22 H locs σ cells slots h hI => ?_)
    refine W.eq (g2 := F0 m 95 ls [.int v22, .int a6, .int a2, .ref a0]) rfl ?_
    refine lv_aload_n hx hb dX3_reasons_95 rfl (lv_at hl 1 rfl) ?_
    refine lv_iload_n hx hb dX3_reasons_96 rfl (lv_at hl 2 rfl) ?_
    refine lv_iload hx hb dX3_reasons_97 (lv_at hl 5 rfl) ?_
    refine lv_iconst (v := (1 : Int32)) hx hb dX3_reasons_99 (by decide) ?_
    refine xr_callV (iv := (fun b => some (.int b))) (As := [.int a1, .int a5, .int (1 : Int32)]) (rest := [.int v22, .int a6, .int a2, .ref a0]) h hX hI (fun _ _ h => w_X3_entryOf h) (fun _ _ h => o_X3_entryOf h) rfl 3 (lw_V q2177 q2179 qs50 q87 q2180) ⟨rfl, xd_X3_entryOf⟩ ⟨rfl, rfl⟩ rfl hl.1 (Nat.le_of_ble_eq_true rfl) dX3_reasons_100 (fun v23 H locs σ cells slots h hI => ?_)
    refine W.eq (g2 := F0 m 103 ls [.int v23, .int v22, .int a6, .int a2, .ref a0]) rfl ?_
    refine xr_callV (iv := (fun b => some (.int b))) (As := [.int a2, .int a6, .int v22, .int v23]) (rest := []) h hX hI (fun _ _ h => w_X3_isMuch h) (fun _ _ h => o_X3_isMuch h) rfl 4 (lw_V q2205 q2207 qs56 q87 q2208) ⟨rfl, xd_X3_isMuch⟩ ⟨rfl, rfl⟩ rfl hl.1 (Nat.le_of_ble_eq_true rfl) dX3_reasons_103 (fun v24 H locs σ cells slots h hI => ?_)
    refine W.eq (g2 := F0 m 106 ls [.int v24]) rfl ?_
    refine lv_if_eq (tgt := 113) hx hb dX3_reasons_106 (by decide) (fun hc => ?_) (fun hc => ?_)
    · have h := xif_t h hc
      refine lv_iconst (v := (0 : Int32)) hx hb dX3_reasons_113 (by decide) ?_
      exact w_X3_reasons_b114 hX hrec18 h hI (lv_sub hl [1, 2, 3, 0, 5] rfl)
    · have h := xif_f h hc
      exact w_X3_reasons_b109 hX hrec18 h hI (lv_sub hl [1, 2, 3, 0, 5] rfl)
theorem w_X3_reasons_b72 {rec18 : Nat → Int32 → Int32 → Int32 → Int32 → Int32 → xM Int32} {a0 : Nat} {a1 : Int32} {a2 : Int32} {a4 : Int32} {a5 : Int32} {a6 : Int32} {r : Int32} (hX : xX E R p m c cX3_reasons 7 s args RX3 "reasons" meth (some .int) 5 149 σ0 σ9) (hrec18 : ∀ (a0 : Nat) (a1 : Int32) (a2 : Int32) (a3 : Int32) (a4 : Int32) (a5 : Int32) (σ : xS) (H : Heap) (locs : List Loc) (cells slots : Nat) (ls : Array Slot), (rec18 a0 a1 a2 a3 a4 a5).1 σ = some (r, σ9) → xI E σ0 σ s H locs cells slots → lv_has ls 7 [(0, .ref a0), (1, .int a1), (2, .int a2), (3, .int a3), (4, .int a4), (5, .int a5)] → W p l e R s m args below meth c H locs cells slots (xMQ E below args s σ0 σ9 (some (.int r))) (F0 m 18 ls []))
    (h : (f_X3_reasons_b72 rec18 a0 a1 a2 a4 a5 a6).1 σ = some (r, σ9)) (hI : xI E σ0 σ s H locs cells slots) (hl : lv_has ls 7 [(0, .ref a0), (1, .int a1), (2, .int a2), (4, .int a4), (5, .int a5), (6, .int a6)]) : W p l e R s m args below meth c H locs cells slots (xMQ E below args s σ0 σ9 (some (.int r))) (F0 m 72 ls []) := by
  have hx := hX.1.1
  have hb := hX.1.2.1
  delta f_X3_reasons_b72 at h
  refine lv_iconst (v := (1 : Int32)) hx hb dX3_reasons_72 (by decide) ?_
  refine lv_goto (tgt := 77) hx hb dX3_reasons_73 (by decide) ?_
  exact w_X3_reasons_b77 hX hrec18 h hI (lv_sub hl [0, 1, 2, 3, 4, 5] rfl)
theorem w_X3_reasons_b163 {t0 : Int32} {t1 : Int32} {r : Int32} (hX : xX E R p m c cX3_reasons 7 s args RX3 "reasons" meth (some .int) 5 149 σ0 σ9)
    (h : (f_X3_reasons_b163 t0 t1).1 σ = some (r, σ9)) (hI : xI E σ0 σ s H locs cells slots) (hl : lv_has ls 7 []) : W p l e R s m args below meth c H locs cells slots (xMQ E below args s σ0 σ9 (some (.int r))) (F0 m 163 ls [.int t1, .int t0]) := by
  have hx := hX.1.1
  have hb := hX.1.2.1
  delta f_X3_reasons_b163 at h
  refine lv_iadd hx hb dX3_reasons_163 ?_
  exact xr_ireturn h hX hI dX3_reasons_164
theorem w_X3_reasons_b151 {t0 : Int32} {t1 : Int32} {a4 : Int32} {r : Int32} (hX : xX E R p m c cX3_reasons 7 s args RX3 "reasons" meth (some .int) 5 149 σ0 σ9)
    (h : (f_X3_reasons_b151 t0 t1 a4).1 σ = some (r, σ9)) (hI : xI E σ0 σ s H locs cells slots) (hl : lv_has ls 7 [(4, .int a4)]) : W p l e R s m args below meth c H locs cells slots (xMQ E below args s σ0 σ9 (some (.int r))) (F0 m 151 ls [.int t1, .int t0]) := by
  have hx := hX.1.1
  have hb := hX.1.2.1
  delta f_X3_reasons_b151 at h
  refine lv_iadd hx hb dX3_reasons_151 ?_
  refine lv_iload hx hb dX3_reasons_152 (lv_at hl 0 rfl) ?_
  refine lv_if_eq (tgt := 162) hx hb dX3_reasons_154 (by decide) (fun hc => ?_) (fun hc => ?_)
  · have h := xif_t h hc
    refine lv_iconst (v := (0 : Int32)) hx hb dX3_reasons_162 (by decide) ?_
    exact w_X3_reasons_b163 hX h hI (lv_sub hl [] rfl)
  · have h := xif_f h hc
    refine lv_bipush (v := (16 : Int32)) hx hb dX3_reasons_157 (by decide) ?_
    refine lv_goto (tgt := 163) hx hb dX3_reasons_159 (by decide) ?_
    exact w_X3_reasons_b163 hX h hI (lv_sub hl [] rfl)
theorem w_X3_reasons_b140 {t0 : Int32} {t1 : Int32} {a3 : Int32} {a4 : Int32} {r : Int32} (hX : xX E R p m c cX3_reasons 7 s args RX3 "reasons" meth (some .int) 5 149 σ0 σ9)
    (h : (f_X3_reasons_b140 t0 t1 a3 a4).1 σ = some (r, σ9)) (hI : xI E σ0 σ s H locs cells slots) (hl : lv_has ls 7 [(3, .int a3), (4, .int a4)]) : W p l e R s m args below meth c H locs cells slots (xMQ E below args s σ0 σ9 (some (.int r))) (F0 m 140 ls [.int t1, .int t0]) := by
  have hx := hX.1.1
  have hb := hX.1.2.1
  delta f_X3_reasons_b140 at h
  refine lv_iadd hx hb dX3_reasons_140 ?_
  refine lv_iload_n hx hb dX3_reasons_141 rfl (lv_at hl 0 rfl) ?_
  refine lv_if_eq (tgt := 150) hx hb dX3_reasons_142 (by decide) (fun hc => ?_) (fun hc => ?_)
  · have h := xif_t h hc
    refine lv_iconst (v := (0 : Int32)) hx hb dX3_reasons_150 (by decide) ?_
    exact w_X3_reasons_b151 hX h hI (lv_sub hl [1] rfl)
  · have h := xif_f h hc
    refine lv_bipush (v := (8 : Int32)) hx hb dX3_reasons_145 (by decide) ?_
    refine lv_goto (tgt := 151) hx hb dX3_reasons_147 (by decide) ?_
    exact w_X3_reasons_b151 hX h hI (lv_sub hl [1] rfl)
theorem w_X3_reasons_b122 {a0 : Nat} {a1 : Int32} {a2 : Int32} {a3 : Int32} {a4 : Int32} {r : Int32} (hX : xX E R p m c cX3_reasons 7 s args RX3 "reasons" meth (some .int) 5 149 σ0 σ9)
    (h : (f_X3_reasons_b122 a0 a1 a2 a3 a4).1 σ = some (r, σ9)) (hI : xI E σ0 σ s H locs cells slots) (hl : lv_has ls 7 [(0, .ref a0), (1, .int a1), (2, .int a2), (3, .int a3), (4, .int a4)]) : W p l e R s m args below meth c H locs cells slots (xMQ E below args s σ0 σ9 (some (.int r))) (F0 m 122 ls []) := by
  have hx := hX.1.1
  have hb := hX.1.2.1
  delta f_X3_reasons_b122 at h
  refine lv_aload_n hx hb dX3_reasons_122 rfl (lv_at hl 0 rfl) ?_
  refine lv_iload_n hx hb dX3_reasons_123 rfl (lv_at hl 2 rfl) ?_
  refine xr_callV (iv := (fun b => some (.int b))) (As := [.int a2]) (rest := []) h hX hI (fun _ _ h => w_X3_reasonsOf h) (fun _ _ h => o_X3_reasonsOf h) rfl 1 (lw_V q2209 q2211 qs57 q87 q2212) ⟨rfl, xd_X3_reasonsOf⟩ ⟨rfl, rfl⟩ rfl hl.1 (Nat.le_of_ble_eq_true rfl) dX3_reasons_124 (fun v20 H locs σ cells slots h hI => ?_)
  refine W.eq (g2 := F0 m 127 ls [.int v20]) rfl ?_
  refine lv_aload_n hx hb dX3_reasons_127 rfl (lv_at hl 0 rfl) ?_
  refine lv_iload_n hx hb dX3_reasons_128 rfl (lv_at hl 1 rfl) ?_
  refine xr_callV (iv := (fun b => some (.int b))) (As := [.int a1]) (rest := [.int v20]) h hX hI (fun _ _ h => w_X3_isTwice h) (fun _ _ h => o_X3_isTwice h) rfl 1 (lw_V q2213 q2215 qs58 q87 q2216) ⟨rfl, xd_X3_isTwice⟩ ⟨rfl, rfl⟩ rfl hl.1 (Nat.le_of_ble_eq_true rfl) dX3_reasons_129 (fun v21 H locs σ cells slots h hI => ?_)
  refine W.eq (g2 := F0 m 132 ls [.int v21, .int v20]) rfl ?_
  refine lv_if_eq (tgt := 139) hx hb dX3_reasons_132 (by decide) (fun hc => ?_) (fun hc => ?_)
  · have h := xif_t h hc
    refine lv_iconst (v := (0 : Int32)) hx hb dX3_reasons_139 (by decide) ?_
    exact w_X3_reasons_b140 hX h hI (lv_sub hl [3, 4] rfl)
  · have h := xif_f h hc
    refine lv_iconst (v := (2 : Int32)) hx hb dX3_reasons_135 (by decide) ?_
    refine lv_goto (tgt := 140) hx hb dX3_reasons_136 (by decide) ?_
    exact w_X3_reasons_b140 hX h hI (lv_sub hl [3, 4] rfl)
theorem w_X3_reasons_b18 {rec18 : Nat → Int32 → Int32 → Int32 → Int32 → Int32 → xM Int32} {a0 : Nat} {a1 : Int32} {a2 : Int32} {a3 : Int32} {a4 : Int32} {a5 : Int32} {r : Int32} (hX : xX E R p m c cX3_reasons 7 s args RX3 "reasons" meth (some .int) 5 149 σ0 σ9) (hrec18 : ∀ (a0 : Nat) (a1 : Int32) (a2 : Int32) (a3 : Int32) (a4 : Int32) (a5 : Int32) (σ : xS) (H : Heap) (locs : List Loc) (cells slots : Nat) (ls : Array Slot), (rec18 a0 a1 a2 a3 a4 a5).1 σ = some (r, σ9) → xI E σ0 σ s H locs cells slots → lv_has ls 7 [(0, .ref a0), (1, .int a1), (2, .int a2), (3, .int a3), (4, .int a4), (5, .int a5)] → W p l e R s m args below meth c H locs cells slots (xMQ E below args s σ0 σ9 (some (.int r))) (F0 m 18 ls []))
    (h : (f_X3_reasons_b18 rec18 a0 a1 a2 a3 a4 a5).1 σ = some (r, σ9)) (hI : xI E σ0 σ s H locs cells slots) (hl : lv_has ls 7 [(0, .ref a0), (1, .int a1), (2, .int a2), (3, .int a3), (4, .int a4), (5, .int a5)]) : W p l e R s m args below meth c H locs cells slots (xMQ E below args s σ0 σ9 (some (.int r))) (F0 m 18 ls []) := by
  have hx := hX.1.1
  have hb := hX.1.2.1
  delta f_X3_reasons_b18 at h
  refine lv_iload hx hb dX3_reasons_18 (lv_at hl 5 rfl) ?_
  refine lv_aload_n hx hb dX3_reasons_20 rfl (lv_at hl 0 rfl) ?_
  refine lv_iload_n hx hb dX3_reasons_21 rfl (lv_at hl 1 rfl) ?_
  refine lv_iconst (v := (3 : Int32)) hx hb dX3_reasons_22 (by decide) ?_
  refine xr_callS (iv := (fun b => some (.int b))) (As := [.int a1, .int (3 : Int32)]) (rest := [.ref a0, .int a5]) h hX hI (fun _ _ h => w_X3_ofInvoice h) 2 (lw_S q2068 q2069 q87 q2070) xd_X3_ofInvoice ⟨rfl, rfl⟩ rfl hl.1 (Nat.le_of_ble_eq_true rfl) dX3_reasons_23 (fun v14 H locs σ cells slots h hI => ?_)
  refine W.eq (g2 := F0 m 26 ls [.int v14, .ref a0, .int a5]) rfl ?_
  refine xr_callV (iv := (fun b => some (.int b))) (As := [.int v14]) (rest := [.int a5]) h hX hI (fun _ _ h => w_X3_at h) (fun _ _ h => o_X3_at h) rfl 1 (lw_V q2022 q2024 qs31 q87 q2025) ⟨rfl, xd_X3_at⟩ ⟨rfl, rfl⟩ rfl hl.1 (Nat.le_of_ble_eq_true rfl) dX3_reasons_26 (fun v15 H locs σ cells slots h hI => ?_)
  refine W.eq (g2 := F0 m 29 ls [.int v15, .int a5]) rfl ?_
  refine lv_icmp_ge (tgt := 122) hx hb dX3_reasons_29 (by decide) (fun hc => ?_) (fun hc => ?_)
  · have h := xif_t h hc
    exact w_X3_reasons_b122 hX h hI (lv_sub hl [0, 1, 2, 3, 4] rfl)
  · have h := xif_f h hc
    refine lv_aload_n hx hb dX3_reasons_32 rfl (lv_at hl 0 rfl) ?_
    refine lv_iload_n hx hb dX3_reasons_33 rfl (lv_at hl 1 rfl) ?_
    refine lv_iload hx hb dX3_reasons_34 (lv_at hl 5 rfl) ?_
    refine lv_iconst (v := (0 : Int32)) hx hb dX3_reasons_36 (by decide) ?_
    refine xr_callV (iv := (fun b => some (.int b))) (As := [.int a1, .int a5, .int (0 : Int32)]) (rest := []) h hX hI (fun _ _ h => w_X3_entryOf h) (fun _ _ h => o_X3_entryOf h) rfl 3 (lw_V q2177 q2179 qs50 q87 q2180) ⟨rfl, xd_X3_entryOf⟩ ⟨rfl, rfl⟩ rfl hl.1 (Nat.le_of_ble_eq_true rfl) dX3_reasons_37 (fun v16 H locs σ cells slots h hI => ?_)
    refine W.eq (g2 := F0 m 40 ls [.int v16]) rfl ?_
    refine lv_istore (lv' := [(6, .int v16), (0, .ref a0), (1, .int a1), (2, .int a2), (3, .int a3), (4, .int a4), (5, .int a5)]) hx hb dX3_reasons_40 hl (Nat.le_of_ble_eq_true rfl) rfl (fun ls hl => ?_)
    refine lv_iload_n hx hb dX3_reasons_42 rfl (lv_at hl 4 rfl) ?_
    refine lv_if_ne (tgt := 72) hx hb dX3_reasons_43 (by decide) (fun hc => ?_) (fun hc => ?_)
    · have h := xif_f h hc
      exact w_X3_reasons_b72 hX hrec18 h hI (lv_sub hl [1, 2, 3, 5, 6, 0] rfl)
    · have h := xif_t h hc
      refine lv_aload_n hx hb dX3_reasons_46 rfl (lv_at hl 1 rfl) ?_
      refine lv_iload_n hx hb dX3_reasons_47 rfl (lv_at hl 3 rfl) ?_
      refine lv_iload hx hb dX3_reasons_48 (lv_at hl 0 rfl) ?_
      refine lv_aload_n hx hb dX3_reasons_50 rfl (lv_at hl 1 rfl) ?_
      refine lv_iload_n hx hb dX3_reasons_51 rfl (lv_at hl 2 rfl) ?_
      refine lv_iload hx hb dX3_reasons_52 (lv_at hl 6 rfl) ?_
      refine lv_iconst (v := (1 : Int32)) hx hb dX3_reasons_54 (by decide) ?_
      refine xr_callV (iv := (fun b => some (.int b))) (As := [.int a1, .int a5, .int (1 : Int32)]) (rest := [.int v16, .int a2, .ref a0]) h hX hI (fun _ _ h => w_X3_entryOf h) (fun _ _ h => o_X3_entryOf h) rfl 3 (lw_V q2177 q2179 qs50 q87 q2180) ⟨rfl, xd_X3_entryOf⟩ ⟨rfl, rfl⟩ rfl hl.1 (Nat.le_of_ble_eq_true rfl) dX3_reasons_55 (fun v17 H locs σ cells slots h hI => ?_)
      refine W.eq (g2 := F0 m 58 ls [.int v17, .int v16, .int a2, .ref a0]) rfl ?_
      refine lv_aload_n hx hb dX3_reasons_58 rfl (lv_at hl 1 rfl) ?_
      refine lv_iload_n hx hb dX3_reasons_59 rfl (lv_at hl 2 rfl) ?_
      refine lv_iload hx hb dX3_reasons_60 (lv_at hl 6 rfl) ?_
      refine lv_iconst (v := (2 : Int32)) hx hb dX3_reasons_62 (by decide) ?_
      refine xr_callV (iv := (fun b => some (.int b))) (As := [.int a1, .int a5, .int (2 : Int32)]) (rest := [.int v17, .int v16, .int a2, .ref a0]) h hX hI (fun _ _ h => w_X3_entryOf h) (fun _ _ h => o_X3_entryOf h) rfl 3 (lw_V q2177 q2179 qs50 q87 q2180) ⟨rfl, xd_X3_entryOf⟩ ⟨rfl, rfl⟩ rfl hl.1 (Nat.le_of_ble_eq_true rfl) dX3_reasons_63 (fun v18 H locs σ cells slots h hI => ?_)
      refine W.eq (g2 := F0 m 66 ls [.int v18, .int v17, .int v16, .int a2, .ref a0]) rfl ?_
      refine xr_callV (iv := (fun b => some (.int b))) (As := [.int a2, .int v16, .int v17, .int v18]) (rest := []) h hX hI (fun _ _ h => w_X3_isDear h) (fun _ _ h => o_X3_isDear h) rfl 4 (lw_V q2197 q2199 qs54 q87 q2200) ⟨rfl, xd_X3_isDear⟩ ⟨rfl, rfl⟩ rfl hl.1 (Nat.le_of_ble_eq_true rfl) dX3_reasons_66 (fun v19 H locs σ cells slots h hI => ?_)
      refine W.eq (g2 := F0 m 69 ls [.int v19]) rfl ?_
      refine lv_if_eq (tgt := 76) hx hb dX3_reasons_69 (by decide) (fun hc => ?_) (fun hc => ?_)
      · have h := xif_t h hc
        refine lv_iconst (v := (0 : Int32)) hx hb dX3_reasons_76 (by decide) ?_
        exact w_X3_reasons_b77 hX hrec18 h hI (lv_sub hl [1, 2, 3, 5, 6, 0] rfl)
      · have h := xif_f h hc
        exact w_X3_reasons_b72 hX hrec18 h hI (lv_sub hl [1, 2, 3, 5, 6, 0] rfl)
theorem w_X3_reasons_L18 {r : Int32} (hX : xX E R p m c cX3_reasons 7 s args RX3 "reasons" meth (some .int) 5 149 σ0 σ9) : ∀ (n : Nat) (a0 : Nat) (a1 : Int32) (a2 : Int32) (a3 : Int32) (a4 : Int32) (a5 : Int32) (σ : xS) (H : Heap) (locs : List Loc) (cells slots : Nat) (ls : Array Slot), (f_X3_reasons_L18 n a0 a1 a2 a3 a4 a5).1 σ = some (r, σ9) → xI E σ0 σ s H locs cells slots → lv_has ls 7 [(0, .ref a0), (1, .int a1), (2, .int a2), (3, .int a3), (4, .int a4), (5, .int a5)] → W p l e R s m args below meth c H locs cells slots (xMQ E below args s σ0 σ9 (some (.int r))) (F0 m 18 ls []) := by
  intro n
  induction n with
  | zero =>
    intro a0 a1 a2 a3 a4 a5 σ H locs cells slots ls h
    exact xr_no h
  | succ n ih =>
    intro a0 a1 a2 a3 a4 a5 σ H locs cells slots ls h hI hl
    exact w_X3_reasons_b18 hX ih h hI hl
theorem o_X3_reasons {a0 : Nat} {a1 : Int32} {r : Int32} {σ σ9 : xS} (h : (f_X3_reasons a0 a1).1 σ = some (r, σ9)) : ∃ fs, σ.1 a0 = some (.inl (3, fs)) := xck_of h
theorem w_X3_reasons {E : xE} {l : Launch} {a0 : Nat} {a1 : Int32} {r : Int32} {σ σ9 : xS} (h : (f_X3_reasons a0 a1).1 σ = some (r, σ9)) : xMet E l yX3_reasons (ws_ yX3_reasons cX3_reasons 7 (some .int)) 5 149 [.ref a0, .int a1] σ σ9 (some (.int r)) := by
  refine xstart (by decide +kernel) ((f_X3_reasons a0 a1).2 _ _ _ h) (Nat.le_of_ble_eq_true rfl) ?_
  intro p e s m args below meth c H locs cells slots ls R hX hI hl
  have hx := hX.1.1
  have hb := hX.1.2.1
  have hl : lv_has ls 7 [(0, .ref a0), (1, .int a1)] := hl
  generalize hσ0 : σ = σ0 at hX hI ⊢
  have h : (f_X3_reasons a0 a1).1 σ0 = some (r, σ9) := by rw [← hσ0]; exact h
  clear hσ0
  delta f_X3_reasons at h
  have h := (xck_bd h).2
  refine lv_aload_n hx hb dX3_reasons_0 rfl (lv_at hl 0 rfl) ?_
  refine lv_iload_n hx hb dX3_reasons_1 rfl (lv_at hl 1 rfl) ?_
  refine lv_iconst (v := (1 : Int32)) hx hb dX3_reasons_2 (by decide) ?_
  refine xr_callS (iv := (fun b => some (.int b))) (As := [.int a1, .int (1 : Int32)]) (rest := [.ref a0]) h hX hI (fun _ _ h => w_X3_ofInvoice h) 2 (lw_S q2068 q2069 q87 q2070) xd_X3_ofInvoice ⟨rfl, rfl⟩ rfl hl.1 (Nat.le_of_ble_eq_true rfl) dX3_reasons_3 (fun v25 H locs σ cells slots h hI => ?_)
  refine W.eq (g2 := F0 m 6 ls [.int v25, .ref a0]) rfl ?_
  refine xr_callV (iv := (fun b => some (.int b))) (As := [.int v25]) (rest := []) h hX hI (fun _ _ h => w_X3_at h) (fun _ _ h => o_X3_at h) rfl 1 (lw_V q2022 q2024 qs31 q87 q2025) ⟨rfl, xd_X3_at⟩ ⟨rfl, rfl⟩ rfl hl.1 (Nat.le_of_ble_eq_true rfl) dX3_reasons_6 (fun v26 H locs σ cells slots h hI => ?_)
  refine W.eq (g2 := F0 m 9 ls [.int v26]) rfl ?_
  refine lv_istore_n (lv' := [(2, .int v26), (0, .ref a0), (1, .int a1)]) hx hb dX3_reasons_9 rfl hl (Nat.le_of_ble_eq_true rfl) rfl (fun ls hl => ?_)
  refine lv_iconst (v := (0 : Int32)) hx hb dX3_reasons_10 (by decide) ?_
  refine lv_istore_n (lv' := [(3, .int (0 : Int32)), (2, .int v26), (0, .ref a0), (1, .int a1)]) hx hb dX3_reasons_11 rfl hl (Nat.le_of_ble_eq_true rfl) rfl (fun ls hl => ?_)
  refine lv_iconst (v := (0 : Int32)) hx hb dX3_reasons_12 (by decide) ?_
  refine lv_istore (lv' := [(4, .int (0 : Int32)), (3, .int (0 : Int32)), (2, .int v26), (0, .ref a0), (1, .int a1)]) hx hb dX3_reasons_13 hl (Nat.le_of_ble_eq_true rfl) rfl (fun ls hl => ?_)
  refine lv_iconst (v := (0 : Int32)) hx hb dX3_reasons_15 (by decide) ?_
  refine lv_istore (lv' := [(5, .int (0 : Int32)), (4, .int (0 : Int32)), (3, .int (0 : Int32)), (2, .int v26), (0, .ref a0), (1, .int a1)]) hx hb dX3_reasons_16 hl (Nat.le_of_ble_eq_true rfl) rfl (fun ls hl => ?_)
  exact w_X3_reasons_L18 hX xFU a0 a1 v26 (0 : Int32) (0 : Int32) (0 : Int32) _ _ _ _ _ _ h hI (lv_sub hl [4, 5, 3, 2, 1, 0] rfl)
/-! PayMatchModel.approves(I)V  -/
theorem w_X3_approves_b70 {a0 : Nat} {a1 : Int32} {r : Unit} (hX : xX E R p m c cX3_approves 4 s args RX3 "approves" meth none 3 67 σ0 σ9)
    (h : (f_X3_approves_b70 a0 a1).1 σ = some (r, σ9)) (hI : xI E σ0 σ s H locs cells slots) (hl : lv_has ls 4 [(0, .ref a0), (1, .int a1)]) : W p l e R s m args below meth c H locs cells slots (xMQ E below args s σ0 σ9 none) (F0 m 70 ls []) := by
  have hx := hX.1.1
  have hb := hX.1.2.1
  delta f_X3_approves_b70 at h
  refine lv_aload_n hx hb dX3_approves_70 rfl (lv_at hl 0 rfl) ?_
  refine lv_iconst (v := (3 : Int32)) hx hb dX3_approves_71 (by decide) ?_
  refine lv_iload_n hx hb dX3_approves_72 rfl (lv_at hl 1 rfl) ?_
  refine lv_aload_n hx hb dX3_approves_73 rfl (lv_at hl 0 rfl) ?_
  refine lv_iload_n hx hb dX3_approves_74 rfl (lv_at hl 1 rfl) ?_
  refine xr_callV (iv := (fun b => some (.int b))) (As := [.int a1]) (rest := [.int a1, .int (3 : Int32), .ref a0]) h hX hI (fun _ _ h => w_X3_total h) (fun _ _ h => o_X3_total h) rfl 1 (lw_V q2173 q2175 qs49 q87 q2176) ⟨rfl, xd_X3_total⟩ ⟨rfl, rfl⟩ rfl hl.1 (Nat.le_of_ble_eq_true rfl) dX3_approves_75 (fun v20 H locs σ cells slots h hI => ?_)
  refine W.eq (g2 := F0 m 78 ls [.int v20, .int a1, .int (3 : Int32), .ref a0]) rfl ?_
  refine xr_callV (iv := (fun _ => none)) (As := [.int (3 : Int32), .int a1, .int v20]) (rest := []) h hX hI (fun _ _ h => w_X3_log h) (fun _ _ h => o_X3_log h) rfl 3 (lw_V q2140 q2142 qs43 q87 q2143) ⟨rfl, xd_X3_log⟩ ⟨rfl, rfl⟩ rfl hl.1 (Nat.le_of_ble_eq_true rfl) dX3_approves_78 (fun _ H locs σ cells slots h hI => ?_)
  exact xr_return h hX hI dX3_approves_81
theorem w_X3_approves_b23 {rec23 : Nat → Int32 → Int32 → Int32 → xM Unit} {a0 : Nat} {a1 : Int32} {a2 : Int32} {a3 : Int32} {r : Unit} (hX : xX E R p m c cX3_approves 4 s args RX3 "approves" meth none 3 67 σ0 σ9) (hrec23 : ∀ (a0 : Nat) (a1 : Int32) (a2 : Int32) (a3 : Int32) (σ : xS) (H : Heap) (locs : List Loc) (cells slots : Nat) (ls : Array Slot), (rec23 a0 a1 a2 a3).1 σ = some (r, σ9) → xI E σ0 σ s H locs cells slots → lv_has ls 4 [(0, .ref a0), (1, .int a1), (2, .int a2), (3, .int a3)] → W p l e R s m args below meth c H locs cells slots (xMQ E below args s σ0 σ9 none) (F0 m 23 ls []))
    (h : (f_X3_approves_b23 rec23 a0 a1 a2 a3).1 σ = some (r, σ9)) (hI : xI E σ0 σ s H locs cells slots) (hl : lv_has ls 4 [(0, .ref a0), (1, .int a1), (2, .int a2), (3, .int a3)]) : W p l e R s m args below meth c H locs cells slots (xMQ E below args s σ0 σ9 none) (F0 m 23 ls []) := by
  have hx := hX.1.1
  have hb := hX.1.2.1
  delta f_X3_approves_b23 at h
  refine lv_iload_n hx hb dX3_approves_23 rfl (lv_at hl 3 rfl) ?_
  refine lv_aload_n hx hb dX3_approves_24 rfl (lv_at hl 0 rfl) ?_
  refine lv_iload_n hx hb dX3_approves_25 rfl (lv_at hl 1 rfl) ?_
  refine lv_iconst (v := (3 : Int32)) hx hb dX3_approves_26 (by decide) ?_
  refine xr_callS (iv := (fun b => some (.int b))) (As := [.int a1, .int (3 : Int32)]) (rest := [.ref a0, .int a3]) h hX hI (fun _ _ h => w_X3_ofInvoice h) 2 (lw_S q2068 q2069 q87 q2070) xd_X3_ofInvoice ⟨rfl, rfl⟩ rfl hl.1 (Nat.le_of_ble_eq_true rfl) dX3_approves_27 (fun v13 H locs σ cells slots h hI => ?_)
  refine W.eq (g2 := F0 m 30 ls [.int v13, .ref a0, .int a3]) rfl ?_
  refine xr_callV (iv := (fun b => some (.int b))) (As := [.int v13]) (rest := [.int a3]) h hX hI (fun _ _ h => w_X3_at h) (fun _ _ h => o_X3_at h) rfl 1 (lw_V q2022 q2024 qs31 q87 q2025) ⟨rfl, xd_X3_at⟩ ⟨rfl, rfl⟩ rfl hl.1 (Nat.le_of_ble_eq_true rfl) dX3_approves_30 (fun v14 H locs σ cells slots h hI => ?_)
  refine W.eq (g2 := F0 m 33 ls [.int v14, .int a3]) rfl ?_
  refine lv_icmp_ge (tgt := 70) hx hb dX3_approves_33 (by decide) (fun hc => ?_) (fun hc => ?_)
  · have h := xif_t h hc
    exact w_X3_approves_b70 hX h hI (lv_sub hl [0, 1] rfl)
  · have h := xif_f h hc
    refine lv_aload_n hx hb dX3_approves_36 rfl (lv_at hl 0 rfl) ?_
    refine xr_gN h hX hI xl_X3_13_3.g dX3_approves_37 (fun v15 h => ?_)
    refine lv_iload_n hx hb dX3_approves_40 rfl (lv_at hl 2 rfl) ?_
    refine lv_aload_n hx hb dX3_approves_41 rfl (lv_at hl 0 rfl) ?_
    refine lv_iload_n hx hb dX3_approves_42 rfl (lv_at hl 1 rfl) ?_
    refine lv_iload_n hx hb dX3_approves_43 rfl (lv_at hl 3 rfl) ?_
    refine lv_iconst (v := (0 : Int32)) hx hb dX3_approves_44 (by decide) ?_
    refine xr_callV (iv := (fun b => some (.int b))) (As := [.int a1, .int a3, .int (0 : Int32)]) (rest := [.int a2, .ref v15]) h hX hI (fun _ _ h => w_X3_entryOf h) (fun _ _ h => o_X3_entryOf h) rfl 3 (lw_V q2177 q2179 qs50 q87 q2180) ⟨rfl, xd_X3_entryOf⟩ ⟨rfl, rfl⟩ rfl hl.1 (Nat.le_of_ble_eq_true rfl) dX3_approves_45 (fun v16 H locs σ cells slots h hI => ?_)
    refine W.eq (g2 := F0 m 48 ls [.int v16, .int a2, .ref v15]) rfl ?_
    refine lv_iconst (v := (5 : Int32)) hx hb dX3_approves_48 (by decide) ?_
    refine xr_callS (iv := (fun b => some (.int b))) (As := [.int a2, .int v16, .int (5 : Int32)]) (rest := [.ref v15]) h hX hI (fun _ _ h => w_X3_ofLine h) 3 (lw_S q2103 q2104 q87 q2105) xd_X3_ofLine ⟨rfl, rfl⟩ rfl hl.1 (Nat.le_of_ble_eq_true rfl) dX3_approves_49 (fun v17 H locs σ cells slots h hI => ?_)
    refine W.eq (g2 := F0 m 52 ls [.int v17, .ref v15]) rfl ?_
    refine lv_dup2_11 hx hb dX3_approves_52 rfl rfl ?_
    refine xr_ldL h hX hI dX3_approves_53 (fun v18 h => ?_)
    refine lv_aload_n hx hb dX3_approves_54 rfl (lv_at hl 0 rfl) ?_
    refine lv_iload_n hx hb dX3_approves_55 rfl (lv_at hl 1 rfl) ?_
    refine lv_iload_n hx hb dX3_approves_56 rfl (lv_at hl 3 rfl) ?_
    refine lv_iconst (v := (1 : Int32)) hx hb dX3_approves_57 (by decide) ?_
    refine xr_callV (iv := (fun b => some (.int b))) (As := [.int a1, .int a3, .int (1 : Int32)]) (rest := [.long v18, .int v17, .ref v15]) h hX hI (fun _ _ h => w_X3_entryOf h) (fun _ _ h => o_X3_entryOf h) rfl 3 (lw_V q2177 q2179 qs50 q87 q2180) ⟨rfl, xd_X3_entryOf⟩ ⟨rfl, rfl⟩ rfl hl.1 (Nat.le_of_ble_eq_true rfl) dX3_approves_58 (fun v19 H locs σ cells slots h hI => ?_)
    refine W.eq (g2 := F0 m 61 ls [.int v19, .long v18, .int v17, .ref v15]) rfl ?_
    refine lv_i2l hx hb dX3_approves_61 rfl ?_
    refine lv_ladd hx hb dX3_approves_62 ?_
    refine xr_stL h hX hI dX3_approves_63 (fun H locs σ h hI => ?_)
    refine lv_iinc (k := 3) (lv' := [(3, .int (a3 + (1 : Int32))), (0, .ref a0), (1, .int a1), (2, .int a2)]) hx hb dX3_approves_64 hl rfl (xiinc (by decide)) (Nat.le_of_ble_eq_true rfl) rfl (fun ls hl => ?_)
    refine lv_goto (tgt := 23) hx hb dX3_approves_67 (by decide) ?_
    exact hrec23 a0 a1 a2 (a3 + (1 : Int32)) _ _ _ _ _ _ h hI (lv_sub hl [1, 2, 3, 0] rfl)
theorem w_X3_approves_L23 {r : Unit} (hX : xX E R p m c cX3_approves 4 s args RX3 "approves" meth none 3 67 σ0 σ9) : ∀ (n : Nat) (a0 : Nat) (a1 : Int32) (a2 : Int32) (a3 : Int32) (σ : xS) (H : Heap) (locs : List Loc) (cells slots : Nat) (ls : Array Slot), (f_X3_approves_L23 n a0 a1 a2 a3).1 σ = some (r, σ9) → xI E σ0 σ s H locs cells slots → lv_has ls 4 [(0, .ref a0), (1, .int a1), (2, .int a2), (3, .int a3)] → W p l e R s m args below meth c H locs cells slots (xMQ E below args s σ0 σ9 none) (F0 m 23 ls []) := by
  intro n
  induction n with
  | zero =>
    intro a0 a1 a2 a3 σ H locs cells slots ls h
    exact xr_no h
  | succ n ih =>
    intro a0 a1 a2 a3 σ H locs cells slots ls h hI hl
    exact w_X3_approves_b23 hX ih h hI hl
theorem o_X3_approves {a0 : Nat} {a1 : Int32} {r : Unit} {σ σ9 : xS} (h : (f_X3_approves a0 a1).1 σ = some (r, σ9)) : ∃ fs, σ.1 a0 = some (.inl (3, fs)) := xck_of h
theorem w_X3_approves {E : xE} {l : Launch} {a0 : Nat} {a1 : Int32} {r : Unit} {σ σ9 : xS} (h : (f_X3_approves a0 a1).1 σ = some (r, σ9)) : xMet E l yX3_approves (ws_ yX3_approves cX3_approves 4 none) 3 67 [.ref a0, .int a1] σ σ9 none := by
  refine xstart (by decide +kernel) ((f_X3_approves a0 a1).2 _ _ _ h) (Nat.le_of_ble_eq_true rfl) ?_
  intro p e s m args below meth c H locs cells slots ls R hX hI hl
  have hx := hX.1.1
  have hb := hX.1.2.1
  have hl : lv_has ls 4 [(0, .ref a0), (1, .int a1)] := hl
  generalize hσ0 : σ = σ0 at hX hI ⊢
  have h : (f_X3_approves a0 a1).1 σ0 = some (r, σ9) := by rw [← hσ0]; exact h
  clear hσ0
  delta f_X3_approves at h
  have h := (xck_bd h).2
  refine lv_aload_n hx hb dX3_approves_0 rfl (lv_at hl 0 rfl) ?_
  refine lv_iload_n hx hb dX3_approves_1 rfl (lv_at hl 1 rfl) ?_
  refine lv_iconst (v := (1 : Int32)) hx hb dX3_approves_2 (by decide) ?_
  refine xr_callS (iv := (fun b => some (.int b))) (As := [.int a1, .int (1 : Int32)]) (rest := [.ref a0]) h hX hI (fun _ _ h => w_X3_ofInvoice h) 2 (lw_S q2068 q2069 q87 q2070) xd_X3_ofInvoice ⟨rfl, rfl⟩ rfl hl.1 (Nat.le_of_ble_eq_true rfl) dX3_approves_3 (fun v21 H locs σ cells slots h hI => ?_)
  refine W.eq (g2 := F0 m 6 ls [.int v21, .ref a0]) rfl ?_
  refine xr_callV (iv := (fun b => some (.int b))) (As := [.int v21]) (rest := []) h hX hI (fun _ _ h => w_X3_at h) (fun _ _ h => o_X3_at h) rfl 1 (lw_V q2022 q2024 qs31 q87 q2025) ⟨rfl, xd_X3_at⟩ ⟨rfl, rfl⟩ rfl hl.1 (Nat.le_of_ble_eq_true rfl) dX3_approves_6 (fun v22 H locs σ cells slots h hI => ?_)
  refine W.eq (g2 := F0 m 9 ls [.int v22]) rfl ?_
  refine lv_istore_n (lv' := [(2, .int v22), (0, .ref a0), (1, .int a1)]) hx hb dX3_approves_9 rfl hl (Nat.le_of_ble_eq_true rfl) rfl (fun ls hl => ?_)
  refine lv_aload_n hx hb dX3_approves_10 rfl (lv_at hl 1 rfl) ?_
  refine xr_gN h hX hI xl_X3_13_3.g dX3_approves_11 (fun v23 h => ?_)
  refine lv_iload_n hx hb dX3_approves_14 rfl (lv_at hl 2 rfl) ?_
  refine lv_iconst (v := (4 : Int32)) hx hb dX3_approves_15 (by decide) ?_
  refine xr_callS (iv := (fun b => some (.int b))) (As := [.int a1, .int (4 : Int32)]) (rest := [.ref v23]) h hX hI (fun _ _ h => w_X3_ofInvoice h) 2 (lw_S q2068 q2069 q87 q2070) xd_X3_ofInvoice ⟨rfl, rfl⟩ rfl hl.1 (Nat.le_of_ble_eq_true rfl) dX3_approves_16 (fun v24 H locs σ cells slots h hI => ?_)
  refine W.eq (g2 := F0 m 19 ls [.int v24, .ref v23]) rfl ?_
  refine lv_lconst (v := (1 : Int64)) hx hb dX3_approves_19 (by decide) ?_
  refine xr_stL h hX hI dX3_approves_20 (fun H locs σ h hI => ?_)
  refine lv_iconst (v := (0 : Int32)) hx hb dX3_approves_21 (by decide) ?_
  refine lv_istore_n (lv' := [(3, .int (0 : Int32)), (2, .int v22), (0, .ref a0), (1, .int a1)]) hx hb dX3_approves_22 rfl hl (Nat.le_of_ble_eq_true rfl) rfl (fun ls hl => ?_)
  exact w_X3_approves_L23 hX xFU a0 a1 v22 (0 : Int32) _ _ _ _ _ _ h hI (lv_sub hl [2, 3, 1, 0] rfl)
/-! PayMatchModel.match(I)I  -/
theorem w_X3_match_b159 {a0 : Nat} {a2 : Int32} {r : Int32} (hX : xX E R p m c cX3_match 3 s args RX3 "match" meth (some .int) 6 175 σ0 σ9)
    (h : (f_X3_match_b159 a0 a2).1 σ = some (r, σ9)) (hI : xI E σ0 σ s H locs cells slots) (hl : lv_has ls 3 [(0, .ref a0), (2, .int a2)]) : W p l e R s m args below meth c H locs cells slots (xMQ E below args s σ0 σ9 (some (.int r))) (F0 m 159 ls []) := by
  have hx := hX.1.1
  have hb := hX.1.2.1
  delta f_X3_match_b159 at h
  refine lv_aload_n hx hb dX3_match_159 rfl (lv_at hl 0 rfl) ?_
  refine lv_iload_n hx hb dX3_match_160 rfl (lv_at hl 1 rfl) ?_
  refine xr_callV (iv := (fun b => some (.int b))) (As := [.int a2]) (rest := []) h hX hI (fun _ _ h => w_X3_acted h) (fun _ _ h => o_X3_acted h) rfl 1 (lw_V q2031 q2033 qs32 q87 q2034) ⟨rfl, xd_X3_acted⟩ ⟨rfl, rfl⟩ rfl hl.1 (Nat.le_of_ble_eq_true rfl) dX3_match_161 (fun v33 H locs σ cells slots h hI => ?_)
  refine W.eq (g2 := F0 m 164 ls [.int v33]) rfl ?_
  exact xr_ireturn h hX hI dX3_match_164
theorem w_X3_match_b115 {a0 : Nat} {a1 : Int32} {a2 : Int32} {r : Int32} (hX : xX E R p m c cX3_match 3 s args RX3 "match" meth (some .int) 6 175 σ0 σ9)
    (h : (f_X3_match_b115 a0 a1 a2).1 σ = some (r, σ9)) (hI : xI E σ0 σ s H locs cells slots) (hl : lv_has ls 3 [(0, .ref a0), (1, .int a1), (2, .int a2)]) : W p l e R s m args below meth c H locs cells slots (xMQ E below args s σ0 σ9 (some (.int r))) (F0 m 115 ls []) := by
  have hx := hX.1.1
  have hb := hX.1.2.1
  delta f_X3_match_b115 at h
  refine lv_aload_n hx hb dX3_match_115 rfl (lv_at hl 0 rfl) ?_
  refine xr_gN h hX hI xl_X3_13_3.g dX3_match_116 (fun v29 h => ?_)
  refine lv_iload_n hx hb dX3_match_119 rfl (lv_at hl 1 rfl) ?_
  refine lv_iconst (v := (5 : Int32)) hx hb dX3_match_120 (by decide) ?_
  refine xr_callS (iv := (fun b => some (.int b))) (As := [.int a1, .int (5 : Int32)]) (rest := [.ref v29]) h hX hI (fun _ _ h => w_X3_ofInvoice h) 2 (lw_S q2068 q2069 q87 q2070) xd_X3_ofInvoice ⟨rfl, rfl⟩ rfl hl.1 (Nat.le_of_ble_eq_true rfl) dX3_match_121 (fun v30 H locs σ cells slots h hI => ?_)
  refine W.eq (g2 := F0 m 124 ls [.int v30, .ref v29]) rfl ?_
  refine lv_iload_n hx hb dX3_match_124 rfl (lv_at hl 2 rfl) ?_
  refine lv_i2l hx hb dX3_match_125 rfl ?_
  refine xr_stL h hX hI dX3_match_126 (fun H locs σ h hI => ?_)
  refine lv_iload_n hx hb dX3_match_127 rfl (lv_at hl 2 rfl) ?_
  refine lv_if_ne (tgt := 139) hx hb dX3_match_128 (by decide) (fun hc => ?_) (fun hc => ?_)
  · have h := xif_f h hc
    refine lv_aload_n hx hb dX3_match_139 rfl (lv_at hl 0 rfl) ?_
    refine xr_gN h hX hI xl_X3_13_3.g dX3_match_140 (fun v31 h => ?_)
    refine lv_iload_n hx hb dX3_match_143 rfl (lv_at hl 1 rfl) ?_
    refine lv_iconst (v := (4 : Int32)) hx hb dX3_match_144 (by decide) ?_
    refine xr_callS (iv := (fun b => some (.int b))) (As := [.int a1, .int (4 : Int32)]) (rest := [.ref v31]) h hX hI (fun _ _ h => w_X3_ofInvoice h) 2 (lw_S q2068 q2069 q87 q2070) xd_X3_ofInvoice ⟨rfl, rfl⟩ rfl hl.1 (Nat.le_of_ble_eq_true rfl) dX3_match_145 (fun v32 H locs σ cells slots h hI => ?_)
    refine W.eq (g2 := F0 m 148 ls [.int v32, .ref v31]) rfl ?_
    refine lv_ldc2 (v := (2 : Int64)) hx hb hX.1.2.2.2.1 (hX.1.2.2.2.2 _ q2122) dX3_match_148 ?_
    refine xr_stL h hX hI dX3_match_151 (fun H locs σ h hI => ?_)
    refine lv_aload_n hx hb dX3_match_152 rfl (lv_at hl 0 rfl) ?_
    refine lv_iconst (v := (4 : Int32)) hx hb dX3_match_153 (by decide) ?_
    refine lv_iload_n hx hb dX3_match_154 rfl (lv_at hl 1 rfl) ?_
    refine lv_iload_n hx hb dX3_match_155 rfl (lv_at hl 2 rfl) ?_
    refine xr_callV (iv := (fun _ => none)) (As := [.int (4 : Int32), .int a1, .int a2]) (rest := []) h hX hI (fun _ _ h => w_X3_log h) (fun _ _ h => o_X3_log h) rfl 3 (lw_V q2140 q2142 qs43 q87 q2143) ⟨rfl, xd_X3_log⟩ ⟨rfl, rfl⟩ rfl hl.1 (Nat.le_of_ble_eq_true rfl) dX3_match_156 (fun _ H locs σ cells slots h hI => ?_)
    exact w_X3_match_b159 hX h hI (lv_sub hl [0, 2] rfl)
  · have h := xif_t h hc
    refine lv_aload_n hx hb dX3_match_131 rfl (lv_at hl 0 rfl) ?_
    refine lv_iload_n hx hb dX3_match_132 rfl (lv_at hl 1 rfl) ?_
    refine xr_callV (iv := (fun _ => none)) (As := [.int a1]) (rest := []) h hX hI (fun _ _ h => w_X3_approves h) (fun _ _ h => o_X3_approves h) rfl 1 (lw_V q2217 q2219 qs59 q87 q2220) ⟨rfl, xd_X3_approves⟩ ⟨rfl, rfl⟩ rfl hl.1 (Nat.le_of_ble_eq_true rfl) dX3_match_133 (fun _ H locs σ cells slots h hI => ?_)
    refine lv_goto (tgt := 159) hx hb dX3_match_136 (by decide) ?_
    exact w_X3_match_b159 hX h hI (lv_sub hl [0, 2] rfl)
theorem w_X3_match_b113 {t0 : Nat} {t1 : Int32} {t2 : Int64} {t3 : Int64} {a0 : Nat} {a1 : Int32} {a2 : Int32} {r : Int32} (hX : xX E R p m c cX3_match 3 s args RX3 "match" meth (some .int) 6 175 σ0 σ9)
    (h : (f_X3_match_b113 t0 t1 t2 t3 a0 a1 a2).1 σ = some (r, σ9)) (hI : xI E σ0 σ s H locs cells slots) (hl : lv_has ls 3 [(0, .ref a0), (1, .int a1), (2, .int a2)]) : W p l e R s m args below meth c H locs cells slots (xMQ E below args s σ0 σ9 (some (.int r))) (F0 m 113 ls [.long t3, .long t2, .int t1, .ref t0]) := by
  have hx := hX.1.1
  have hb := hX.1.2.1
  delta f_X3_match_b113 at h
  refine lv_ladd hx hb dX3_match_113 ?_
  refine xr_stL h hX hI dX3_match_114 (fun H locs σ h hI => ?_)
  exact w_X3_match_b115 hX h hI (lv_sub hl [0, 1, 2] rfl)
theorem w_X3_match_b60 {a0 : Nat} {a1 : Int32} {a2 : Int32} {r : Int32} (hX : xX E R p m c cX3_match 3 s args RX3 "match" meth (some .int) 6 175 σ0 σ9)
    (h : (f_X3_match_b60 a0 a1 a2).1 σ = some (r, σ9)) (hI : xI E σ0 σ s H locs cells slots) (hl : lv_has ls 3 [(0, .ref a0), (1, .int a1), (2, .int a2)]) : W p l e R s m args below meth c H locs cells slots (xMQ E below args s σ0 σ9 (some (.int r))) (F0 m 60 ls []) := by
  have hx := hX.1.1
  have hb := hX.1.2.1
  delta f_X3_match_b60 at h
  refine lv_aload_n hx hb dX3_match_60 rfl (lv_at hl 0 rfl) ?_
  refine lv_iload_n hx hb dX3_match_61 rfl (lv_at hl 1 rfl) ?_
  refine lv_bipush (v := (10 : Int32)) hx hb dX3_match_62 (by decide) ?_
  refine xr_callS (iv := (fun b => some (.int b))) (As := [.int a1, .int (10 : Int32)]) (rest := [.ref a0]) h hX hI (fun _ _ h => w_X3_ofInvoice h) 2 (lw_S q2068 q2069 q87 q2070) xd_X3_ofInvoice ⟨rfl, rfl⟩ rfl hl.1 (Nat.le_of_ble_eq_true rfl) dX3_match_64 (fun v21 H locs σ cells slots h hI => ?_)
  refine W.eq (g2 := F0 m 67 ls [.int v21, .ref a0]) rfl ?_
  refine xr_callV (iv := (fun b => some (.int b))) (As := [.int v21]) (rest := []) h hX hI (fun _ _ h => w_X3_at h) (fun _ _ h => o_X3_at h) rfl 1 (lw_V q2022 q2024 qs31 q87 q2025) ⟨rfl, xd_X3_at⟩ ⟨rfl, rfl⟩ rfl hl.1 (Nat.le_of_ble_eq_true rfl) dX3_match_67 (fun v22 H locs σ cells slots h hI => ?_)
  refine W.eq (g2 := F0 m 70 ls [.int v22]) rfl ?_
  refine lv_if_ne (tgt := 115) hx hb dX3_match_70 (by decide) (fun hc => ?_) (fun hc => ?_)
  · have h := xif_f h hc
    exact w_X3_match_b115 hX h hI (lv_sub hl [0, 1, 2] rfl)
  · have h := xif_t h hc
    refine lv_aload_n hx hb dX3_match_73 rfl (lv_at hl 0 rfl) ?_
    refine xr_gN h hX hI xl_X3_13_3.g dX3_match_74 (fun v23 h => ?_)
    refine lv_iload_n hx hb dX3_match_77 rfl (lv_at hl 1 rfl) ?_
    refine lv_bipush (v := (10 : Int32)) hx hb dX3_match_78 (by decide) ?_
    refine xr_callS (iv := (fun b => some (.int b))) (As := [.int a1, .int (10 : Int32)]) (rest := [.ref v23]) h hX hI (fun _ _ h => w_X3_ofInvoice h) 2 (lw_S q2068 q2069 q87 q2070) xd_X3_ofInvoice ⟨rfl, rfl⟩ rfl hl.1 (Nat.le_of_ble_eq_true rfl) dX3_match_80 (fun v24 H locs σ cells slots h hI => ?_)
    refine W.eq (g2 := F0 m 83 ls [.int v24, .ref v23]) rfl ?_
    refine lv_lconst (v := (1 : Int64)) hx hb dX3_match_83 (by decide) ?_
    refine xr_stL h hX hI dX3_match_84 (fun H locs σ h hI => ?_)
    refine lv_aload_n hx hb dX3_match_85 rfl (lv_at hl 0 rfl) ?_
    refine xr_gN h hX hI xl_X3_13_3.g dX3_match_86 (fun v25 h => ?_)
    refine lv_bipush (v := (8 : Int32)) hx hb dX3_match_89 (by decide) ?_
    refine lv_dup2_11 hx hb dX3_match_91 rfl rfl ?_
    refine xr_ldL h hX hI dX3_match_92 (fun v26 h => ?_)
    refine lv_lconst (v := (1 : Int64)) hx hb dX3_match_93 (by decide) ?_
    refine lv_ladd hx hb dX3_match_94 ?_
    refine xr_stL h hX hI dX3_match_95 (fun H locs σ h hI => ?_)
    refine lv_aload_n hx hb dX3_match_96 rfl (lv_at hl 0 rfl) ?_
    refine xr_gN h hX hI xl_X3_13_3.g dX3_match_97 (fun v27 h => ?_)
    refine lv_bipush (v := (7 : Int32)) hx hb dX3_match_100 (by decide) ?_
    refine lv_dup2_11 hx hb dX3_match_102 rfl rfl ?_
    refine xr_ldL h hX hI dX3_match_103 (fun v28 h => ?_)
    refine lv_iload_n hx hb dX3_match_104 rfl (lv_at hl 2 rfl) ?_
    refine lv_if_ne (tgt := 112) hx hb dX3_match_105 (by decide) (fun hc => ?_) (fun hc => ?_)
    · have h := xif_f h hc
      refine lv_lconst (v := (0 : Int64)) hx hb dX3_match_112 (by decide) ?_
      exact w_X3_match_b113 hX h hI (lv_sub hl [0, 1, 2] rfl)
    · have h := xif_t h hc
      refine lv_lconst (v := (1 : Int64)) hx hb dX3_match_108 (by decide) ?_
      refine lv_goto (tgt := 113) hx hb dX3_match_109 (by decide) ?_
      exact w_X3_match_b113 hX h hI (lv_sub hl [0, 1, 2] rfl)
theorem o_X3_match {a0 : Nat} {a1 : Int32} {r : Int32} {σ σ9 : xS} (h : (f_X3_match a0 a1).1 σ = some (r, σ9)) : ∃ fs, σ.1 a0 = some (.inl (3, fs)) := xck_of h
theorem w_X3_match {E : xE} {l : Launch} {a0 : Nat} {a1 : Int32} {r : Int32} {σ σ9 : xS} (h : (f_X3_match a0 a1).1 σ = some (r, σ9)) : xMet E l yX3_match (ws_ yX3_match cX3_match 3 (some .int)) 6 175 [.ref a0, .int a1] σ σ9 (some (.int r)) := by
  refine xstart (by decide +kernel) ((f_X3_match a0 a1).2 _ _ _ h) (Nat.le_of_ble_eq_true rfl) ?_
  intro p e s m args below meth c H locs cells slots ls R hX hI hl
  have hx := hX.1.1
  have hb := hX.1.2.1
  have hl : lv_has ls 3 [(0, .ref a0), (1, .int a1)] := hl
  generalize hσ0 : σ = σ0 at hX hI ⊢
  have h : (f_X3_match a0 a1).1 σ0 = some (r, σ9) := by rw [← hσ0]; exact h
  clear hσ0
  delta f_X3_match at h
  have h := (xck_bd h).2
  refine lv_aload_n hx hb dX3_match_0 rfl (lv_at hl 0 rfl) ?_
  refine xr_callV (iv := (fun _ => none)) (As := []) (rest := []) h hX hI (fun _ _ h => w_X3_aside h) (fun _ _ h => o_X3_aside h) rfl 0 (lw_V q2018 q2020 qs30 q87 q2021) ⟨rfl, xd_X3_aside⟩ ⟨rfl, rfl⟩ rfl hl.1 (Nat.le_of_ble_eq_true rfl) dX3_match_1 (fun _ H locs σ cells slots h hI => ?_)
  refine lv_aload_n hx hb dX3_match_4 rfl (lv_at hl 0 rfl) ?_
  refine lv_iload_n hx hb dX3_match_5 rfl (lv_at hl 1 rfl) ?_
  refine xr_callV (iv := (fun b => some (.int b))) (As := [.int a1]) (rest := []) h hX hI (fun _ _ h => w_X3_isInvoice h) (fun _ _ h => o_X3_isInvoice h) rfl 1 (lw_V q2185 q2187 qs51 q87 q2188) ⟨rfl, xd_X3_isInvoice⟩ ⟨rfl, rfl⟩ rfl hl.1 (Nat.le_of_ble_eq_true rfl) dX3_match_6 (fun v34 H locs σ cells slots h hI => ?_)
  refine W.eq (g2 := F0 m 9 ls [.int v34]) rfl ?_
  refine lv_if_ne (tgt := 14) hx hb dX3_match_9 (by decide) (fun hc => ?_) (fun hc => ?_)
  · have h := xif_f h hc
    refine lv_aload_n hx hb dX3_match_14 rfl (lv_at hl 0 rfl) ?_
    refine lv_iload_n hx hb dX3_match_15 rfl (lv_at hl 1 rfl) ?_
    refine xr_callV (iv := (fun b => some (.int b))) (As := [.int a1]) (rest := []) h hX hI (fun _ _ h => w_X3_isWaiting h) (fun _ _ h => o_X3_isWaiting h) rfl 1 (lw_V q2189 q2191 qs52 q87 q2192) ⟨rfl, xd_X3_isWaiting⟩ ⟨rfl, rfl⟩ rfl hl.1 (Nat.le_of_ble_eq_true rfl) dX3_match_16 (fun v35 H locs σ cells slots h hI => ?_)
    refine W.eq (g2 := F0 m 19 ls [.int v35]) rfl ?_
    refine lv_if_ne (tgt := 25) hx hb dX3_match_19 (by decide) (fun hc => ?_) (fun hc => ?_)
    · have h := xif_f h hc
      refine lv_aload_n hx hb dX3_match_25 rfl (lv_at hl 0 rfl) ?_
      refine lv_iload_n hx hb dX3_match_26 rfl (lv_at hl 1 rfl) ?_
      refine xr_callV (iv := (fun b => some (.int b))) (As := [.int a1]) (rest := []) h hX hI (fun _ _ h => w_X3_reasons h) (fun _ _ h => o_X3_reasons h) rfl 1 (lw_V q2193 q2195 qs53 q87 q2196) ⟨rfl, xd_X3_reasons⟩ ⟨rfl, rfl⟩ rfl hl.1 (Nat.le_of_ble_eq_true rfl) dX3_match_27 (fun v36 H locs σ cells slots h hI => ?_)
      refine W.eq (g2 := F0 m 30 ls [.int v36]) rfl ?_
      refine lv_istore_n (lv' := [(2, .int v36), (0, .ref a0), (1, .int a1)]) hx hb dX3_match_30 rfl hl (Nat.le_of_ble_eq_true rfl) rfl (fun ls hl => ?_)
      refine lv_aload_n hx hb dX3_match_31 rfl (lv_at hl 1 rfl) ?_
      refine lv_iload_n hx hb dX3_match_32 rfl (lv_at hl 2 rfl) ?_
      refine lv_iconst (v := (4 : Int32)) hx hb dX3_match_33 (by decide) ?_
      refine xr_callS (iv := (fun b => some (.int b))) (As := [.int a1, .int (4 : Int32)]) (rest := [.ref a0]) h hX hI (fun _ _ h => w_X3_ofInvoice h) 2 (lw_S q2068 q2069 q87 q2070) xd_X3_ofInvoice ⟨rfl, rfl⟩ rfl hl.1 (Nat.le_of_ble_eq_true rfl) dX3_match_34 (fun v37 H locs σ cells slots h hI => ?_)
      refine W.eq (g2 := F0 m 37 ls [.int v37, .ref a0]) rfl ?_
      refine xr_callV (iv := (fun b => some (.int b))) (As := [.int v37]) (rest := []) h hX hI (fun _ _ h => w_X3_at h) (fun _ _ h => o_X3_at h) rfl 1 (lw_V q2022 q2024 qs31 q87 q2025) ⟨rfl, xd_X3_at⟩ ⟨rfl, rfl⟩ rfl hl.1 (Nat.le_of_ble_eq_true rfl) dX3_match_37 (fun v38 H locs σ cells slots h hI => ?_)
      refine W.eq (g2 := F0 m 40 ls [.int v38]) rfl ?_
      refine lv_iconst (v := (2 : Int32)) hx hb dX3_match_40 (by decide) ?_
      refine lv_icmp_ne (tgt := 60) hx hb dX3_match_41 (by decide) (fun hc => ?_) (fun hc => ?_)
      · have h := xif_f h hc
        exact w_X3_match_b60 hX h hI (lv_sub hl [1, 2, 0] rfl)
      · have h := xif_t h hc
        refine lv_aload_n hx hb dX3_match_44 rfl (lv_at hl 1 rfl) ?_
        refine lv_iload_n hx hb dX3_match_45 rfl (lv_at hl 2 rfl) ?_
        refine lv_iconst (v := (5 : Int32)) hx hb dX3_match_46 (by decide) ?_
        refine xr_callS (iv := (fun b => some (.int b))) (As := [.int a1, .int (5 : Int32)]) (rest := [.ref a0]) h hX hI (fun _ _ h => w_X3_ofInvoice h) 2 (lw_S q2068 q2069 q87 q2070) xd_X3_ofInvoice ⟨rfl, rfl⟩ rfl hl.1 (Nat.le_of_ble_eq_true rfl) dX3_match_47 (fun v39 H locs σ cells slots h hI => ?_)
        refine W.eq (g2 := F0 m 50 ls [.int v39, .ref a0]) rfl ?_
        refine xr_callV (iv := (fun b => some (.int b))) (As := [.int v39]) (rest := []) h hX hI (fun _ _ h => w_X3_at h) (fun _ _ h => o_X3_at h) rfl 1 (lw_V q2022 q2024 qs31 q87 q2025) ⟨rfl, xd_X3_at⟩ ⟨rfl, rfl⟩ rfl hl.1 (Nat.le_of_ble_eq_true rfl) dX3_match_50 (fun v40 H locs σ cells slots h hI => ?_)
        refine W.eq (g2 := F0 m 53 ls [.int v40]) rfl ?_
        refine lv_iload_n hx hb dX3_match_53 rfl (lv_at hl 0 rfl) ?_
        refine lv_icmp_ne (tgt := 60) hx hb dX3_match_54 (by decide) (fun hc => ?_) (fun hc => ?_)
        · have h := xif_f h hc
          exact w_X3_match_b60 hX h hI (lv_sub hl [1, 2, 0] rfl)
        · have h := xif_t h hc
          refine lv_bipush (v := (-5 : Int32)) hx hb dX3_match_57 (by decide) ?_
          exact xr_ireturn h hX hI dX3_match_59
    · have h := xif_t h hc
      refine lv_bipush (v := (-4 : Int32)) hx hb dX3_match_22 (by decide) ?_
      exact xr_ireturn h hX hI dX3_match_24
  · have h := xif_t h hc
    refine lv_iconst (v := (-1 : Int32)) hx hb dX3_match_12 (by decide) ?_
    exact xr_ireturn h hX hI dX3_match_13
/-! PayMatch$State.noted(LPayMatch$Invoice;LPayMatch$Entry;)LPayMatch$Entry;  -/
theorem w_X1_noted_b41 {t0 : Int32} {a0 : Nat} {a1 : Nat} {a2 : Nat} {r : Nat} (hX : xX E R p m c cX1_noted 6 s args RX1 "noted" meth (some (.object "PayMatch$Entry")) 6 129 σ0 σ9)
    (h : (f_X1_noted_b41 t0 a0 a1 a2).1 σ = some (r, σ9)) (hI : xI E σ0 σ s H locs cells slots) (hl : lv_has ls 6 [(0, .ref a0), (1, .ref a1), (2, .ref a2)]) : W p l e R s m args below meth c H locs cells slots (xMQ E below args s σ0 σ9 (some (.ref r))) (F0 m 41 ls [.int t0]) := by
  have hx := hX.1.1
  have hb := hX.1.2.1
  delta f_X1_noted_b41 at h
  refine lv_istore (lv' := [(4, .int t0), (0, .ref a0), (1, .ref a1), (2, .ref a2)]) hx hb dX1_noted_41 hl (Nat.le_of_ble_eq_true rfl) rfl (fun ls hl => ?_)
  refine lv_aload_n hx hb dX1_noted_43 rfl (lv_at hl 3 rfl) ?_
  refine xr_gI h hX hI xl_X1_178_9 dX1_noted_44 (fun v17 h => ?_)
  refine lv_iconst (v := (0 : Int32)) hx hb dX1_noted_47 (by decide) ?_
  refine lv_aload_n hx hb dX1_noted_48 rfl (lv_at hl 1 rfl) ?_
  refine lv_aload_n hx hb dX1_noted_49 rfl (lv_at hl 2 rfl) ?_
  refine xr_gI h hX hI xl_X1_108_4 dX1_noted_50 (fun v18 h => ?_)
  refine lv_aload_n hx hb dX1_noted_53 rfl (lv_at hl 3 rfl) ?_
  refine xr_gI h hX hI xl_X1_113_9 dX1_noted_54 (fun v19 h => ?_)
  refine xr_callV (iv := (fun b => some (.int b))) (As := [.int v18, .int v19]) (rest := [.int (0 : Int32), .int v17]) h hX hI (fun _ _ h => w_X1_left h) (fun _ _ h => o_X1_left h) rfl 2 (lw_V q1723 q1724 q1725 q75 q1726) ⟨rfl, xd_X1_left⟩ ⟨rfl, rfl⟩ rfl hl.1 (Nat.le_of_ble_eq_true rfl) dX1_noted_57 (fun v20 H locs σ cells slots h hI => ?_)
  refine W.eq (g2 := F0 m 60 ls [.int v20, .int (0 : Int32), .int v17]) rfl ?_
  refine xr_callS (iv := (fun b => some (.int b))) (As := [.int (0 : Int32), .int v20]) (rest := [.int v17]) h hX hI (fun _ _ h => w_J21_max h) 2 (lw_S q1752 q646 q101 q647) xd_J21_max ⟨rfl, rfl⟩ rfl hl.1 (Nat.le_of_ble_eq_true rfl) dX1_noted_60 (fun v21 H locs σ cells slots h hI => ?_)
  refine W.eq (g2 := F0 m 63 ls [.int v21, .int v17]) rfl ?_
  refine xr_callS (iv := (fun b => some (.int b))) (As := [.int v17, .int v21]) (rest := []) h hX hI (fun _ _ h => w_J21_min h) 2 (lw_S q1753 q664 q101 q665) xd_J21_min ⟨rfl, rfl⟩ rfl hl.1 (Nat.le_of_ble_eq_true rfl) dX1_noted_63 (fun v22 H locs σ cells slots h hI => ?_)
  refine W.eq (g2 := F0 m 66 ls [.int v22]) rfl ?_
  refine lv_istore (lv' := [(5, .int v22), (4, .int t0), (0, .ref a0), (1, .ref a1), (2, .ref a2)]) hx hb dX1_noted_66 hl (Nat.le_of_ble_eq_true rfl) rfl (fun ls hl => ?_)
  refine xr_nw h hX hI xn_X1_114 dX1_noted_68 (fun v23 H σ cells slots h hI => ?_)
  refine lv_dup hx hb dX1_noted_71 rfl ?_
  refine lv_aload_n hx hb dX1_noted_72 rfl (lv_at hl 4 rfl) ?_
  refine xr_gI h hX hI xl_X1_113_9 dX1_noted_73 (fun v24 h => ?_)
  refine lv_iload hx hb dX1_noted_76 (lv_at hl 0 rfl) ?_
  refine lv_iload hx hb dX1_noted_78 (lv_at hl 1 rfl) ?_
  refine xr_callI (As := [.int v24, .int v22, .int t0]) (rest := [.ref v23]) h hX hI (fun _ _ h => w_X10_init h) 3 q1755 q1514 q113 q1513 rfl xd_X10_init ⟨rfl, rfl⟩ rfl hl.1 (Nat.le_of_ble_eq_true rfl) dX1_noted_80 (fun _ H locs σ cells slots h hI => ?_)
  exact xr_areturn h hX hI (Or.inl ⟨_, rfl⟩) dX1_noted_83
theorem o_X1_noted {a0 : Nat} {a1 : Nat} {a2 : Nat} {r : Nat} {σ σ9 : xS} (h : (f_X1_noted a0 a1 a2).1 σ = some (r, σ9)) : ∃ fs, σ.1 a0 = some (.inl (1, fs)) := xck_of h
theorem w_X1_noted {E : xE} {l : Launch} {a0 : Nat} {a1 : Nat} {a2 : Nat} {r : Nat} {σ σ9 : xS} (h : (f_X1_noted a0 a1 a2).1 σ = some (r, σ9)) : xMet E l yX1_noted (ws_ yX1_noted cX1_noted 6 (some (.object "PayMatch$Entry"))) 6 129 [.ref a0, .ref a1, .ref a2] σ σ9 (some (.ref r)) := by
  refine xstart (by decide +kernel) ((f_X1_noted a0 a1 a2).2 _ _ _ h) (Nat.le_of_ble_eq_true rfl) ?_
  intro p e s m args below meth c H locs cells slots ls R hX hI hl
  have hx := hX.1.1
  have hb := hX.1.2.1
  have hl : lv_has ls 6 [(0, .ref a0), (1, .ref a1), (2, .ref a2)] := hl
  generalize hσ0 : σ = σ0 at hX hI ⊢
  have h : (f_X1_noted a0 a1 a2).1 σ0 = some (r, σ9) := by rw [← hσ0]; exact h
  clear hσ0
  delta f_X1_noted at h
  have h := (xck_bd h).2
  refine lv_aload_n hx hb dX1_noted_0 rfl (lv_at hl 0 rfl) ?_
  refine lv_aload_n hx hb dX1_noted_1 rfl (lv_at hl 1 rfl) ?_
  refine lv_aload_n hx hb dX1_noted_2 rfl (lv_at hl 2 rfl) ?_
  refine xr_callV (iv := (fun b => some (.ref b))) (As := [.ref a1, .ref a2]) (rest := []) h hX hI (fun _ _ h => w_X1_lineOf h) (fun _ _ h => o_X1_lineOf h) rfl 2 (lw_V q1711 q1712 q1713 q75 q1714) ⟨rfl, xd_X1_lineOf⟩ ⟨rfl, rfl⟩ rfl hl.1 (Nat.le_of_ble_eq_true rfl) dX1_noted_3 (fun v25 H locs σ cells slots h hI => ?_)
  refine W.eq (g2 := F0 m 6 ls [.ref v25]) rfl ?_
  refine lv_astore_n (lv' := [(3, .ref v25), (0, .ref a0), (1, .ref a1), (2, .ref a2)]) hx hb dX1_noted_6 rfl hl (Nat.le_of_ble_eq_true rfl) rfl (fun ls hl => ?_)
  refine lv_aload_n hx hb dX1_noted_7 rfl (lv_at hl 1 rfl) ?_
  refine lv_aload_n hx hb dX1_noted_8 rfl (lv_at hl 2 rfl) ?_
  refine xr_gI h hX hI xl_X1_108_4 dX1_noted_9 (fun v26 h => ?_)
  refine xr_callV (iv := (fun b => some (.ref b))) (As := [.int v26]) (rest := []) h hX hI (fun _ _ h => w_X1_supplierOf h) (fun _ _ h => o_X1_supplierOf h) rfl 1 (lw_V q1496 q1435 q1436 q75 q1437) ⟨rfl, xd_X1_supplierOf⟩ ⟨rfl, rfl⟩ rfl hl.1 (Nat.le_of_ble_eq_true rfl) dX1_noted_12 (fun v27 H locs σ cells slots h hI => ?_)
  refine W.eq (g2 := F0 m 15 ls [.ref v27]) rfl ?_
  refine lv_aload_n hx hb dX1_noted_15 rfl (lv_at hl 3 rfl) ?_
  refine xr_gI h hX hI xl_X1_194_9 dX1_noted_16 (fun v28 h => ?_)
  refine lv_aload_n hx hb dX1_noted_19 rfl (lv_at hl 3 rfl) ?_
  refine xr_gI h hX hI xl_X1_178_9 dX1_noted_20 (fun v29 h => ?_)
  refine lv_aload_n hx hb dX1_noted_23 rfl (lv_at hl 0 rfl) ?_
  refine xr_callV (iv := (fun b => some (.int b))) (As := [.int v28, .int v29, .ref v25]) (rest := []) h hX hI (fun _ _ h => w_X7_isTooDear h) (fun _ _ h => o_X7_isTooDear h) rfl 3 (lw_V q1715 q1716 q1717 q108 q1718) ⟨rfl, xd_X7_isTooDear⟩ ⟨rfl, rfl⟩ rfl hl.1 (Nat.le_of_ble_eq_true rfl) dX1_noted_24 (fun v30 H locs σ cells slots h hI => ?_)
  refine W.eq (g2 := F0 m 27 ls [.int v30]) rfl ?_
  refine lv_if_eq (tgt := 37) hx hb dX1_noted_27 (by decide) (fun hc => ?_) (fun hc => ?_)
  · have h := xif_t h hc
    refine lv_aload_n hx hb dX1_noted_37 rfl (lv_at hl 3 rfl) ?_
    refine xr_gI h hX hI xl_X1_194_9 dX1_noted_38 (fun v31 h => ?_)
    exact w_X1_noted_b41 hX h hI (lv_sub hl [1, 2, 3] rfl)
  · have h := xif_f h hc
    refine lv_aload_n hx hb dX1_noted_30 rfl (lv_at hl 0 rfl) ?_
    refine xr_gI h hX hI xl_X1_226_5.g dX1_noted_31 (fun v32 h => ?_)
    refine lv_goto (tgt := 41) hx hb dX1_noted_34 (by decide) ?_
    exact w_X1_noted_b41 hX h hI (lv_sub hl [1, 2, 3] rfl)
/-! PayMatch$State.note(LPayMatch$Invoice;)I  -/
theorem w_X1_note_b39 {a0 : Nat} {a1 : Nat} {a2 : Int32} {r : Int32} (hX : xX E R p m c cX1_note 4 s args RX1 "note" meth (some .int) 7 175 σ0 σ9)
    (h : (f_X1_note_b39 a0 a1 a2).1 σ = some (r, σ9)) (hI : xI E σ0 σ s H locs cells slots) (hl : lv_has ls 4 [(0, .ref a0), (1, .ref a1), (2, .int a2)]) : W p l e R s m args below meth c H locs cells slots (xMQ E below args s σ0 σ9 (some (.int r))) (F0 m 39 ls []) := by
  have hx := hX.1.1
  have hb := hX.1.2.1
  delta f_X1_note_b39 at h
  refine lv_iload_n hx hb dX1_note_39 rfl (lv_at hl 2 rfl) ?_
  refine lv_aload_n hx hb dX1_note_40 rfl (lv_at hl 1 rfl) ?_
  refine xr_callV (iv := (fun b => some (.int b))) (As := []) (rest := [.int a2]) h hX hI (fun _ _ h => w_X4_total h) (fun _ _ h => o_X4_total h) rfl 0 (lw_V q1543 q1544 q1545 q105 q1546) ⟨rfl, xd_X4_total⟩ ⟨rfl, rfl⟩ rfl hl.1 (Nat.le_of_ble_eq_true rfl) dX1_note_41 (fun v20 H locs σ cells slots h hI => ?_)
  refine W.eq (g2 := F0 m 44 ls [.int v20, .int a2]) rfl ?_
  refine lv_isub hx hb dX1_note_44 ?_
  refine lv_istore_n (lv' := [(3, .int (a2 - v20)), (0, .ref a0), (1, .ref a1), (2, .int a2)]) hx hb dX1_note_45 rfl hl (Nat.le_of_ble_eq_true rfl) rfl (fun ls hl => ?_)
  refine lv_aload_n hx hb dX1_note_46 rfl (lv_at hl 2 rfl) ?_
  refine lv_iload_n hx hb dX1_note_47 rfl (lv_at hl 0 rfl) ?_
  refine xr_pt h hX hI xl_X1_241_4 (Or.inl rfl) rfl rfl dX1_note_48 (fun H locs σ h hI => ?_)
  refine lv_aload_n hx hb dX1_note_51 rfl (lv_at hl 1 rfl) ?_
  refine lv_aload_n hx hb dX1_note_52 rfl (lv_at hl 2 rfl) ?_
  refine xr_gI h hX hI xl_X1_108_4 dX1_note_53 (fun v21 h => ?_)
  refine xr_callV (iv := (fun b => some (.ref b))) (As := [.int v21]) (rest := []) h hX hI (fun _ _ h => w_X1_supplierOf h) (fun _ _ h => o_X1_supplierOf h) rfl 1 (lw_V q1496 q1435 q1436 q75 q1437) ⟨rfl, xd_X1_supplierOf⟩ ⟨rfl, rfl⟩ rfl hl.1 (Nat.le_of_ble_eq_true rfl) dX1_note_56 (fun v22 H locs σ cells slots h hI => ?_)
  refine W.eq (g2 := F0 m 59 ls [.ref v22]) rfl ?_
  refine lv_dup hx hb dX1_note_59 rfl ?_
  refine xr_gI h hX hI xl_X1_243_7.g dX1_note_60 (fun v23 h => ?_)
  refine lv_iload_n hx hb dX1_note_63 rfl (lv_at hl 0 rfl) ?_
  refine lv_iadd hx hb dX1_note_64 ?_
  refine xr_pt h hX hI xl_X1_243_7 (Or.inl rfl) rfl rfl dX1_note_65 (fun H locs σ h hI => ?_)
  refine lv_aload_n hx hb dX1_note_68 rfl (lv_at hl 1 rfl) ?_
  refine lv_dup hx hb dX1_note_69 rfl ?_
  refine xr_gI h hX hI xl_X1_72_1.g dX1_note_70 (fun v24 h => ?_)
  refine lv_iconst (v := (1 : Int32)) hx hb dX1_note_73 (by decide) ?_
  refine lv_iadd hx hb dX1_note_74 ?_
  refine xr_pt h hX hI xl_X1_72_1 (Or.inl rfl) rfl rfl dX1_note_75 (fun H locs σ h hI => ?_)
  refine lv_aload_n hx hb dX1_note_78 rfl (lv_at hl 1 rfl) ?_
  refine lv_iconst (v := (5 : Int32)) hx hb dX1_note_79 (by decide) ?_
  refine lv_aload_n hx hb dX1_note_80 rfl (lv_at hl 2 rfl) ?_
  refine xr_gI h hX hI xl_X1_159_4 dX1_note_81 (fun v25 h => ?_)
  refine lv_iload_n hx hb dX1_note_84 rfl (lv_at hl 0 rfl) ?_
  refine xr_callV (iv := (fun _ => none)) (As := [.int (5 : Int32), .int v25, .int (a2 - v20)]) (rest := []) h hX hI (fun _ _ h => w_X1_tell h) (fun _ _ h => o_X1_tell h) rfl 3 (lw_V q1449 q1450 q1451 q75 q1452) ⟨rfl, xd_X1_tell⟩ ⟨rfl, rfl⟩ rfl hl.1 (Nat.le_of_ble_eq_true rfl) dX1_note_85 (fun _ H locs σ cells slots h hI => ?_)
  refine lv_aload_n hx hb dX1_note_88 rfl (lv_at hl 1 rfl) ?_
  refine lv_aload_n hx hb dX1_note_89 rfl (lv_at hl 2 rfl) ?_
  refine xr_callV (iv := (fun _ => none)) (As := [.ref a1]) (rest := []) h hX hI (fun _ _ h => w_X1_approve h) (fun _ _ h => o_X1_approve h) rfl 1 (lw_V q1736 q1738 qs26 q75 q1739) ⟨rfl, xd_X1_approve⟩ ⟨rfl, rfl⟩ rfl hl.1 (Nat.le_of_ble_eq_true rfl) dX1_note_90 (fun _ H locs σ cells slots h hI => ?_)
  refine lv_iload_n hx hb dX1_note_93 rfl (lv_at hl 0 rfl) ?_
  exact xr_ireturn h hX hI dX1_note_94
theorem w_X1_note_b7 {rec7 : Nat → Nat → Int32 → Int32 → xM Int32} {a0 : Nat} {a1 : Nat} {a2 : Int32} {a3 : Int32} {r : Int32} (hX : xX E R p m c cX1_note 4 s args RX1 "note" meth (some .int) 7 175 σ0 σ9) (hrec7 : ∀ (a0 : Nat) (a1 : Nat) (a2 : Int32) (a3 : Int32) (σ : xS) (H : Heap) (locs : List Loc) (cells slots : Nat) (ls : Array Slot), (rec7 a0 a1 a2 a3).1 σ = some (r, σ9) → xI E σ0 σ s H locs cells slots → lv_has ls 4 [(0, .ref a0), (1, .ref a1), (2, .int a2), (3, .int a3)] → W p l e R s m args below meth c H locs cells slots (xMQ E below args s σ0 σ9 (some (.int r))) (F0 m 7 ls []))
    (h : (f_X1_note_b7 rec7 a0 a1 a2 a3).1 σ = some (r, σ9)) (hI : xI E σ0 σ s H locs cells slots) (hl : lv_has ls 4 [(0, .ref a0), (1, .ref a1), (2, .int a2), (3, .int a3)]) : W p l e R s m args below meth c H locs cells slots (xMQ E below args s σ0 σ9 (some (.int r))) (F0 m 7 ls []) := by
  have hx := hX.1.1
  have hb := hX.1.2.1
  delta f_X1_note_b7 at h
  refine lv_iload_n hx hb dX1_note_7 rfl (lv_at hl 3 rfl) ?_
  refine lv_aload_n hx hb dX1_note_8 rfl (lv_at hl 1 rfl) ?_
  refine xr_gN h hX hI xl_X1_190_4.g dX1_note_9 (fun v14 h => ?_)
  refine xr_ln h hX hI dX1_note_12 (fun v15 h => ?_)
  refine lv_icmp_ge (tgt := 39) hx hb dX1_note_13 (by decide) (fun hc => ?_) (fun hc => ?_)
  · have h := xif_t h hc
    exact w_X1_note_b39 hX h hI (lv_sub hl [0, 1, 2] rfl)
  · have h := xif_f h hc
    refine lv_aload_n hx hb dX1_note_16 rfl (lv_at hl 1 rfl) ?_
    refine xr_gN h hX hI xl_X1_190_4.g dX1_note_17 (fun v16 h => ?_)
    refine lv_iload_n hx hb dX1_note_20 rfl (lv_at hl 3 rfl) ?_
    refine lv_aload_n hx hb dX1_note_21 rfl (lv_at hl 0 rfl) ?_
    refine lv_aload_n hx hb dX1_note_22 rfl (lv_at hl 1 rfl) ?_
    refine lv_aload_n hx hb dX1_note_23 rfl (lv_at hl 1 rfl) ?_
    refine xr_gN h hX hI xl_X1_190_4.g dX1_note_24 (fun v17 h => ?_)
    refine lv_iload_n hx hb dX1_note_27 rfl (lv_at hl 3 rfl) ?_
    refine xr_ldN h hX hI (by decide) dX1_note_28 (fun v18 h => ?_)
    refine xr_callV (iv := (fun b => some (.ref b))) (As := [.ref a1, .ref v18]) (rest := [.int a3, .ref v16]) h hX hI (fun _ _ h => w_X1_noted h) (fun _ _ h => o_X1_noted h) rfl 2 (lw_V q1748 q1750 qs27 q75 q1751) ⟨rfl, xd_X1_noted⟩ ⟨rfl, rfl⟩ rfl hl.1 (Nat.le_of_ble_eq_true rfl) dX1_note_29 (fun v19 H locs σ cells slots h hI => ?_)
    refine W.eq (g2 := F0 m 32 ls [.ref v19, .int a3, .ref v16]) rfl ?_
    refine xr_stR h hX hI (by decide) dX1_note_32 (fun H locs σ h hI => ?_)
    refine lv_iinc (k := 3) (lv' := [(3, .int (a3 + (1 : Int32))), (0, .ref a0), (1, .ref a1), (2, .int a2)]) hx hb dX1_note_33 hl rfl (xiinc (by decide)) (Nat.le_of_ble_eq_true rfl) rfl (fun ls hl => ?_)
    refine lv_goto (tgt := 7) hx hb dX1_note_36 (by decide) ?_
    exact hrec7 a0 a1 a2 (a3 + (1 : Int32)) _ _ _ _ _ _ h hI (lv_sub hl [1, 2, 3, 0] rfl)
theorem w_X1_note_L7 {r : Int32} (hX : xX E R p m c cX1_note 4 s args RX1 "note" meth (some .int) 7 175 σ0 σ9) : ∀ (n : Nat) (a0 : Nat) (a1 : Nat) (a2 : Int32) (a3 : Int32) (σ : xS) (H : Heap) (locs : List Loc) (cells slots : Nat) (ls : Array Slot), (f_X1_note_L7 n a0 a1 a2 a3).1 σ = some (r, σ9) → xI E σ0 σ s H locs cells slots → lv_has ls 4 [(0, .ref a0), (1, .ref a1), (2, .int a2), (3, .int a3)] → W p l e R s m args below meth c H locs cells slots (xMQ E below args s σ0 σ9 (some (.int r))) (F0 m 7 ls []) := by
  intro n
  induction n with
  | zero =>
    intro a0 a1 a2 a3 σ H locs cells slots ls h
    exact xr_no h
  | succ n ih =>
    intro a0 a1 a2 a3 σ H locs cells slots ls h hI hl
    exact w_X1_note_b7 hX ih h hI hl
theorem o_X1_note {a0 : Nat} {a1 : Nat} {r : Int32} {σ σ9 : xS} (h : (f_X1_note a0 a1).1 σ = some (r, σ9)) : ∃ fs, σ.1 a0 = some (.inl (1, fs)) := xck_of h
theorem w_X1_note {E : xE} {l : Launch} {a0 : Nat} {a1 : Nat} {r : Int32} {σ σ9 : xS} (h : (f_X1_note a0 a1).1 σ = some (r, σ9)) : xMet E l yX1_note (ws_ yX1_note cX1_note 4 (some .int)) 7 175 [.ref a0, .ref a1] σ σ9 (some (.int r)) := by
  refine xstart (by decide +kernel) ((f_X1_note a0 a1).2 _ _ _ h) (Nat.le_of_ble_eq_true rfl) ?_
  intro p e s m args below meth c H locs cells slots ls R hX hI hl
  have hx := hX.1.1
  have hb := hX.1.2.1
  have hl : lv_has ls 4 [(0, .ref a0), (1, .ref a1)] := hl
  generalize hσ0 : σ = σ0 at hX hI ⊢
  have h : (f_X1_note a0 a1).1 σ0 = some (r, σ9) := by rw [← hσ0]; exact h
  clear hσ0
  delta f_X1_note at h
  have h := (xck_bd h).2
  refine lv_aload_n hx hb dX1_note_0 rfl (lv_at hl 1 rfl) ?_
  refine xr_callV (iv := (fun b => some (.int b))) (As := []) (rest := []) h hX hI (fun _ _ h => w_X4_total h) (fun _ _ h => o_X4_total h) rfl 0 (lw_V q1543 q1544 q1545 q105 q1546) ⟨rfl, xd_X4_total⟩ ⟨rfl, rfl⟩ rfl hl.1 (Nat.le_of_ble_eq_true rfl) dX1_note_1 (fun v26 H locs σ cells slots h hI => ?_)
  refine W.eq (g2 := F0 m 4 ls [.int v26]) rfl ?_
  refine lv_istore_n (lv' := [(2, .int v26), (0, .ref a0), (1, .ref a1)]) hx hb dX1_note_4 rfl hl (Nat.le_of_ble_eq_true rfl) rfl (fun ls hl => ?_)
  refine lv_iconst (v := (0 : Int32)) hx hb dX1_note_5 (by decide) ?_
  refine lv_istore_n (lv' := [(3, .int (0 : Int32)), (2, .int v26), (0, .ref a0), (1, .ref a1)]) hx hb dX1_note_6 rfl hl (Nat.le_of_ble_eq_true rfl) rfl (fun ls hl => ?_)
  exact w_X1_note_L7 hX xFU a0 a1 v26 (0 : Int32) _ _ _ _ _ _ h hI (lv_sub hl [2, 3, 1, 0] rfl)
/-! PayMatch.note(I)I  -/
theorem o_X0_note {a0 : Nat} {a1 : Int32} {r : Int32} {σ σ9 : xS} (h : (f_X0_note a0 a1).1 σ = some (r, σ9)) : ∃ fs, σ.1 a0 = some (.inl (0, fs)) := xck_of h
theorem w_X0_note {E : xE} {l : Launch} {a0 : Nat} {a1 : Int32} {r : Int32} {σ σ9 : xS} (h : (f_X0_note a0 a1).1 σ = some (r, σ9)) : xMet E l yX0_note (ws_ yX0_note cX0_note 5 (some .int)) 14 438 [.ref a0, .int a1] σ σ9 (some (.int r)) := by
  refine xstart (by decide +kernel) ((f_X0_note a0 a1).2 _ _ _ h) (Nat.le_of_ble_eq_true rfl) ?_
  intro p e s m args below meth c H locs cells slots ls R hX hI hl
  have hx := hX.1.1
  have hb := hX.1.2.1
  have hl : lv_has ls 5 [(0, .ref a0), (1, .int a1)] := hl
  generalize hσ0 : σ = σ0 at hX hI ⊢
  have h : (f_X0_note a0 a1).1 σ0 = some (r, σ9) := by rw [← hσ0]; exact h
  clear hσ0
  delta f_X0_note at h
  have h := (xck_bd h).2
  refine lv_aload_n hx hb dX0_note_0 rfl (lv_at hl 0 rfl) ?_
  refine xr_gN h hX hI xl_X0_22_0.g dX0_note_1 (fun v16 h => ?_)
  refine xr_gN h hX hI xl_X0_211_1.g dX0_note_4 (fun v17 h => ?_)
  refine lv_iload_n hx hb dX0_note_7 rfl (lv_at hl 1 rfl) ?_
  refine xr_callV (iv := (fun b => some (.int b))) (As := [.int a1]) (rest := []) h hX hI (fun _ _ h => w_X2_has h) (fun _ _ h => o_X2_has h) rfl 1 (lw_V q1225 q1226 q1227 q76 q1228) ⟨rfl, xd_X2_has⟩ ⟨rfl, rfl⟩ rfl hl.1 (Nat.le_of_ble_eq_true rfl) dX0_note_8 (fun v18 H locs σ cells slots h hI => ?_)
  refine W.eq (g2 := F0 m 11 ls [.int v18]) rfl ?_
  refine lv_if_ne (tgt := 16) hx hb dX0_note_11 (by decide) (fun hc => ?_) (fun hc => ?_)
  · have h := xif_f h hc
    refine lv_aload_n hx hb dX0_note_16 rfl (lv_at hl 0 rfl) ?_
    refine xr_gN h hX hI xl_X0_22_0.g dX0_note_17 (fun v19 h => ?_)
    refine xr_gN h hX hI xl_X0_211_1.g dX0_note_20 (fun v20 h => ?_)
    refine lv_iload_n hx hb dX0_note_23 rfl (lv_at hl 1 rfl) ?_
    refine xr_callV (iv := (fun b => some (.ref b))) (As := [.int a1]) (rest := []) h hX hI (fun _ _ h => w_X2_get h) (fun _ _ h => o_X2_get h) rfl 1 (lw_V q1249 q1250 q1251 q76 q1252) ⟨rfl, xd_X2_get⟩ ⟨rfl, rfl⟩ rfl hl.1 (Nat.le_of_ble_eq_true rfl) dX0_note_24 (fun v21 H locs σ cells slots h hI => ?_)
    refine W.eq (g2 := F0 m 27 ls [.ref v21]) rfl ?_
    refine xr_cks h hX hI xc_X0_261 dX0_note_27 (fun h => ?_)
    refine lv_astore_n (lv' := [(2, .ref v21), (0, .ref a0), (1, .int a1)]) hx hb dX0_note_30 rfl hl (Nat.le_of_ble_eq_true rfl) rfl (fun ls hl => ?_)
    refine lv_aload_n hx hb dX0_note_31 rfl (lv_at hl 0 rfl) ?_
    refine xr_gI h hX hI xl_X0_266_4.g dX0_note_32 (fun v22 h => ?_)
    refine lv_iconst (v := (2 : Int32)) hx hb dX0_note_35 (by decide) ?_
    refine lv_icmp_ne (tgt := 53) hx hb dX0_note_36 (by decide) (fun hc => ?_) (fun hc => ?_)
    · have h := xif_f h hc
      refine lv_bipush (v := (-4 : Int32)) hx hb dX0_note_53 (by decide) ?_
      exact xr_ireturn h hX hI dX0_note_55
    · have h := xif_t h hc
      refine lv_aload_n hx hb dX0_note_39 rfl (lv_at hl 1 rfl) ?_
      refine xr_gN h hX hI xl_X0_22_0.g dX0_note_40 (fun v23 h => ?_)
      refine lv_aload_n hx hb dX0_note_43 rfl (lv_at hl 0 rfl) ?_
      refine xr_callV (iv := (fun b => some (.int b))) (As := [.ref v21]) (rest := []) h hX hI (fun _ _ h => w_X1_against h) (fun _ _ h => o_X1_against h) rfl 1 (lw_V q1703 q1704 q1705 q75 q1706) ⟨rfl, xd_X1_against⟩ ⟨rfl, rfl⟩ rfl hl.1 (Nat.le_of_ble_eq_true rfl) dX0_note_44 (fun v24 H locs σ cells slots h hI => ?_)
      refine W.eq (g2 := F0 m 47 ls [.int v24]) rfl ?_
      refine lv_bipush (v := (8 : Int32)) hx hb dX0_note_47 (by decide) ?_
      refine lv_irem hx hb dX0_note_49 (by decide) ?_
      refine lv_if_le (tgt := 56) hx hb dX0_note_50 (by decide) (fun hc => ?_) (fun hc => ?_)
      · have h := xif_t h hc
        refine lv_aload_n hx hb dX0_note_56 rfl (lv_at hl 1 rfl) ?_
        refine xr_gN h hX hI xl_X0_22_0.g dX0_note_57 (fun v25 h => ?_)
        refine xr_callV (iv := (fun b => some (.ref b))) (As := []) (rest := []) h hX hI (fun _ _ h => w_X1_copy h) (fun _ _ h => o_X1_copy h) rfl 0 (lw_V q323 q324 q325 q75 q326) ⟨rfl, xd_X1_copy⟩ ⟨rfl, rfl⟩ rfl hl.1 (Nat.le_of_ble_eq_true rfl) dX0_note_60 (fun v26 H locs σ cells slots h hI => ?_)
        refine W.eq (g2 := F0 m 63 ls [.ref v26]) rfl ?_
        refine lv_astore_n (lv' := [(3, .ref v26), (2, .ref v21), (0, .ref a0), (1, .int a1)]) hx hb dX0_note_63 rfl hl (Nat.le_of_ble_eq_true rfl) rfl (fun ls hl => ?_)
        refine lv_aload_n hx hb dX0_note_64 rfl (lv_at hl 0 rfl) ?_
        refine lv_aload_n hx hb dX0_note_65 rfl (lv_at hl 0 rfl) ?_
        refine xr_gN h hX hI xl_X0_211_1.g dX0_note_66 (fun v27 h => ?_)
        refine lv_iload_n hx hb dX0_note_69 rfl (lv_at hl 3 rfl) ?_
        refine xr_callV (iv := (fun b => some (.ref b))) (As := [.int a1]) (rest := [.ref v26]) h hX hI (fun _ _ h => w_X2_get h) (fun _ _ h => o_X2_get h) rfl 1 (lw_V q1249 q1250 q1251 q76 q1252) ⟨rfl, xd_X2_get⟩ ⟨rfl, rfl⟩ rfl hl.1 (Nat.le_of_ble_eq_true rfl) dX0_note_70 (fun v28 H locs σ cells slots h hI => ?_)
        refine W.eq (g2 := F0 m 73 ls [.ref v28, .ref v26]) rfl ?_
        refine xr_cks h hX hI xc_X0_261 dX0_note_73 (fun h => ?_)
        refine xr_callV (iv := (fun b => some (.int b))) (As := [.ref v28]) (rest := []) h hX hI (fun _ _ h => w_X1_note h) (fun _ _ h => o_X1_note h) rfl 1 (lw_V q1744 q1745 q1746 q75 q1747) ⟨rfl, xd_X1_note⟩ ⟨rfl, rfl⟩ rfl hl.1 (Nat.le_of_ble_eq_true rfl) dX0_note_76 (fun v29 H locs σ cells slots h hI => ?_)
        refine W.eq (g2 := F0 m 79 ls [.int v29]) rfl ?_
        refine lv_istore (lv' := [(4, .int v29), (3, .ref v26), (2, .ref v21), (0, .ref a0), (1, .int a1)]) hx hb dX0_note_79 hl (Nat.le_of_ble_eq_true rfl) rfl (fun ls hl => ?_)
        refine lv_aload_n hx hb dX0_note_81 rfl (lv_at hl 3 rfl) ?_
        refine lv_aload_n hx hb dX0_note_82 rfl (lv_at hl 1 rfl) ?_
        refine lv_iload hx hb dX0_note_83 (lv_at hl 0 rfl) ?_
        refine xr_callV (iv := (fun b => some (.int b))) (As := [.ref v26, .int v29]) (rest := []) h hX hI (fun _ _ h => w_X0_become h) (fun _ _ h => o_X0_become h) rfl 2 (lw_V q1182 q1184 qs9 q74 q1185) ⟨rfl, xd_X0_become⟩ ⟨rfl, rfl⟩ rfl hl.1 (Nat.le_of_ble_eq_true rfl) dX0_note_85 (fun v30 H locs σ cells slots h hI => ?_)
        refine W.eq (g2 := F0 m 88 ls [.int v30]) rfl ?_
        exact xr_ireturn h hX hI dX0_note_88
      · have h := xif_f h hc
        refine lv_bipush (v := (-4 : Int32)) hx hb dX0_note_53 (by decide) ?_
        exact xr_ireturn h hX hI dX0_note_55
  · have h := xif_t h hc
    refine lv_iconst (v := (-1 : Int32)) hx hb dX0_note_14 (by decide) ?_
    exact xr_ireturn h hX hI dX0_note_15
/-! PayMatchModel.note(I)I  -/
theorem w_X3_note_b215 {rec60 : Nat → Int32 → Int32 → Int32 → Int32 → xM Int32} {a0 : Nat} {a1 : Int32} {a2 : Int32} {a3 : Int32} {a4 : Int32} {r : Int32} (hX : xX E R p m c cX3_note 8 s args RX3 "note" meth (some .int) 6 175 σ0 σ9) (hrec60 : ∀ (a0 : Nat) (a1 : Int32) (a2 : Int32) (a3 : Int32) (a4 : Int32) (σ : xS) (H : Heap) (locs : List Loc) (cells slots : Nat) (ls : Array Slot), (rec60 a0 a1 a2 a3 a4).1 σ = some (r, σ9) → xI E σ0 σ s H locs cells slots → lv_has ls 8 [(0, .ref a0), (1, .int a1), (2, .int a2), (3, .int a3), (4, .int a4)] → W p l e R s m args below meth c H locs cells slots (xMQ E below args s σ0 σ9 (some (.int r))) (F0 m 60 ls []))
    (h : (f_X3_note_b215 rec60 a0 a1 a2 a3 a4).1 σ = some (r, σ9)) (hI : xI E σ0 σ s H locs cells slots) (hl : lv_has ls 8 [(0, .ref a0), (1, .int a1), (2, .int a2), (3, .int a3), (4, .int a4)]) : W p l e R s m args below meth c H locs cells slots (xMQ E below args s σ0 σ9 (some (.int r))) (F0 m 215 ls []) := by
  have hx := hX.1.1
  have hb := hX.1.2.1
  delta f_X3_note_b215 at h
  refine lv_iinc (k := 4) (lv' := [(4, .int (a4 + (1 : Int32))), (0, .ref a0), (1, .int a1), (2, .int a2), (3, .int a3)]) hx hb dX3_note_215 hl rfl (xiinc (by decide)) (Nat.le_of_ble_eq_true rfl) rfl (fun ls hl => ?_)
  refine lv_goto (tgt := 60) hx hb dX3_note_218 (by decide) ?_
  exact hrec60 a0 a1 a2 a3 (a4 + (1 : Int32)) _ _ _ _ _ _ h hI (lv_sub hl [1, 2, 3, 4, 0] rfl)
theorem w_X3_note_b214 {rec60 : Nat → Int32 → Int32 → Int32 → Int32 → xM Int32} {t0 : Nat} {t1 : Int32} {t2 : Int64} {a0 : Nat} {a1 : Int32} {a2 : Int32} {a3 : Int32} {a4 : Int32} {r : Int32} (hX : xX E R p m c cX3_note 8 s args RX3 "note" meth (some .int) 6 175 σ0 σ9) (hrec60 : ∀ (a0 : Nat) (a1 : Int32) (a2 : Int32) (a3 : Int32) (a4 : Int32) (σ : xS) (H : Heap) (locs : List Loc) (cells slots : Nat) (ls : Array Slot), (rec60 a0 a1 a2 a3 a4).1 σ = some (r, σ9) → xI E σ0 σ s H locs cells slots → lv_has ls 8 [(0, .ref a0), (1, .int a1), (2, .int a2), (3, .int a3), (4, .int a4)] → W p l e R s m args below meth c H locs cells slots (xMQ E below args s σ0 σ9 (some (.int r))) (F0 m 60 ls []))
    (h : (f_X3_note_b214 rec60 t0 t1 t2 a0 a1 a2 a3 a4).1 σ = some (r, σ9)) (hI : xI E σ0 σ s H locs cells slots) (hl : lv_has ls 8 [(0, .ref a0), (1, .int a1), (2, .int a2), (3, .int a3), (4, .int a4)]) : W p l e R s m args below meth c H locs cells slots (xMQ E below args s σ0 σ9 (some (.int r))) (F0 m 214 ls [.long t2, .int t1, .ref t0]) := by
  have hx := hX.1.1
  have hb := hX.1.2.1
  delta f_X3_note_b214 at h
  refine xr_stL h hX hI dX3_note_214 (fun H locs σ h hI => ?_)
  exact w_X3_note_b215 hX hrec60 h hI (lv_sub hl [0, 1, 2, 3, 4] rfl)
theorem w_X3_note_b144 {rec60 : Nat → Int32 → Int32 → Int32 → Int32 → xM Int32} {a0 : Nat} {a1 : Int32} {a2 : Int32} {a3 : Int32} {a4 : Int32} {a5 : Int32} {a6 : Int32} {r : Int32} (hX : xX E R p m c cX3_note 8 s args RX3 "note" meth (some .int) 6 175 σ0 σ9) (hrec60 : ∀ (a0 : Nat) (a1 : Int32) (a2 : Int32) (a3 : Int32) (a4 : Int32) (σ : xS) (H : Heap) (locs : List Loc) (cells slots : Nat) (ls : Array Slot), (rec60 a0 a1 a2 a3 a4).1 σ = some (r, σ9) → xI E σ0 σ s H locs cells slots → lv_has ls 8 [(0, .ref a0), (1, .int a1), (2, .int a2), (3, .int a3), (4, .int a4)] → W p l e R s m args below meth c H locs cells slots (xMQ E below args s σ0 σ9 (some (.int r))) (F0 m 60 ls []))
    (h : (f_X3_note_b144 rec60 a0 a1 a2 a3 a4 a5 a6).1 σ = some (r, σ9)) (hI : xI E σ0 σ s H locs cells slots) (hl : lv_has ls 8 [(0, .ref a0), (1, .int a1), (2, .int a2), (3, .int a3), (4, .int a4), (5, .int a5), (6, .int a6)]) : W p l e R s m args below meth c H locs cells slots (xMQ E below args s σ0 σ9 (some (.int r))) (F0 m 144 ls []) := by
  have hx := hX.1.1
  have hb := hX.1.2.1
  delta f_X3_note_b144 at h
  refine lv_aload_n hx hb dX3_note_144 rfl (lv_at hl 0 rfl) ?_
  refine lv_iload_n hx hb dX3_note_145 rfl (lv_at hl 2 rfl) ?_
  refine lv_iload hx hb dX3_note_146 (lv_at hl 5 rfl) ?_
  refine lv_aload_n hx hb dX3_note_148 rfl (lv_at hl 0 rfl) ?_
  refine lv_iload_n hx hb dX3_note_149 rfl (lv_at hl 2 rfl) ?_
  refine lv_iload hx hb dX3_note_150 (lv_at hl 5 rfl) ?_
  refine lv_iconst (v := (5 : Int32)) hx hb dX3_note_152 (by decide) ?_
  refine xr_callS (iv := (fun b => some (.int b))) (As := [.int a2, .int a5, .int (5 : Int32)]) (rest := [.ref a0, .int a5, .int a2, .ref a0]) h hX hI (fun _ _ h => w_X3_ofLine h) 3 (lw_S q2103 q2104 q87 q2105) xd_X3_ofLine ⟨rfl, rfl⟩ rfl hl.1 (Nat.le_of_ble_eq_true rfl) dX3_note_153 (fun v58 H locs σ cells slots h hI => ?_)
  refine W.eq (g2 := F0 m 156 ls [.int v58, .ref a0, .int a5, .int a2, .ref a0]) rfl ?_
  refine xr_callV (iv := (fun b => some (.int b))) (As := [.int v58]) (rest := [.int a5, .int a2, .ref a0]) h hX hI (fun _ _ h => w_X3_at h) (fun _ _ h => o_X3_at h) rfl 1 (lw_V q2022 q2024 qs31 q87 q2025) ⟨rfl, xd_X3_at⟩ ⟨rfl, rfl⟩ rfl hl.1 (Nat.le_of_ble_eq_true rfl) dX3_note_156 (fun v59 H locs σ cells slots h hI => ?_)
  refine W.eq (g2 := F0 m 159 ls [.int v59, .int a5, .int a2, .ref a0]) rfl ?_
  refine lv_aload_n hx hb dX3_note_159 rfl (lv_at hl 0 rfl) ?_
  refine lv_iload_n hx hb dX3_note_160 rfl (lv_at hl 1 rfl) ?_
  refine lv_iload hx hb dX3_note_161 (lv_at hl 4 rfl) ?_
  refine lv_iconst (v := (1 : Int32)) hx hb dX3_note_163 (by decide) ?_
  refine xr_callV (iv := (fun b => some (.int b))) (As := [.int a1, .int a4, .int (1 : Int32)]) (rest := [.int v59, .int a5, .int a2, .ref a0]) h hX hI (fun _ _ h => w_X3_entryOf h) (fun _ _ h => o_X3_entryOf h) rfl 3 (lw_V q2177 q2179 qs50 q87 q2180) ⟨rfl, xd_X3_entryOf⟩ ⟨rfl, rfl⟩ rfl hl.1 (Nat.le_of_ble_eq_true rfl) dX3_note_164 (fun v60 H locs σ cells slots h hI => ?_)
  refine W.eq (g2 := F0 m 167 ls [.int v60, .int v59, .int a5, .int a2, .ref a0]) rfl ?_
  refine xr_callV (iv := (fun b => some (.int b))) (As := [.int a2, .int a5, .int v59, .int v60]) (rest := []) h hX hI (fun _ _ h => w_X3_isMuch h) (fun _ _ h => o_X3_isMuch h) rfl 4 (lw_V q2205 q2207 qs56 q87 q2208) ⟨rfl, xd_X3_isMuch⟩ ⟨rfl, rfl⟩ rfl hl.1 (Nat.le_of_ble_eq_true rfl) dX3_note_167 (fun v61 H locs σ cells slots h hI => ?_)
  refine W.eq (g2 := F0 m 170 ls [.int v61]) rfl ?_
  refine lv_if_eq (tgt := 215) hx hb dX3_note_170 (by decide) (fun hc => ?_) (fun hc => ?_)
  · have h := xif_t h hc
    exact w_X3_note_b215 hX hrec60 h hI (lv_sub hl [0, 1, 2, 3, 4] rfl)
  · have h := xif_f h hc
    refine lv_aload_n hx hb dX3_note_173 rfl (lv_at hl 0 rfl) ?_
    refine lv_iload_n hx hb dX3_note_174 rfl (lv_at hl 2 rfl) ?_
    refine lv_iload hx hb dX3_note_175 (lv_at hl 5 rfl) ?_
    refine xr_callV (iv := (fun b => some (.int b))) (As := [.int a2, .int a5]) (rest := []) h hX hI (fun _ _ h => w_X3_billsMost h) (fun _ _ h => o_X3_billsMost h) rfl 2 (lw_V q2152 q2154 qs45 q87 q2155) ⟨rfl, xd_X3_billsMost⟩ ⟨rfl, rfl⟩ rfl hl.1 (Nat.le_of_ble_eq_true rfl) dX3_note_177 (fun v62 H locs σ cells slots h hI => ?_)
    refine W.eq (g2 := F0 m 180 ls [.int v62]) rfl ?_
    refine lv_aload_n hx hb dX3_note_180 rfl (lv_at hl 0 rfl) ?_
    refine lv_iload_n hx hb dX3_note_181 rfl (lv_at hl 2 rfl) ?_
    refine lv_iload hx hb dX3_note_182 (lv_at hl 5 rfl) ?_
    refine lv_iconst (v := (5 : Int32)) hx hb dX3_note_184 (by decide) ?_
    refine xr_callS (iv := (fun b => some (.int b))) (As := [.int a2, .int a5, .int (5 : Int32)]) (rest := [.ref a0, .int v62]) h hX hI (fun _ _ h => w_X3_ofLine h) 3 (lw_S q2103 q2104 q87 q2105) xd_X3_ofLine ⟨rfl, rfl⟩ rfl hl.1 (Nat.le_of_ble_eq_true rfl) dX3_note_185 (fun v63 H locs σ cells slots h hI => ?_)
    refine W.eq (g2 := F0 m 188 ls [.int v63, .ref a0, .int v62]) rfl ?_
    refine xr_callV (iv := (fun b => some (.int b))) (As := [.int v63]) (rest := [.int v62]) h hX hI (fun _ _ h => w_X3_at h) (fun _ _ h => o_X3_at h) rfl 1 (lw_V q2022 q2024 qs31 q87 q2025) ⟨rfl, xd_X3_at⟩ ⟨rfl, rfl⟩ rfl hl.1 (Nat.le_of_ble_eq_true rfl) dX3_note_188 (fun v64 H locs σ cells slots h hI => ?_)
    refine W.eq (g2 := F0 m 191 ls [.int v64, .int v62]) rfl ?_
    refine lv_isub hx hb dX3_note_191 ?_
    refine lv_istore (lv' := [(7, .int (v62 - v64)), (0, .ref a0), (1, .int a1), (2, .int a2), (3, .int a3), (4, .int a4), (5, .int a5), (6, .int a6)]) hx hb dX3_note_192 hl (Nat.le_of_ble_eq_true rfl) rfl (fun ls hl => ?_)
    refine lv_aload_n hx hb dX3_note_194 rfl (lv_at hl 1 rfl) ?_
    refine xr_gN h hX hI xl_X3_13_3.g dX3_note_195 (fun v65 h => ?_)
    refine lv_iload hx hb dX3_note_198 (lv_at hl 7 rfl) ?_
    refine lv_iconst (v := (1 : Int32)) hx hb dX3_note_200 (by decide) ?_
    refine lv_iadd hx hb dX3_note_201 ?_
    refine lv_iload hx hb dX3_note_202 (lv_at hl 0 rfl) ?_
    refine lv_if_le (tgt := 213) hx hb dX3_note_204 (by decide) (fun hc => ?_) (fun hc => ?_)
    · have h := xif_t h hc
      refine lv_lconst (v := (0 : Int64)) hx hb dX3_note_213 (by decide) ?_
      exact w_X3_note_b214 hX hrec60 h hI (lv_sub hl [1, 2, 3, 4, 5] rfl)
    · have h := xif_f h hc
      refine lv_iload hx hb dX3_note_207 (lv_at hl 0 rfl) ?_
      refine lv_i2l hx hb dX3_note_209 rfl ?_
      refine lv_goto (tgt := 214) hx hb dX3_note_210 (by decide) ?_
      exact w_X3_note_b214 hX hrec60 h hI (lv_sub hl [1, 2, 3, 4, 5] rfl)
theorem w_X3_note_b221 {a0 : Nat} {a1 : Int32} {a2 : Int32} {a3 : Int32} {r : Int32} (hX : xX E R p m c cX3_note 8 s args RX3 "note" meth (some .int) 6 175 σ0 σ9)
    (h : (f_X3_note_b221 a0 a1 a2 a3).1 σ = some (r, σ9)) (hI : xI E σ0 σ s H locs cells slots) (hl : lv_has ls 8 [(0, .ref a0), (1, .int a1), (2, .int a2), (3, .int a3)]) : W p l e R s m args below meth c H locs cells slots (xMQ E below args s σ0 σ9 (some (.int r))) (F0 m 221 ls []) := by
  have hx := hX.1.1
  have hb := hX.1.2.1
  delta f_X3_note_b221 at h
  refine lv_iload_n hx hb dX3_note_221 rfl (lv_at hl 3 rfl) ?_
  refine lv_aload_n hx hb dX3_note_222 rfl (lv_at hl 0 rfl) ?_
  refine lv_iload_n hx hb dX3_note_223 rfl (lv_at hl 1 rfl) ?_
  refine xr_callV (iv := (fun b => some (.int b))) (As := [.int a1]) (rest := [.int a3]) h hX hI (fun _ _ h => w_X3_total h) (fun _ _ h => o_X3_total h) rfl 1 (lw_V q2173 q2175 qs49 q87 q2176) ⟨rfl, xd_X3_total⟩ ⟨rfl, rfl⟩ rfl hl.1 (Nat.le_of_ble_eq_true rfl) dX3_note_224 (fun v48 H locs σ cells slots h hI => ?_)
  refine W.eq (g2 := F0 m 227 ls [.int v48, .int a3]) rfl ?_
  refine lv_isub hx hb dX3_note_227 ?_
  refine lv_istore (lv' := [(4, .int (a3 - v48)), (0, .ref a0), (1, .int a1), (2, .int a2), (3, .int a3)]) hx hb dX3_note_228 hl (Nat.le_of_ble_eq_true rfl) rfl (fun ls hl => ?_)
  refine lv_aload_n hx hb dX3_note_230 rfl (lv_at hl 1 rfl) ?_
  refine xr_gN h hX hI xl_X3_13_3.g dX3_note_231 (fun v49 h => ?_)
  refine lv_iload_n hx hb dX3_note_234 rfl (lv_at hl 2 rfl) ?_
  refine lv_bipush (v := (6 : Int32)) hx hb dX3_note_235 (by decide) ?_
  refine xr_callS (iv := (fun b => some (.int b))) (As := [.int a1, .int (6 : Int32)]) (rest := [.ref v49]) h hX hI (fun _ _ h => w_X3_ofInvoice h) 2 (lw_S q2068 q2069 q87 q2070) xd_X3_ofInvoice ⟨rfl, rfl⟩ rfl hl.1 (Nat.le_of_ble_eq_true rfl) dX3_note_237 (fun v50 H locs σ cells slots h hI => ?_)
  refine W.eq (g2 := F0 m 240 ls [.int v50, .ref v49]) rfl ?_
  refine lv_iload hx hb dX3_note_240 (lv_at hl 0 rfl) ?_
  refine lv_i2l hx hb dX3_note_242 rfl ?_
  refine xr_stL h hX hI dX3_note_243 (fun H locs σ h hI => ?_)
  refine lv_aload_n hx hb dX3_note_244 rfl (lv_at hl 1 rfl) ?_
  refine xr_gN h hX hI xl_X3_13_3.g dX3_note_245 (fun v51 h => ?_)
  refine lv_aload_n hx hb dX3_note_248 rfl (lv_at hl 1 rfl) ?_
  refine lv_iload_n hx hb dX3_note_249 rfl (lv_at hl 3 rfl) ?_
  refine xr_callV (iv := (fun b => some (.int b))) (As := [.int a2]) (rest := [.ref v51]) h hX hI (fun _ _ h => w_X3_whose h) (fun _ _ h => o_X3_whose h) rfl 1 (lw_V q2071 q2073 qs36 q87 q2074) ⟨rfl, xd_X3_whose⟩ ⟨rfl, rfl⟩ rfl hl.1 (Nat.le_of_ble_eq_true rfl) dX3_note_250 (fun v52 H locs σ cells slots h hI => ?_)
  refine W.eq (g2 := F0 m 253 ls [.int v52, .ref v51]) rfl ?_
  refine lv_bipush (v := (6 : Int32)) hx hb dX3_note_253 (by decide) ?_
  refine xr_callS (iv := (fun b => some (.int b))) (As := [.int v52, .int (6 : Int32)]) (rest := [.ref v51]) h hX hI (fun _ _ h => w_X3_ofSupplier h) 2 (lw_S q2026 q2027 q87 q2028) xd_X3_ofSupplier ⟨rfl, rfl⟩ rfl hl.1 (Nat.le_of_ble_eq_true rfl) dX3_note_255 (fun v53 H locs σ cells slots h hI => ?_)
  refine W.eq (g2 := F0 m 258 ls [.int v53, .ref v51]) rfl ?_
  refine lv_dup2_11 hx hb dX3_note_258 rfl rfl ?_
  refine xr_ldL h hX hI dX3_note_259 (fun v54 h => ?_)
  refine lv_iload hx hb dX3_note_260 (lv_at hl 0 rfl) ?_
  refine lv_i2l hx hb dX3_note_262 rfl ?_
  refine lv_ladd hx hb dX3_note_263 ?_
  refine xr_stL h hX hI dX3_note_264 (fun H locs σ h hI => ?_)
  refine lv_aload_n hx hb dX3_note_265 rfl (lv_at hl 1 rfl) ?_
  refine xr_gN h hX hI xl_X3_13_3.g dX3_note_266 (fun v55 h => ?_)
  refine lv_bipush (v := (9 : Int32)) hx hb dX3_note_269 (by decide) ?_
  refine lv_dup2_11 hx hb dX3_note_271 rfl rfl ?_
  refine xr_ldL h hX hI dX3_note_272 (fun v56 h => ?_)
  refine lv_lconst (v := (1 : Int64)) hx hb dX3_note_273 (by decide) ?_
  refine lv_ladd hx hb dX3_note_274 ?_
  refine xr_stL h hX hI dX3_note_275 (fun H locs σ h hI => ?_)
  refine lv_aload_n hx hb dX3_note_276 rfl (lv_at hl 1 rfl) ?_
  refine lv_iconst (v := (5 : Int32)) hx hb dX3_note_277 (by decide) ?_
  refine lv_iload_n hx hb dX3_note_278 rfl (lv_at hl 2 rfl) ?_
  refine lv_iload hx hb dX3_note_279 (lv_at hl 0 rfl) ?_
  refine xr_callV (iv := (fun _ => none)) (As := [.int (5 : Int32), .int a1, .int (a3 - v48)]) (rest := []) h hX hI (fun _ _ h => w_X3_log h) (fun _ _ h => o_X3_log h) rfl 3 (lw_V q2140 q2142 qs43 q87 q2143) ⟨rfl, xd_X3_log⟩ ⟨rfl, rfl⟩ rfl hl.1 (Nat.le_of_ble_eq_true rfl) dX3_note_281 (fun _ H locs σ cells slots h hI => ?_)
  refine lv_aload_n hx hb dX3_note_284 rfl (lv_at hl 1 rfl) ?_
  refine lv_iload_n hx hb dX3_note_285 rfl (lv_at hl 2 rfl) ?_
  refine xr_callV (iv := (fun _ => none)) (As := [.int a1]) (rest := []) h hX hI (fun _ _ h => w_X3_approves h) (fun _ _ h => o_X3_approves h) rfl 1 (lw_V q2217 q2219 qs59 q87 q2220) ⟨rfl, xd_X3_approves⟩ ⟨rfl, rfl⟩ rfl hl.1 (Nat.le_of_ble_eq_true rfl) dX3_note_286 (fun _ H locs σ cells slots h hI => ?_)
  refine lv_aload_n hx hb dX3_note_289 rfl (lv_at hl 1 rfl) ?_
  refine lv_iload hx hb dX3_note_290 (lv_at hl 0 rfl) ?_
  refine xr_callV (iv := (fun b => some (.int b))) (As := [.int (a3 - v48)]) (rest := []) h hX hI (fun _ _ h => w_X3_acted h) (fun _ _ h => o_X3_acted h) rfl 1 (lw_V q2031 q2033 qs32 q87 q2034) ⟨rfl, xd_X3_acted⟩ ⟨rfl, rfl⟩ rfl hl.1 (Nat.le_of_ble_eq_true rfl) dX3_note_292 (fun v57 H locs σ cells slots h hI => ?_)
  refine W.eq (g2 := F0 m 295 ls [.int v57]) rfl ?_
  exact xr_ireturn h hX hI dX3_note_295
theorem w_X3_note_b60 {rec60 : Nat → Int32 → Int32 → Int32 → Int32 → xM Int32} {a0 : Nat} {a1 : Int32} {a2 : Int32} {a3 : Int32} {a4 : Int32} {r : Int32} (hX : xX E R p m c cX3_note 8 s args RX3 "note" meth (some .int) 6 175 σ0 σ9) (hrec60 : ∀ (a0 : Nat) (a1 : Int32) (a2 : Int32) (a3 : Int32) (a4 : Int32) (σ : xS) (H : Heap) (locs : List Loc) (cells slots : Nat) (ls : Array Slot), (rec60 a0 a1 a2 a3 a4).1 σ = some (r, σ9) → xI E σ0 σ s H locs cells slots → lv_has ls 8 [(0, .ref a0), (1, .int a1), (2, .int a2), (3, .int a3), (4, .int a4)] → W p l e R s m args below meth c H locs cells slots (xMQ E below args s σ0 σ9 (some (.int r))) (F0 m 60 ls []))
    (h : (f_X3_note_b60 rec60 a0 a1 a2 a3 a4).1 σ = some (r, σ9)) (hI : xI E σ0 σ s H locs cells slots) (hl : lv_has ls 8 [(0, .ref a0), (1, .int a1), (2, .int a2), (3, .int a3), (4, .int a4)]) : W p l e R s m args below meth c H locs cells slots (xMQ E below args s σ0 σ9 (some (.int r))) (F0 m 60 ls []) := by
  have hx := hX.1.1
  have hb := hX.1.2.1
  delta f_X3_note_b60 at h
  refine lv_iload hx hb dX3_note_60 (lv_at hl 4 rfl) ?_
  refine lv_aload_n hx hb dX3_note_62 rfl (lv_at hl 0 rfl) ?_
  refine lv_iload_n hx hb dX3_note_63 rfl (lv_at hl 1 rfl) ?_
  refine lv_iconst (v := (3 : Int32)) hx hb dX3_note_64 (by decide) ?_
  refine xr_callS (iv := (fun b => some (.int b))) (As := [.int a1, .int (3 : Int32)]) (rest := [.ref a0, .int a4]) h hX hI (fun _ _ h => w_X3_ofInvoice h) 2 (lw_S q2068 q2069 q87 q2070) xd_X3_ofInvoice ⟨rfl, rfl⟩ rfl hl.1 (Nat.le_of_ble_eq_true rfl) dX3_note_65 (fun v37 H locs σ cells slots h hI => ?_)
  refine W.eq (g2 := F0 m 68 ls [.int v37, .ref a0, .int a4]) rfl ?_
  refine xr_callV (iv := (fun b => some (.int b))) (As := [.int v37]) (rest := [.int a4]) h hX hI (fun _ _ h => w_X3_at h) (fun _ _ h => o_X3_at h) rfl 1 (lw_V q2022 q2024 qs31 q87 q2025) ⟨rfl, xd_X3_at⟩ ⟨rfl, rfl⟩ rfl hl.1 (Nat.le_of_ble_eq_true rfl) dX3_note_68 (fun v38 H locs σ cells slots h hI => ?_)
  refine W.eq (g2 := F0 m 71 ls [.int v38, .int a4]) rfl ?_
  refine lv_icmp_ge (tgt := 221) hx hb dX3_note_71 (by decide) (fun hc => ?_) (fun hc => ?_)
  · have h := xif_t h hc
    exact w_X3_note_b221 hX h hI (lv_sub hl [0, 1, 2, 3] rfl)
  · have h := xif_f h hc
    refine lv_aload_n hx hb dX3_note_74 rfl (lv_at hl 0 rfl) ?_
    refine lv_iload_n hx hb dX3_note_75 rfl (lv_at hl 1 rfl) ?_
    refine lv_iload hx hb dX3_note_76 (lv_at hl 4 rfl) ?_
    refine lv_iconst (v := (0 : Int32)) hx hb dX3_note_78 (by decide) ?_
    refine xr_callV (iv := (fun b => some (.int b))) (As := [.int a1, .int a4, .int (0 : Int32)]) (rest := []) h hX hI (fun _ _ h => w_X3_entryOf h) (fun _ _ h => o_X3_entryOf h) rfl 3 (lw_V q2177 q2179 qs50 q87 q2180) ⟨rfl, xd_X3_entryOf⟩ ⟨rfl, rfl⟩ rfl hl.1 (Nat.le_of_ble_eq_true rfl) dX3_note_79 (fun v39 H locs σ cells slots h hI => ?_)
    refine W.eq (g2 := F0 m 82 ls [.int v39]) rfl ?_
    refine lv_istore (lv' := [(5, .int v39), (0, .ref a0), (1, .int a1), (2, .int a2), (3, .int a3), (4, .int a4)]) hx hb dX3_note_82 hl (Nat.le_of_ble_eq_true rfl) rfl (fun ls hl => ?_)
    refine lv_iload_n hx hb dX3_note_84 rfl (lv_at hl 2 rfl) ?_
    refine lv_bipush (v := (11 : Int32)) hx hb dX3_note_85 (by decide) ?_
    refine xr_callS (iv := (fun b => some (.int b))) (As := [.int a1, .int (11 : Int32)]) (rest := []) h hX hI (fun _ _ h => w_X3_ofInvoice h) 2 (lw_S q2068 q2069 q87 q2070) xd_X3_ofInvoice ⟨rfl, rfl⟩ rfl hl.1 (Nat.le_of_ble_eq_true rfl) dX3_note_87 (fun v40 H locs σ cells slots h hI => ?_)
    refine W.eq (g2 := F0 m 90 ls [.int v40]) rfl ?_
    refine lv_iconst (v := (3 : Int32)) hx hb dX3_note_90 (by decide) ?_
    refine lv_iload hx hb dX3_note_91 (lv_at hl 5 rfl) ?_
    refine lv_imul hx hb dX3_note_93 ?_
    refine lv_iadd hx hb dX3_note_94 ?_
    refine lv_istore (lv' := [(6, .int (v40 + ((3 : Int32) * a4))), (5, .int v39), (0, .ref a0), (1, .int a1), (2, .int a2), (3, .int a3), (4, .int a4)]) hx hb dX3_note_95 hl (Nat.le_of_ble_eq_true rfl) rfl (fun ls hl => ?_)
    refine lv_aload_n hx hb dX3_note_97 rfl (lv_at hl 2 rfl) ?_
    refine lv_iload_n hx hb dX3_note_98 rfl (lv_at hl 4 rfl) ?_
    refine lv_iload hx hb dX3_note_99 (lv_at hl 1 rfl) ?_
    refine lv_aload_n hx hb dX3_note_101 rfl (lv_at hl 2 rfl) ?_
    refine lv_iload_n hx hb dX3_note_102 rfl (lv_at hl 3 rfl) ?_
    refine lv_iload hx hb dX3_note_103 (lv_at hl 6 rfl) ?_
    refine lv_iconst (v := (1 : Int32)) hx hb dX3_note_105 (by decide) ?_
    refine xr_callV (iv := (fun b => some (.int b))) (As := [.int a1, .int a4, .int (1 : Int32)]) (rest := [.int v39, .int a2, .ref a0]) h hX hI (fun _ _ h => w_X3_entryOf h) (fun _ _ h => o_X3_entryOf h) rfl 3 (lw_V q2177 q2179 qs50 q87 q2180) ⟨rfl, xd_X3_entryOf⟩ ⟨rfl, rfl⟩ rfl hl.1 (Nat.le_of_ble_eq_true rfl) dX3_note_106 (fun v41 H locs σ cells slots h hI => ?_)
    refine W.eq (g2 := F0 m 109 ls [.int v41, .int v39, .int a2, .ref a0]) rfl ?_
    refine lv_aload_n hx hb dX3_note_109 rfl (lv_at hl 2 rfl) ?_
    refine lv_iload_n hx hb dX3_note_110 rfl (lv_at hl 3 rfl) ?_
    refine lv_iload hx hb dX3_note_111 (lv_at hl 6 rfl) ?_
    refine lv_iconst (v := (2 : Int32)) hx hb dX3_note_113 (by decide) ?_
    refine xr_callV (iv := (fun b => some (.int b))) (As := [.int a1, .int a4, .int (2 : Int32)]) (rest := [.int v41, .int v39, .int a2, .ref a0]) h hX hI (fun _ _ h => w_X3_entryOf h) (fun _ _ h => o_X3_entryOf h) rfl 3 (lw_V q2177 q2179 qs50 q87 q2180) ⟨rfl, xd_X3_entryOf⟩ ⟨rfl, rfl⟩ rfl hl.1 (Nat.le_of_ble_eq_true rfl) dX3_note_114 (fun v42 H locs σ cells slots h hI => ?_)
    refine W.eq (g2 := F0 m 117 ls [.int v42, .int v41, .int v39, .int a2, .ref a0]) rfl ?_
    refine xr_callV (iv := (fun b => some (.int b))) (As := [.int a2, .int v39, .int v41, .int v42]) (rest := []) h hX hI (fun _ _ h => w_X3_isDear h) (fun _ _ h => o_X3_isDear h) rfl 4 (lw_V q2197 q2199 qs54 q87 q2200) ⟨rfl, xd_X3_isDear⟩ ⟨rfl, rfl⟩ rfl hl.1 (Nat.le_of_ble_eq_true rfl) dX3_note_117 (fun v43 H locs σ cells slots h hI => ?_)
    refine W.eq (g2 := F0 m 120 ls [.int v43]) rfl ?_
    refine lv_if_eq (tgt := 144) hx hb dX3_note_120 (by decide) (fun hc => ?_) (fun hc => ?_)
    · have h := xif_t h hc
      exact w_X3_note_b144 hX hrec60 h hI (lv_sub hl [2, 3, 4, 5, 6, 1, 0] rfl)
    · have h := xif_f h hc
      refine lv_aload_n hx hb dX3_note_123 rfl (lv_at hl 2 rfl) ?_
      refine xr_gN h hX hI xl_X3_13_3.g dX3_note_124 (fun v44 h => ?_)
      refine lv_iload hx hb dX3_note_127 (lv_at hl 0 rfl) ?_
      refine lv_iconst (v := (2 : Int32)) hx hb dX3_note_129 (by decide) ?_
      refine lv_iadd hx hb dX3_note_130 ?_
      refine lv_aload_n hx hb dX3_note_131 rfl (lv_at hl 2 rfl) ?_
      refine xr_gN h hX hI xl_X3_13_3.g dX3_note_132 (fun v45 h => ?_)
      refine lv_iload_n hx hb dX3_note_135 rfl (lv_at hl 4 rfl) ?_
      refine lv_iload hx hb dX3_note_136 (lv_at hl 1 rfl) ?_
      refine lv_iconst (v := (2 : Int32)) hx hb dX3_note_138 (by decide) ?_
      refine xr_callS (iv := (fun b => some (.int b))) (As := [.int a2, .int v39, .int (2 : Int32)]) (rest := [.ref v45, .int ((v40 + ((3 : Int32) * a4)) + (2 : Int32)), .ref v44]) h hX hI (fun _ _ h => w_X3_ofLine h) 3 (lw_S q2103 q2104 q87 q2105) xd_X3_ofLine ⟨rfl, rfl⟩ rfl hl.1 (Nat.le_of_ble_eq_true rfl) dX3_note_139 (fun v46 H locs σ cells slots h hI => ?_)
      refine W.eq (g2 := F0 m 142 ls [.int v46, .ref v45, .int ((v40 + ((3 : Int32) * a4)) + (2 : Int32)), .ref v44]) rfl ?_
      refine xr_ldL h hX hI dX3_note_142 (fun v47 h => ?_)
      refine xr_stL h hX hI dX3_note_143 (fun H locs σ h hI => ?_)
      exact w_X3_note_b144 hX hrec60 h hI (lv_sub hl [2, 3, 4, 5, 6, 1, 0] rfl)
theorem w_X3_note_L60 {r : Int32} (hX : xX E R p m c cX3_note 8 s args RX3 "note" meth (some .int) 6 175 σ0 σ9) : ∀ (n : Nat) (a0 : Nat) (a1 : Int32) (a2 : Int32) (a3 : Int32) (a4 : Int32) (σ : xS) (H : Heap) (locs : List Loc) (cells slots : Nat) (ls : Array Slot), (f_X3_note_L60 n a0 a1 a2 a3 a4).1 σ = some (r, σ9) → xI E σ0 σ s H locs cells slots → lv_has ls 8 [(0, .ref a0), (1, .int a1), (2, .int a2), (3, .int a3), (4, .int a4)] → W p l e R s m args below meth c H locs cells slots (xMQ E below args s σ0 σ9 (some (.int r))) (F0 m 60 ls []) := by
  intro n
  induction n with
  | zero =>
    intro a0 a1 a2 a3 a4 σ H locs cells slots ls h
    exact xr_no h
  | succ n ih =>
    intro a0 a1 a2 a3 a4 σ H locs cells slots ls h hI hl
    exact w_X3_note_b60 hX ih h hI hl
theorem o_X3_note {a0 : Nat} {a1 : Int32} {r : Int32} {σ σ9 : xS} (h : (f_X3_note a0 a1).1 σ = some (r, σ9)) : ∃ fs, σ.1 a0 = some (.inl (3, fs)) := xck_of h
theorem w_X3_note {E : xE} {l : Launch} {a0 : Nat} {a1 : Int32} {r : Int32} {σ σ9 : xS} (h : (f_X3_note a0 a1).1 σ = some (r, σ9)) : xMet E l yX3_note (ws_ yX3_note cX3_note 8 (some .int)) 6 175 [.ref a0, .int a1] σ σ9 (some (.int r)) := by
  refine xstart (by decide +kernel) ((f_X3_note a0 a1).2 _ _ _ h) (Nat.le_of_ble_eq_true rfl) ?_
  intro p e s m args below meth c H locs cells slots ls R hX hI hl
  have hx := hX.1.1
  have hb := hX.1.2.1
  have hl : lv_has ls 8 [(0, .ref a0), (1, .int a1)] := hl
  generalize hσ0 : σ = σ0 at hX hI ⊢
  have h : (f_X3_note a0 a1).1 σ0 = some (r, σ9) := by rw [← hσ0]; exact h
  clear hσ0
  delta f_X3_note at h
  have h := (xck_bd h).2
  refine lv_aload_n hx hb dX3_note_0 rfl (lv_at hl 0 rfl) ?_
  refine xr_callV (iv := (fun _ => none)) (As := []) (rest := []) h hX hI (fun _ _ h => w_X3_aside h) (fun _ _ h => o_X3_aside h) rfl 0 (lw_V q2018 q2020 qs30 q87 q2021) ⟨rfl, xd_X3_aside⟩ ⟨rfl, rfl⟩ rfl hl.1 (Nat.le_of_ble_eq_true rfl) dX3_note_1 (fun _ H locs σ cells slots h hI => ?_)
  refine lv_aload_n hx hb dX3_note_4 rfl (lv_at hl 0 rfl) ?_
  refine lv_iload_n hx hb dX3_note_5 rfl (lv_at hl 1 rfl) ?_
  refine xr_callV (iv := (fun b => some (.int b))) (As := [.int a1]) (rest := []) h hX hI (fun _ _ h => w_X3_isInvoice h) (fun _ _ h => o_X3_isInvoice h) rfl 1 (lw_V q2185 q2187 qs51 q87 q2188) ⟨rfl, xd_X3_isInvoice⟩ ⟨rfl, rfl⟩ rfl hl.1 (Nat.le_of_ble_eq_true rfl) dX3_note_6 (fun v66 H locs σ cells slots h hI => ?_)
  refine W.eq (g2 := F0 m 9 ls [.int v66]) rfl ?_
  refine lv_if_ne (tgt := 14) hx hb dX3_note_9 (by decide) (fun hc => ?_) (fun hc => ?_)
  · have h := xif_f h hc
    refine lv_aload_n hx hb dX3_note_14 rfl (lv_at hl 0 rfl) ?_
    refine lv_iload_n hx hb dX3_note_15 rfl (lv_at hl 1 rfl) ?_
    refine lv_iconst (v := (4 : Int32)) hx hb dX3_note_16 (by decide) ?_
    refine xr_callS (iv := (fun b => some (.int b))) (As := [.int a1, .int (4 : Int32)]) (rest := [.ref a0]) h hX hI (fun _ _ h => w_X3_ofInvoice h) 2 (lw_S q2068 q2069 q87 q2070) xd_X3_ofInvoice ⟨rfl, rfl⟩ rfl hl.1 (Nat.le_of_ble_eq_true rfl) dX3_note_17 (fun v67 H locs σ cells slots h hI => ?_)
    refine W.eq (g2 := F0 m 20 ls [.int v67, .ref a0]) rfl ?_
    refine xr_callV (iv := (fun b => some (.int b))) (As := [.int v67]) (rest := []) h hX hI (fun _ _ h => w_X3_at h) (fun _ _ h => o_X3_at h) rfl 1 (lw_V q2022 q2024 qs31 q87 q2025) ⟨rfl, xd_X3_at⟩ ⟨rfl, rfl⟩ rfl hl.1 (Nat.le_of_ble_eq_true rfl) dX3_note_20 (fun v68 H locs σ cells slots h hI => ?_)
    refine W.eq (g2 := F0 m 23 ls [.int v68]) rfl ?_
    refine lv_iconst (v := (2 : Int32)) hx hb dX3_note_23 (by decide) ?_
    refine lv_icmp_ne (tgt := 38) hx hb dX3_note_24 (by decide) (fun hc => ?_) (fun hc => ?_)
    · have h := xif_f h hc
      refine lv_bipush (v := (-4 : Int32)) hx hb dX3_note_38 (by decide) ?_
      exact xr_ireturn h hX hI dX3_note_40
    · have h := xif_t h hc
      refine lv_aload_n hx hb dX3_note_27 rfl (lv_at hl 0 rfl) ?_
      refine lv_iload_n hx hb dX3_note_28 rfl (lv_at hl 1 rfl) ?_
      refine xr_callV (iv := (fun b => some (.int b))) (As := [.int a1]) (rest := []) h hX hI (fun _ _ h => w_X3_reasons h) (fun _ _ h => o_X3_reasons h) rfl 1 (lw_V q2193 q2195 qs53 q87 q2196) ⟨rfl, xd_X3_reasons⟩ ⟨rfl, rfl⟩ rfl hl.1 (Nat.le_of_ble_eq_true rfl) dX3_note_29 (fun v69 H locs σ cells slots h hI => ?_)
      refine W.eq (g2 := F0 m 32 ls [.int v69]) rfl ?_
      refine lv_bipush (v := (7 : Int32)) hx hb dX3_note_32 (by decide) ?_
      refine lv_iand hx hb dX3_note_34 ?_
      refine lv_if_eq (tgt := 41) hx hb dX3_note_35 (by decide) (fun hc => ?_) (fun hc => ?_)
      · have h := xif_t h hc
        refine lv_aload_n hx hb dX3_note_41 rfl (lv_at hl 0 rfl) ?_
        refine lv_iload_n hx hb dX3_note_42 rfl (lv_at hl 1 rfl) ?_
        refine lv_iconst (v := (1 : Int32)) hx hb dX3_note_43 (by decide) ?_
        refine xr_callS (iv := (fun b => some (.int b))) (As := [.int a1, .int (1 : Int32)]) (rest := [.ref a0]) h hX hI (fun _ _ h => w_X3_ofInvoice h) 2 (lw_S q2068 q2069 q87 q2070) xd_X3_ofInvoice ⟨rfl, rfl⟩ rfl hl.1 (Nat.le_of_ble_eq_true rfl) dX3_note_44 (fun v70 H locs σ cells slots h hI => ?_)
        refine W.eq (g2 := F0 m 47 ls [.int v70, .ref a0]) rfl ?_
        refine xr_callV (iv := (fun b => some (.int b))) (As := [.int v70]) (rest := []) h hX hI (fun _ _ h => w_X3_at h) (fun _ _ h => o_X3_at h) rfl 1 (lw_V q2022 q2024 qs31 q87 q2025) ⟨rfl, xd_X3_at⟩ ⟨rfl, rfl⟩ rfl hl.1 (Nat.le_of_ble_eq_true rfl) dX3_note_47 (fun v71 H locs σ cells slots h hI => ?_)
        refine W.eq (g2 := F0 m 50 ls [.int v71]) rfl ?_
        refine lv_istore_n (lv' := [(2, .int v71), (0, .ref a0), (1, .int a1)]) hx hb dX3_note_50 rfl hl (Nat.le_of_ble_eq_true rfl) rfl (fun ls hl => ?_)
        refine lv_aload_n hx hb dX3_note_51 rfl (lv_at hl 1 rfl) ?_
        refine lv_iload_n hx hb dX3_note_52 rfl (lv_at hl 2 rfl) ?_
        refine xr_callV (iv := (fun b => some (.int b))) (As := [.int a1]) (rest := []) h hX hI (fun _ _ h => w_X3_total h) (fun _ _ h => o_X3_total h) rfl 1 (lw_V q2173 q2175 qs49 q87 q2176) ⟨rfl, xd_X3_total⟩ ⟨rfl, rfl⟩ rfl hl.1 (Nat.le_of_ble_eq_true rfl) dX3_note_53 (fun v72 H locs σ cells slots h hI => ?_)
        refine W.eq (g2 := F0 m 56 ls [.int v72]) rfl ?_
        refine lv_istore_n (lv' := [(3, .int v72), (2, .int v71), (0, .ref a0), (1, .int a1)]) hx hb dX3_note_56 rfl hl (Nat.le_of_ble_eq_true rfl) rfl (fun ls hl => ?_)
        refine lv_iconst (v := (0 : Int32)) hx hb dX3_note_57 (by decide) ?_
        refine lv_istore (lv' := [(4, .int (0 : Int32)), (3, .int v72), (2, .int v71), (0, .ref a0), (1, .int a1)]) hx hb dX3_note_58 hl (Nat.le_of_ble_eq_true rfl) rfl (fun ls hl => ?_)
        exact w_X3_note_L60 hX xFU a0 a1 v71 v72 (0 : Int32) _ _ _ _ _ _ h hI (lv_sub hl [3, 4, 2, 1, 0] rfl)
      · have h := xif_f h hc
        refine lv_bipush (v := (-4 : Int32)) hx hb dX3_note_38 (by decide) ?_
        exact xr_ireturn h hX hI dX3_note_40
  · have h := xif_t h hc
    refine lv_iconst (v := (-1 : Int32)) hx hb dX3_note_12 (by decide) ?_
    exact xr_ireturn h hX hI dX3_note_13
end
