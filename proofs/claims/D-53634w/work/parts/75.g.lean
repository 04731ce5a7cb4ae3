/-! walks, printed by gen.py -/
set_option maxRecDepth 100000
section
variable {E : xE} {p : Program} {l : Launch} {e : Env} {R : Room} {s : State} {m : MethodId} {args : Array Value} {below : List Frame} {meth : Method} {c : Code} {H : Heap} {locs : List Loc} {cells slots : Nat} {ls : Array Slot} {σ0 σ σ9 : xS}
/-! PayMatchModel.claims(II)I  -/
theorem o_X3_claims {a0 : Nat} {a1 : Int32} {a2 : Int32} {r : Int32} {σ σ9 : xS} (h : (f_X3_claims a0 a1 a2).1 σ = some (r, σ9)) : ∃ fs, σ.1 a0 = some (.inl (3, fs)) := xck_of h
theorem w_X3_claims {E : xE} {l : Launch} {a0 : Nat} {a1 : Int32} {a2 : Int32} {r : Int32} {σ σ9 : xS} (h : (f_X3_claims a0 a1 a2).1 σ = some (r, σ9)) : xMet E l yX3_claims (ws_ yX3_claims cX3_claims 5 (some .int)) 4 125 [.ref a0, .int a1, .int a2] σ σ9 (some (.int r)) := by
  refine xstart (by decide +kernel) ((f_X3_claims a0 a1 a2).2 _ _ _ h) (Nat.le_of_ble_eq_true rfl) ?_
  intro p e s m args below meth c H locs cells slots ls R hX hI hl
  have hx := hX.1.1
  have hb := hX.1.2.1
  have hl : lv_has ls 5 [(0, .ref a0), (1, .int a1), (2, .int a2)] := hl
  generalize hσ0 : σ = σ0 at hX hI ⊢
  have h : (f_X3_claims a0 a1 a2).1 σ0 = some (r, σ9) := by rw [← hσ0]; exact h
  clear hσ0
  delta f_X3_claims at h
  have h := (xck_bd h).2
  refine lv_aload_n hx hb dX3_claims_0 rfl (lv_at hl 0 rfl) ?_
  refine lv_iload_n hx hb dX3_claims_1 rfl (lv_at hl 1 rfl) ?_
  refine lv_iload_n hx hb dX3_claims_2 rfl (lv_at hl 2 rfl) ?_
  refine lv_bipush (v := (6 : Int32)) hx hb dX3_claims_3 (by decide) ?_
  refine xr_callS (iv := (fun b => some (.int b))) (As := [.int a1, .int a2, .int (6 : Int32)]) (rest := [.ref a0]) h hX hI (fun _ _ h => w_X3_ofLine h) 3 (lw_S q2103 q2104 q87 q2105) xd_X3_ofLine ⟨rfl, rfl⟩ rfl hl.1 (Nat.le_of_ble_eq_true rfl) dX3_claims_5 (fun v15 H locs σ cells slots h hI => ?_)
  refine W.eq (g2 := F0 m 8 ls [.int v15, .ref a0]) rfl ?_
  refine xr_callV (iv := (fun b => some (.int b))) (As := [.int v15]) (rest := []) h hX hI (fun _ _ h => w_X3_at h) (fun _ _ h => o_X3_at h) rfl 1 (lw_V q2022 q2024 qs31 q87 q2025) ⟨rfl, xd_X3_at⟩ ⟨rfl, rfl⟩ rfl hl.1 (Nat.le_of_ble_eq_true rfl) dX3_claims_8 (fun v16 H locs σ cells slots h hI => ?_)
  refine W.eq (g2 := F0 m 11 ls [.int v16]) rfl ?_
  refine lv_aload_n hx hb dX3_claims_11 rfl (lv_at hl 0 rfl) ?_
  refine lv_iload_n hx hb dX3_claims_12 rfl (lv_at hl 1 rfl) ?_
  refine lv_iload_n hx hb dX3_claims_13 rfl (lv_at hl 2 rfl) ?_
  refine lv_bipush (v := (7 : Int32)) hx hb dX3_claims_14 (by decide) ?_
  refine xr_callS (iv := (fun b => some (.int b))) (As := [.int a1, .int a2, .int (7 : Int32)]) (rest := [.ref a0, .int v16]) h hX hI (fun _ _ h => w_X3_ofLine h) 3 (lw_S q2103 q2104 q87 q2105) xd_X3_ofLine ⟨rfl, rfl⟩ rfl hl.1 (Nat.le_of_ble_eq_true rfl) dX3_claims_16 (fun v17 H locs σ cells slots h hI => ?_)
  refine W.eq (g2 := F0 m 19 ls [.int v17, .ref a0, .int v16]) rfl ?_
  refine xr_callV (iv := (fun b => some (.int b))) (As := [.int v17]) (rest := [.int v16]) h hX hI (fun _ _ h => w_X3_at h) (fun _ _ h => o_X3_at h) rfl 1 (lw_V q2022 q2024 qs31 q87 q2025) ⟨rfl, xd_X3_at⟩ ⟨rfl, rfl⟩ rfl hl.1 (Nat.le_of_ble_eq_true rfl) dX3_claims_19 (fun v18 H locs σ cells slots h hI => ?_)
  refine W.eq (g2 := F0 m 22 ls [.int v18, .int v16]) rfl ?_
  refine lv_isub hx hb dX3_claims_22 ?_
  refine lv_aload_n hx hb dX3_claims_23 rfl (lv_at hl 0 rfl) ?_
  refine lv_iload_n hx hb dX3_claims_24 rfl (lv_at hl 1 rfl) ?_
  refine lv_iload_n hx hb dX3_claims_25 rfl (lv_at hl 2 rfl) ?_
  refine xr_callV (iv := (fun b => some (.int b))) (As := [.int a1, .int a2]) (rest := [.int (v16 - v18)]) h hX hI (fun _ _ h => w_X3_billsMost h) (fun _ _ h => o_X3_billsMost h) rfl 2 (lw_V q2152 q2154 qs45 q87 q2155) ⟨rfl, xd_X3_billsMost⟩ ⟨rfl, rfl⟩ rfl hl.1 (Nat.le_of_ble_eq_true rfl) dX3_claims_26 (fun v19 H locs σ cells slots h hI => ?_)
  refine W.eq (g2 := F0 m 29 ls [.int v19, .int (v16 - v18)]) rfl ?_
  refine lv_isub hx hb dX3_claims_29 ?_
  refine lv_istore_n (lv' := [(3, .int ((v16 - v18) - v19)), (0, .ref a0), (1, .int a1), (2, .int a2)]) hx hb dX3_claims_30 rfl hl (Nat.le_of_ble_eq_true rfl) rfl (fun ls hl => ?_)
  refine lv_iload_n hx hb dX3_claims_31 rfl (lv_at hl 0 rfl) ?_
  refine lv_if_gt (tgt := 37) hx hb dX3_claims_32 (by decide) (fun hc => ?_) (fun hc => ?_)
  · have h := xif_t h hc
    refine lv_iload_n hx hb dX3_claims_37 rfl (lv_at hl 0 rfl) ?_
    refine lv_aload_n hx hb dX3_claims_38 rfl (lv_at hl 1 rfl) ?_
    refine lv_iload_n hx hb dX3_claims_39 rfl (lv_at hl 2 rfl) ?_
    refine lv_iload_n hx hb dX3_claims_40 rfl (lv_at hl 3 rfl) ?_
    refine lv_iconst (v := (2 : Int32)) hx hb dX3_claims_41 (by decide) ?_
    refine xr_callS (iv := (fun b => some (.int b))) (As := [.int a1, .int a2, .int (2 : Int32)]) (rest := [.ref a0, .int ((v16 - v18) - v19)]) h hX hI (fun _ _ h => w_X3_ofLine h) 3 (lw_S q2103 q2104 q87 q2105) xd_X3_ofLine ⟨rfl, rfl⟩ rfl hl.1 (Nat.le_of_ble_eq_true rfl) dX3_claims_42 (fun v20 H locs σ cells slots h hI => ?_)
    refine W.eq (g2 := F0 m 45 ls [.int v20, .ref a0, .int ((v16 - v18) - v19)]) rfl ?_
    refine xr_callV (iv := (fun b => some (.int b))) (As := [.int v20]) (rest := [.int ((v16 - v18) - v19)]) h hX hI (fun _ _ h => w_X3_at h) (fun _ _ h => o_X3_at h) rfl 1 (lw_V q2022 q2024 qs31 q87 q2025) ⟨rfl, xd_X3_at⟩ ⟨rfl, rfl⟩ rfl hl.1 (Nat.le_of_ble_eq_true rfl) dX3_claims_45 (fun v21 H locs σ cells slots h hI => ?_)
    refine W.eq (g2 := F0 m 48 ls [.int v21, .int ((v16 - v18) - v19)]) rfl ?_
    refine lv_imul hx hb dX3_claims_48 ?_
    refine lv_istore (lv' := [(4, .int (((v16 - v18) - v19) * v21)), (3, .int ((v16 - v18) - v19)), (0, .ref a0), (1, .int a1), (2, .int a2)]) hx hb dX3_claims_49 hl (Nat.le_of_ble_eq_true rfl) rfl (fun ls hl => ?_)
    refine lv_aload_n hx hb dX3_claims_51 rfl (lv_at hl 2 rfl) ?_
    refine xr_gN h hX hI xl_X3_13_3.g dX3_claims_52 (fun v22 h => ?_)
    refine lv_iload_n hx hb dX3_claims_55 rfl (lv_at hl 3 rfl) ?_
    refine lv_iload_n hx hb dX3_claims_56 rfl (lv_at hl 4 rfl) ?_
    refine lv_bipush (v := (7 : Int32)) hx hb dX3_claims_57 (by decide) ?_
    refine xr_callS (iv := (fun b => some (.int b))) (As := [.int a1, .int a2, .int (7 : Int32)]) (rest := [.ref v22]) h hX hI (fun _ _ h => w_X3_ofLine h) 3 (lw_S q2103 q2104 q87 q2105) xd_X3_ofLine ⟨rfl, rfl⟩ rfl hl.1 (Nat.le_of_ble_eq_true rfl) dX3_claims_59 (fun v23 H locs σ cells slots h hI => ?_)
    refine W.eq (g2 := F0 m 62 ls [.int v23, .ref v22]) rfl ?_
    refine lv_dup2_11 hx hb dX3_claims_62 rfl rfl ?_
    refine xr_ldL h hX hI dX3_claims_63 (fun v24 h => ?_)
    refine lv_iload_n hx hb dX3_claims_64 rfl (lv_at hl 1 rfl) ?_
    refine lv_i2l hx hb dX3_claims_65 rfl ?_
    refine lv_ladd hx hb dX3_claims_66 ?_
    refine xr_stL h hX hI dX3_claims_67 (fun H locs σ h hI => ?_)
    refine lv_aload_n hx hb dX3_claims_68 rfl (lv_at hl 2 rfl) ?_
    refine xr_gN h hX hI xl_X3_13_3.g dX3_claims_69 (fun v25 h => ?_)
    refine lv_aload_n hx hb dX3_claims_72 rfl (lv_at hl 2 rfl) ?_
    refine lv_iload_n hx hb dX3_claims_73 rfl (lv_at hl 3 rfl) ?_
    refine xr_callV (iv := (fun b => some (.int b))) (As := [.int a1]) (rest := [.ref v25]) h hX hI (fun _ _ h => w_X3_whose h) (fun _ _ h => o_X3_whose h) rfl 1 (lw_V q2071 q2073 qs36 q87 q2074) ⟨rfl, xd_X3_whose⟩ ⟨rfl, rfl⟩ rfl hl.1 (Nat.le_of_ble_eq_true rfl) dX3_claims_74 (fun v26 H locs σ cells slots h hI => ?_)
    refine W.eq (g2 := F0 m 77 ls [.int v26, .ref v25]) rfl ?_
    refine lv_iconst (v := (3 : Int32)) hx hb dX3_claims_77 (by decide) ?_
    refine xr_callS (iv := (fun b => some (.int b))) (As := [.int v26, .int (3 : Int32)]) (rest := [.ref v25]) h hX hI (fun _ _ h => w_X3_ofSupplier h) 2 (lw_S q2026 q2027 q87 q2028) xd_X3_ofSupplier ⟨rfl, rfl⟩ rfl hl.1 (Nat.le_of_ble_eq_true rfl) dX3_claims_78 (fun v27 H locs σ cells slots h hI => ?_)
    refine W.eq (g2 := F0 m 81 ls [.int v27, .ref v25]) rfl ?_
    refine lv_dup2_11 hx hb dX3_claims_81 rfl rfl ?_
    refine xr_ldL h hX hI dX3_claims_82 (fun v28 h => ?_)
    refine lv_iload hx hb dX3_claims_83 (lv_at hl 0 rfl) ?_
    refine lv_i2l hx hb dX3_claims_85 rfl ?_
    refine lv_ladd hx hb dX3_claims_86 ?_
    refine xr_stL h hX hI dX3_claims_87 (fun H locs σ h hI => ?_)
    refine lv_iload hx hb dX3_claims_88 (lv_at hl 0 rfl) ?_
    exact xr_ireturn h hX hI dX3_claims_90
  · have h := xif_f h hc
    refine lv_iconst (v := (0 : Int32)) hx hb dX3_claims_35 (by decide) ?_
    exact xr_ireturn h hX hI dX3_claims_36
/-! PayMatchModel.giveBack(III)I  -/
theorem o_X3_giveBack {a0 : Nat} {a1 : Int32} {a2 : Int32} {a3 : Int32} {r : Int32} {σ σ9 : xS} (h : (f_X3_giveBack a0 a1 a2 a3).1 σ = some (r, σ9)) : ∃ fs, σ.1 a0 = some (.inl (3, fs)) := xck_of h
theorem w_X3_giveBack {E : xE} {l : Launch} {a0 : Nat} {a1 : Int32} {a2 : Int32} {a3 : Int32} {r : Int32} {σ σ9 : xS} (h : (f_X3_giveBack a0 a1 a2 a3).1 σ = some (r, σ9)) : xMet E l yX3_giveBack (ws_ yX3_giveBack cX3_giveBack 5 (some .int)) 5 149 [.ref a0, .int a1, .int a2, .int a3] σ σ9 (some (.int r)) := by
  refine xstart (by decide +kernel) ((f_X3_giveBack a0 a1 a2 a3).2 _ _ _ h) (Nat.le_of_ble_eq_true rfl) ?_
  intro p e s m args below meth c H locs cells slots ls R hX hI hl
  have hx := hX.1.1
  have hb := hX.1.2.1
  have hl : lv_has ls 5 [(0, .ref a0), (1, .int a1), (2, .int a2), (3, .int a3)] := hl
  generalize hσ0 : σ = σ0 at hX hI ⊢
  have h : (f_X3_giveBack a0 a1 a2 a3).1 σ0 = some (r, σ9) := by rw [← hσ0]; exact h
  clear hσ0
  delta f_X3_giveBack at h
  have h := (xck_bd h).2
  refine lv_aload_n hx hb dX3_giveBack_0 rfl (lv_at hl 0 rfl) ?_
  refine xr_callV (iv := (fun _ => none)) (As := []) (rest := []) h hX hI (fun _ _ h => w_X3_aside h) (fun _ _ h => o_X3_aside h) rfl 0 (lw_V q2018 q2020 qs30 q87 q2021) ⟨rfl, xd_X3_aside⟩ ⟨rfl, rfl⟩ rfl hl.1 (Nat.le_of_ble_eq_true rfl) dX3_giveBack_1 (fun _ H locs σ cells slots h hI => ?_)
  refine lv_aload_n hx hb dX3_giveBack_4 rfl (lv_at hl 0 rfl) ?_
  refine lv_iload_n hx hb dX3_giveBack_5 rfl (lv_at hl 1 rfl) ?_
  refine lv_iload_n hx hb dX3_giveBack_6 rfl (lv_at hl 2 rfl) ?_
  refine xr_callV (iv := (fun b => some (.int b))) (As := [.int a1, .int a2]) (rest := []) h hX hI (fun _ _ h => w_X3_isLine h) (fun _ _ h => o_X3_isLine h) rfl 2 (lw_V q2110 q2112 qs39 q87 q2113) ⟨rfl, xd_X3_isLine⟩ ⟨rfl, rfl⟩ rfl hl.1 (Nat.le_of_ble_eq_true rfl) dX3_giveBack_7 (fun v10 H locs σ cells slots h hI => ?_)
  refine W.eq (g2 := F0 m 10 ls [.int v10]) rfl ?_
  refine lv_if_ne (tgt := 15) hx hb dX3_giveBack_10 (by decide) (fun hc => ?_) (fun hc => ?_)
  · have h := xif_f h hc
    refine lv_iload_n hx hb dX3_giveBack_15 rfl (lv_at hl 3 rfl) ?_
    refine lv_iconst (v := (1 : Int32)) hx hb dX3_giveBack_16 (by decide) ?_
    refine lv_sipush (v := (999 : Int32)) hx hb dX3_giveBack_17 (by decide) ?_
    refine xr_callS (iv := (fun b => some (.int b))) (As := [.int a3, .int (1 : Int32), .int (999 : Int32)]) (rest := []) h hX hI (fun _ _ h => w_X3_in h) 3 (lw_S q2043 q2044 q87 q2045) xd_X3_in ⟨rfl, rfl⟩ rfl hl.1 (Nat.le_of_ble_eq_true rfl) dX3_giveBack_20 (fun v11 H locs σ cells slots h hI => ?_)
    refine W.eq (g2 := F0 m 23 ls [.int v11]) rfl ?_
    refine lv_if_ne (tgt := 29) hx hb dX3_giveBack_23 (by decide) (fun hc => ?_) (fun hc => ?_)
    · have h := xif_f h hc
      refine lv_aload_n hx hb dX3_giveBack_29 rfl (lv_at hl 0 rfl) ?_
      refine lv_iload_n hx hb dX3_giveBack_30 rfl (lv_at hl 1 rfl) ?_
      refine lv_iload_n hx hb dX3_giveBack_31 rfl (lv_at hl 2 rfl) ?_
      refine lv_iconst (v := (3 : Int32)) hx hb dX3_giveBack_32 (by decide) ?_
      refine xr_callS (iv := (fun b => some (.int b))) (As := [.int a1, .int a2, .int (3 : Int32)]) (rest := [.ref a0]) h hX hI (fun _ _ h => w_X3_ofLine h) 3 (lw_S q2103 q2104 q87 q2105) xd_X3_ofLine ⟨rfl, rfl⟩ rfl hl.1 (Nat.le_of_ble_eq_true rfl) dX3_giveBack_33 (fun v12 H locs σ cells slots h hI => ?_)
      refine W.eq (g2 := F0 m 36 ls [.int v12, .ref a0]) rfl ?_
      refine xr_callV (iv := (fun b => some (.int b))) (As := [.int v12]) (rest := []) h hX hI (fun _ _ h => w_X3_at h) (fun _ _ h => o_X3_at h) rfl 1 (lw_V q2022 q2024 qs31 q87 q2025) ⟨rfl, xd_X3_at⟩ ⟨rfl, rfl⟩ rfl hl.1 (Nat.le_of_ble_eq_true rfl) dX3_giveBack_36 (fun v13 H locs σ cells slots h hI => ?_)
      refine W.eq (g2 := F0 m 39 ls [.int v13]) rfl ?_
      refine lv_iload_n hx hb dX3_giveBack_39 rfl (lv_at hl 3 rfl) ?_
      refine lv_icmp_ge (tgt := 46) hx hb dX3_giveBack_40 (by decide) (fun hc => ?_) (fun hc => ?_)
      · have h := xif_t h hc
        refine lv_aload_n hx hb dX3_giveBack_46 rfl (lv_at hl 0 rfl) ?_
        refine xr_gN h hX hI xl_X3_13_3.g dX3_giveBack_47 (fun v14 h => ?_)
        refine lv_iload_n hx hb dX3_giveBack_50 rfl (lv_at hl 1 rfl) ?_
        refine lv_iload_n hx hb dX3_giveBack_51 rfl (lv_at hl 2 rfl) ?_
        refine lv_iconst (v := (3 : Int32)) hx hb dX3_giveBack_52 (by decide) ?_
        refine xr_callS (iv := (fun b => some (.int b))) (As := [.int a1, .int a2, .int (3 : Int32)]) (rest := [.ref v14]) h hX hI (fun _ _ h => w_X3_ofLine h) 3 (lw_S q2103 q2104 q87 q2105) xd_X3_ofLine ⟨rfl, rfl⟩ rfl hl.1 (Nat.le_of_ble_eq_true rfl) dX3_giveBack_53 (fun v15 H locs σ cells slots h hI => ?_)
        refine W.eq (g2 := F0 m 56 ls [.int v15, .ref v14]) rfl ?_
        refine lv_dup2_11 hx hb dX3_giveBack_56 rfl rfl ?_
        refine xr_ldL h hX hI dX3_giveBack_57 (fun v16 h => ?_)
        refine lv_iload_n hx hb dX3_giveBack_58 rfl (lv_at hl 3 rfl) ?_
        refine lv_i2l hx hb dX3_giveBack_59 rfl ?_
        refine lv_lsub hx hb dX3_giveBack_60 ?_
        refine xr_stL h hX hI dX3_giveBack_61 (fun H locs σ h hI => ?_)
        refine lv_aload_n hx hb dX3_giveBack_62 rfl (lv_at hl 0 rfl) ?_
        refine lv_iload_n hx hb dX3_giveBack_63 rfl (lv_at hl 1 rfl) ?_
        refine lv_iload_n hx hb dX3_giveBack_64 rfl (lv_at hl 2 rfl) ?_
        refine xr_callV (iv := (fun b => some (.int b))) (As := [.int a1, .int a2]) (rest := []) h hX hI (fun _ _ h => w_X3_claims h) (fun _ _ h => o_X3_claims h) rfl 2 (lw_V q2148 q2150 qs44 q87 q2151) ⟨rfl, xd_X3_claims⟩ ⟨rfl, rfl⟩ rfl hl.1 (Nat.le_of_ble_eq_true rfl) dX3_giveBack_65 (fun v17 H locs σ cells slots h hI => ?_)
        refine W.eq (g2 := F0 m 68 ls [.int v17]) rfl ?_
        refine lv_istore (lv' := [(4, .int v17), (0, .ref a0), (1, .int a1), (2, .int a2), (3, .int a3)]) hx hb dX3_giveBack_68 hl (Nat.le_of_ble_eq_true rfl) rfl (fun ls hl => ?_)
        refine lv_aload_n hx hb dX3_giveBack_70 rfl (lv_at hl 1 rfl) ?_
        refine lv_iconst (v := (1 : Int32)) hx hb dX3_giveBack_71 (by decide) ?_
        refine lv_iload_n hx hb dX3_giveBack_72 rfl (lv_at hl 2 rfl) ?_
        refine lv_iload_n hx hb dX3_giveBack_73 rfl (lv_at hl 4 rfl) ?_
        refine xr_callV (iv := (fun _ => none)) (As := [.int (1 : Int32), .int a1, .int a3]) (rest := []) h hX hI (fun _ _ h => w_X3_log h) (fun _ _ h => o_X3_log h) rfl 3 (lw_V q2140 q2142 qs43 q87 q2143) ⟨rfl, xd_X3_log⟩ ⟨rfl, rfl⟩ rfl hl.1 (Nat.le_of_ble_eq_true rfl) dX3_giveBack_74 (fun _ H locs σ cells slots h hI => ?_)
        refine lv_aload_n hx hb dX3_giveBack_77 rfl (lv_at hl 1 rfl) ?_
        refine lv_iload hx hb dX3_giveBack_78 (lv_at hl 0 rfl) ?_
        refine xr_callV (iv := (fun b => some (.int b))) (As := [.int v17]) (rest := []) h hX hI (fun _ _ h => w_X3_acted h) (fun _ _ h => o_X3_acted h) rfl 1 (lw_V q2031 q2033 qs32 q87 q2034) ⟨rfl, xd_X3_acted⟩ ⟨rfl, rfl⟩ rfl hl.1 (Nat.le_of_ble_eq_true rfl) dX3_giveBack_80 (fun v18 H locs σ cells slots h hI => ?_)
        refine W.eq (g2 := F0 m 83 ls [.int v18]) rfl ?_
        exact xr_ireturn h hX hI dX3_giveBack_83
      · have h := xif_f h hc
        refine lv_bipush (v := (-4 : Int32)) hx hb dX3_giveBack_43 (by decide) ?_
        exact xr_ireturn h hX hI dX3_giveBack_45
    · have h := xif_t h hc
      refine lv_bipush (v := (-2 : Int32)) hx hb dX3_giveBack_26 (by decide) ?_
      exact xr_ireturn h hX hI dX3_giveBack_28
  · have h := xif_t h hc
    refine lv_iconst (v := (-1 : Int32)) hx hb dX3_giveBack_13 (by decide) ?_
    exact xr_ireturn h hX hI dX3_giveBack_14
/-! PayMatch$Entry.<init>(III)V  -/
theorem w_X10_init {E : xE} {l : Launch} {a0 : Nat} {a1 : Int32} {a2 : Int32} {a3 : Int32} {r : Unit} {σ σ9 : xS} (h : (f_X10_init a0 a1 a2 a3).1 σ = some (r, σ9)) : xMet E l yX10_init (ws_ yX10_init cX10_init 4 none) 1 60 [.ref a0, .int a1, .int a2, .int a3] σ σ9 none := by
  refine xstart (by decide +kernel) ((f_X10_init a0 a1 a2 a3).2 _ _ _ h) (Nat.le_of_ble_eq_true rfl) ?_
  intro p e s m args below meth c H locs cells slots ls R hX hI hl
  have hx := hX.1.1
  have hb := hX.1.2.1
  have hl : lv_has ls 4 [(0, .ref a0), (1, .int a1), (2, .int a2), (3, .int a3)] := hl
  generalize hσ0 : σ = σ0 at hX hI ⊢
  have h : (f_X10_init a0 a1 a2 a3).1 σ0 = some (r, σ9) := by rw [← hσ0]; exact h
  clear hσ0
  delta f_X10_init at h
  refine lv_aload_n hx hb dX10_init_0 rfl (lv_at hl 0 rfl) ?_
  refine xr_objI hX q1515 q123 q124 hl.1 ⟨rfl, rfl⟩ dX10_init_1 ?_
  refine lv_aload_n hx hb dX10_init_4 rfl (lv_at hl 0 rfl) ?_
  refine lv_iload_n hx hb dX10_init_5 rfl (lv_at hl 1 rfl) ?_
  refine xr_pt h hX hI xl_X10_7_9 (Or.inr rfl) rfl rfl dX10_init_6 (fun H locs σ h hI => ?_)
  refine lv_aload_n hx hb dX10_init_9 rfl (lv_at hl 0 rfl) ?_
  refine lv_iload_n hx hb dX10_init_10 rfl (lv_at hl 2 rfl) ?_
  refine xr_pt h hX hI xl_X10_13_9 (Or.inr rfl) rfl rfl dX10_init_11 (fun H locs σ h hI => ?_)
  refine lv_aload_n hx hb dX10_init_14 rfl (lv_at hl 0 rfl) ?_
  refine lv_iload_n hx hb dX10_init_15 rfl (lv_at hl 3 rfl) ?_
  refine xr_pt h hX hI xl_X10_16_9 (Or.inr rfl) rfl rfl dX10_init_16 (fun H locs σ h hI => ?_)
  exact xr_return h hX hI dX10_init_19
/-! PayMatch$Entry.amount()I  -/
theorem o_X10_amount {a0 : Nat} {r : Int32} {σ σ9 : xS} (h : (f_X10_amount a0).1 σ = some (r, σ9)) : ∃ fs, σ.1 a0 = some (.inl (9, fs)) := xck_of h
theorem w_X10_amount {E : xE} {l : Launch} {a0 : Nat} {r : Int32} {σ σ9 : xS} (h : (f_X10_amount a0).1 σ = some (r, σ9)) : xMet E l yX10_amount (ws_ yX10_amount cX10_amount 1 (some .int)) 0 0 [.ref a0] σ σ9 (some (.int r)) := by
  refine xstart (by decide +kernel) ((f_X10_amount a0).2 _ _ _ h) (Nat.le_of_ble_eq_true rfl) ?_
  intro p e s m args below meth c H locs cells slots ls R hX hI hl
  have hx := hX.1.1
  have hb := hX.1.2.1
  have hl : lv_has ls 1 [(0, .ref a0)] := hl
  generalize hσ0 : σ = σ0 at hX hI ⊢
  have h : (f_X10_amount a0).1 σ0 = some (r, σ9) := by rw [← hσ0]; exact h
  clear hσ0
  delta f_X10_amount at h
  have h := (xck_bd h).2
  refine lv_aload_n hx hb dX10_amount_0 rfl (lv_at hl 0 rfl) ?_
  refine xr_gI h hX hI xl_X10_13_9.g dX10_amount_1 (fun v3 h => ?_)
  refine lv_aload_n hx hb dX10_amount_4 rfl (lv_at hl 0 rfl) ?_
  refine xr_gI h hX hI xl_X10_16_9.g dX10_amount_5 (fun v4 h => ?_)
  refine lv_imul hx hb dX10_amount_8 ?_
  exact xr_ireturn h hX hI dX10_amount_9
/-! PayMatch$Invoice.total()I  -/
theorem w_X4_total_b4 {rec4 : Nat → Int32 → Int32 → xM Int32} {a0 : Nat} {a1 : Int32} {a2 : Int32} {r : Int32} (hX : xX E R p m c cX4_total 3 s args RX4 "total" meth (some .int) 1 20 σ0 σ9) (hrec4 : ∀ (a0 : Nat) (a1 : Int32) (a2 : Int32) (σ : xS) (H : Heap) (locs : List Loc) (cells slots : Nat) (ls : Array Slot), (rec4 a0 a1 a2).1 σ = some (r, σ9) → xI E σ0 σ s H locs cells slots → lv_has ls 3 [(0, .ref a0), (1, .int a1), (2, .int a2)] → W p l e R s m args below meth c H locs cells slots (xMQ E below args s σ0 σ9 (some (.int r))) (F0 m 4 ls []))
    (h : (f_X4_total_b4 rec4 a0 a1 a2).1 σ = some (r, σ9)) (hI : xI E σ0 σ s H locs cells slots) (hl : lv_has ls 3 [(0, .ref a0), (1, .int a1), (2, .int a2)]) : W p l e R s m args below meth c H locs cells slots (xMQ E below args s σ0 σ9 (some (.int r))) (F0 m 4 ls []) := by
  have hx := hX.1.1
  have hb := hX.1.2.1
  delta f_X4_total_b4 at h
  refine lv_iload_n hx hb dX4_total_4 rfl (lv_at hl 2 rfl) ?_
  refine lv_aload_n hx hb dX4_total_5 rfl (lv_at hl 0 rfl) ?_
  refine xr_gN h hX hI xl_X4_39_4.g dX4_total_6 (fun v6 h => ?_)
  refine xr_ln h hX hI dX4_total_9 (fun v7 h => ?_)
  refine lv_icmp_ge (tgt := 31) hx hb dX4_total_10 (by decide) (fun hc => ?_) (fun hc => ?_)
  · have h := xif_t h hc
    refine lv_iload_n hx hb dX4_total_31 rfl (lv_at hl 1 rfl) ?_
    exact xr_ireturn h hX hI dX4_total_32
  · have h := xif_f h hc
    refine lv_iload_n hx hb dX4_total_13 rfl (lv_at hl 1 rfl) ?_
    refine lv_aload_n hx hb dX4_total_14 rfl (lv_at hl 0 rfl) ?_
    refine xr_gN h hX hI xl_X4_39_4.g dX4_total_15 (fun v8 h => ?_)
    refine lv_iload_n hx hb dX4_total_18 rfl (lv_at hl 2 rfl) ?_
    refine xr_ldN h hX hI (by decide) dX4_total_19 (fun v9 h => ?_)
    refine xr_callV (iv := (fun b => some (.int b))) (As := []) (rest := [.int a1]) h hX hI (fun _ _ h => w_X10_amount h) (fun _ _ h => o_X10_amount h) rfl 0 (lw_V q1547 q1548 q1549 q113 q1550) ⟨rfl, xd_X10_amount⟩ ⟨rfl, rfl⟩ rfl hl.1 (Nat.le_of_ble_eq_true rfl) dX4_total_20 (fun v10 H locs σ cells slots h hI => ?_)
    refine W.eq (g2 := F0 m 23 ls [.int v10, .int a1]) rfl ?_
    refine lv_iadd hx hb dX4_total_23 ?_
    refine lv_istore_n (lv' := [(1, .int (a1 + v10)), (0, .ref a0), (2, .int a2)]) hx hb dX4_total_24 rfl hl (Nat.le_of_ble_eq_true rfl) rfl (fun ls hl => ?_)
    refine lv_iinc (k := 2) (lv' := [(2, .int (a2 + (1 : Int32))), (1, .int (a1 + v10)), (0, .ref a0)]) hx hb dX4_total_25 hl rfl (xiinc (by decide)) (Nat.le_of_ble_eq_true rfl) rfl (fun ls hl => ?_)
    refine lv_goto (tgt := 4) hx hb dX4_total_28 (by decide) ?_
    exact hrec4 a0 (a1 + v10) (a2 + (1 : Int32)) _ _ _ _ _ _ h hI (lv_sub hl [2, 1, 0] rfl)
theorem w_X4_total_L4 {r : Int32} (hX : xX E R p m c cX4_total 3 s args RX4 "total" meth (some .int) 1 20 σ0 σ9) : ∀ (n : Nat) (a0 : Nat) (a1 : Int32) (a2 : Int32) (σ : xS) (H : Heap) (locs : List Loc) (cells slots : Nat) (ls : Array Slot), (f_X4_total_L4 n a0 a1 a2).1 σ = some (r, σ9) → xI E σ0 σ s H locs cells slots → lv_has ls 3 [(0, .ref a0), (1, .int a1), (2, .int a2)] → W p l e R s m args below meth c H locs cells slots (xMQ E below args s σ0 σ9 (some (.int r))) (F0 m 4 ls []) := by
  intro n
  induction n with
  | zero =>
    intro a0 a1 a2 σ H locs cells slots ls h
    exact xr_no h
  | succ n ih =>
    intro a0 a1 a2 σ H locs cells slots ls h hI hl
    exact w_X4_total_b4 hX ih h hI hl
theorem o_X4_total {a0 : Nat} {r : Int32} {σ σ9 : xS} (h : (f_X4_total a0).1 σ = some (r, σ9)) : ∃ fs, σ.1 a0 = some (.inl (4, fs)) := xck_of h
theorem w_X4_total {E : xE} {l : Launch} {a0 : Nat} {r : Int32} {σ σ9 : xS} (h : (f_X4_total a0).1 σ = some (r, σ9)) : xMet E l yX4_total (ws_ yX4_total cX4_total 3 (some .int)) 1 20 [.ref a0] σ σ9 (some (.int r)) := by
  refine xstart (by decide +kernel) ((f_X4_total a0).2 _ _ _ h) (Nat.le_of_ble_eq_true rfl) ?_
  intro p e s m args below meth c H locs cells slots ls R hX hI hl
  have hx := hX.1.1
  have hb := hX.1.2.1
  have hl : lv_has ls 3 [(0, .ref a0)] := hl
  generalize hσ0 : σ = σ0 at hX hI ⊢
  have h : (f_X4_total a0).1 σ0 = some (r, σ9) := by rw [← hσ0]; exact h
  clear hσ0
  delta f_X4_total at h
  have h := (xck_bd h).2
  refine lv_iconst (v := (0 : Int32)) hx hb dX4_total_0 (by decide) ?_
  refine lv_istore_n (lv' := [(1, .int (0 : Int32)), (0, .ref a0)]) hx hb dX4_total_1 rfl hl (Nat.le_of_ble_eq_true rfl) rfl (fun ls hl => ?_)
  refine lv_iconst (v := (0 : Int32)) hx hb dX4_total_2 (by decide) ?_
  refine lv_istore_n (lv' := [(2, .int (0 : Int32)), (1, .int (0 : Int32)), (0, .ref a0)]) hx hb dX4_total_3 rfl hl (Nat.le_of_ble_eq_true rfl) rfl (fun ls hl => ?_)
  exact w_X4_total_L4 hX xFU a0 (0 : Int32) (0 : Int32) _ _ _ _ _ _ h hI (lv_sub hl [2, 1, 0] rfl)
/-! PayMatch$State.enter(II[LPayMatch$Entry;)I  -/
theorem o_X1_enter {a0 : Nat} {a1 : Int32} {a2 : Int32} {a3 : Nat} {r : Int32} {σ σ9 : xS} (h : (f_X1_enter a0 a1 a2 a3).1 σ = some (r, σ9)) : ∃ fs, σ.1 a0 = some (.inl (1, fs)) := xck_of h
theorem w_X1_enter {E : xE} {l : Launch} {a0 : Nat} {a1 : Int32} {a2 : Int32} {a3 : Nat} {r : Int32} {σ σ9 : xS} (h : (f_X1_enter a0 a1 a2 a3).1 σ = some (r, σ9)) : xMet E l yX1_enter (ws_ yX1_enter cX1_enter 5 (some .int)) 9 329 [.ref a0, .int a1, .int a2, .ref a3] σ σ9 (some (.int r)) := by
  refine xstart (by decide +kernel) ((f_X1_enter a0 a1 a2 a3).2 _ _ _ h) (Nat.le_of_ble_eq_true rfl) ?_
  intro p e s m args below meth c H locs cells slots ls R hX hI hl
  have hx := hX.1.1
  have hb := hX.1.2.1
  have hl : lv_has ls 5 [(0, .ref a0), (1, .int a1), (2, .int a2), (3, .ref a3)] := hl
  generalize hσ0 : σ = σ0 at hX hI ⊢
  have h : (f_X1_enter a0 a1 a2 a3).1 σ0 = some (r, σ9) := by rw [← hσ0]; exact h
  clear hσ0
  delta f_X1_enter at h
  have h := (xck_bd h).2
  refine lv_aload_n hx hb dX1_enter_0 rfl (lv_at hl 0 rfl) ?_
  refine xr_gN h hX hI xl_X1_21_1.g dX1_enter_1 (fun v10 h => ?_)
  refine xr_nw h hX hI xn_X1_109 dX1_enter_4 (fun v11 H σ cells slots h hI => ?_)
  refine lv_dup hx hb dX1_enter_7 rfl ?_
  refine lv_aload_n hx hb dX1_enter_8 rfl (lv_at hl 0 rfl) ?_
  refine xr_gN h hX hI xl_X1_21_1.g dX1_enter_9 (fun v12 h => ?_)
  refine xr_callV (iv := (fun b => some (.int b))) (As := []) (rest := [.ref v11, .ref v11, .ref v10]) h hX hI (fun _ _ h => w_X2_size h) (fun _ _ h => o_X2_size h) rfl 0 (lw_V q1540 q304 q305 q76 q306) ⟨rfl, xd_X2_size⟩ ⟨rfl, rfl⟩ rfl hl.1 (Nat.le_of_ble_eq_true rfl) dX1_enter_12 (fun v13 H locs σ cells slots h hI => ?_)
  refine W.eq (g2 := F0 m 15 ls [.int v13, .ref v11, .ref v11, .ref v10]) rfl ?_
  refine lv_iload_n hx hb dX1_enter_15 rfl (lv_at hl 1 rfl) ?_
  refine lv_iload_n hx hb dX1_enter_16 rfl (lv_at hl 2 rfl) ?_
  refine lv_aload_n hx hb dX1_enter_17 rfl (lv_at hl 0 rfl) ?_
  refine xr_gI h hX hI xl_X1_69_1.g dX1_enter_18 (fun v14 h => ?_)
  refine lv_aload_n hx hb dX1_enter_21 rfl (lv_at hl 3 rfl) ?_
  refine xr_callI (As := [.int v13, .int a1, .int a2, .int v14, .ref a3]) (rest := [.ref v11, .ref v10]) h hX hI (fun _ _ h => w_X4_init h) 5 q1541 q873 q105 q872 rfl xd_X4_init ⟨rfl, rfl⟩ rfl hl.1 (Nat.le_of_ble_eq_true rfl) dX1_enter_22 (fun _ H locs σ cells slots h hI => ?_)
  refine xr_callV (iv := (fun b => some (.ref b))) (As := [.ref v11]) (rest := []) h hX hI (fun _ _ h => w_X2_add h) (fun _ _ h => o_X2_add h) rfl 1 (lw_V q1542 q1097 q1098 q76 q1099) ⟨rfl, xd_X2_add⟩ ⟨rfl, rfl⟩ rfl hl.1 (Nat.le_of_ble_eq_true rfl) dX1_enter_25 (fun v15 H locs σ cells slots h hI => ?_)
  refine W.eq (g2 := F0 m 28 ls [.ref v15]) rfl ?_
  refine xr_cks h hX hI xc_X1_109 dX1_enter_28 (fun h => ?_)
  refine lv_astore (lv' := [(4, .ref v15), (0, .ref a0), (1, .int a1), (2, .int a2), (3, .ref a3)]) hx hb dX1_enter_31 hl (Nat.le_of_ble_eq_true rfl) rfl (fun ls hl => ?_)
  refine lv_aload_n hx hb dX1_enter_33 rfl (lv_at hl 1 rfl) ?_
  refine lv_iconst (v := (2 : Int32)) hx hb dX1_enter_34 (by decide) ?_
  refine lv_aload hx hb dX1_enter_35 (lv_at hl 0 rfl) ?_
  refine xr_gI h hX hI xl_X1_159_4 dX1_enter_37 (fun v16 h => ?_)
  refine lv_aload hx hb dX1_enter_40 (lv_at hl 0 rfl) ?_
  refine xr_callV (iv := (fun b => some (.int b))) (As := []) (rest := [.int v16, .int (2 : Int32), .ref a0]) h hX hI (fun _ _ h => w_X4_total h) (fun _ _ h => o_X4_total h) rfl 0 (lw_V q1543 q1544 q1545 q105 q1546) ⟨rfl, xd_X4_total⟩ ⟨rfl, rfl⟩ rfl hl.1 (Nat.le_of_ble_eq_true rfl) dX1_enter_42 (fun v17 H locs σ cells slots h hI => ?_)
  refine W.eq (g2 := F0 m 45 ls [.int v17, .int v16, .int (2 : Int32), .ref a0]) rfl ?_
  refine xr_callV (iv := (fun _ => none)) (As := [.int (2 : Int32), .int v16, .int v17]) (rest := []) h hX hI (fun _ _ h => w_X1_tell h) (fun _ _ h => o_X1_tell h) rfl 3 (lw_V q1449 q1450 q1451 q75 q1452) ⟨rfl, xd_X1_tell⟩ ⟨rfl, rfl⟩ rfl hl.1 (Nat.le_of_ble_eq_true rfl) dX1_enter_45 (fun _ H locs σ cells slots h hI => ?_)
  refine lv_aload hx hb dX1_enter_48 (lv_at hl 0 rfl) ?_
  refine xr_gI h hX hI xl_X1_159_4 dX1_enter_50 (fun v18 h => ?_)
  exact xr_ireturn h hX hI dX1_enter_53
/-! PayMatch.enter(II[LPayMatch$Entry;)I  -/
theorem o_X0_enter {a0 : Nat} {a1 : Int32} {a2 : Int32} {a3 : Nat} {r : Int32} {σ σ9 : xS} (h : (f_X0_enter a0 a1 a2 a3).1 σ = some (r, σ9)) : ∃ fs, σ.1 a0 = some (.inl (0, fs)) := xck_of h
theorem w_X0_enter {E : xE} {l : Launch} {a0 : Nat} {a1 : Int32} {a2 : Int32} {a3 : Nat} {r : Int32} {σ σ9 : xS} (h : (f_X0_enter a0 a1 a2 a3).1 σ = some (r, σ9)) : xMet E l yX0_enter (ws_ yX0_enter cX0_enter 6 (some .int)) 14 438 [.ref a0, .int a1, .int a2, .ref a3] σ σ9 (some (.int r)) := by
  refine xstart (by decide +kernel) ((f_X0_enter a0 a1 a2 a3).2 _ _ _ h) (Nat.le_of_ble_eq_true rfl) ?_
  intro p e s m args below meth c H locs cells slots ls R hX hI hl
  have hx := hX.1.1
  have hb := hX.1.2.1
  have hl : lv_has ls 6 [(0, .ref a0), (1, .int a1), (2, .int a2), (3, .ref a3)] := hl
  generalize hσ0 : σ = σ0 at hX hI ⊢
  have h : (f_X0_enter a0 a1 a2 a3).1 σ0 = some (r, σ9) := by rw [← hσ0]; exact h
  clear hσ0
  delta f_X0_enter at h
  have h := (xck_bd h).2
  refine lv_aload_n hx hb dX0_enter_0 rfl (lv_at hl 0 rfl) ?_
  refine xr_gN h hX hI xl_X0_22_0.g dX0_enter_1 (fun v8 h => ?_)
  refine xr_gN h hX hI xl_X0_211_1.g dX0_enter_4 (fun v9 h => ?_)
  refine xr_callV (iv := (fun b => some (.int b))) (As := []) (rest := []) h hX hI (fun _ _ h => w_X2_size h) (fun _ _ h => o_X2_size h) rfl 0 (lw_V q303 q304 q305 q76 q306) ⟨rfl, xd_X2_size⟩ ⟨rfl, rfl⟩ rfl hl.1 (Nat.le_of_ble_eq_true rfl) dX0_enter_7 (fun v10 H locs σ cells slots h hI => ?_)
  refine W.eq (g2 := F0 m 10 ls [.int v10]) rfl ?_
  refine lv_bipush (v := (24 : Int32)) hx hb dX0_enter_10 (by decide) ?_
  refine lv_icmp_ne (tgt := 18) hx hb dX0_enter_12 (by decide) (fun hc => ?_) (fun hc => ?_)
  · have h := xif_f h hc
    refine lv_aload_n hx hb dX0_enter_18 rfl (lv_at hl 0 rfl) ?_
    refine xr_gN h hX hI xl_X0_22_0.g dX0_enter_19 (fun v11 h => ?_)
    refine xr_callV (iv := (fun b => some (.ref b))) (As := []) (rest := []) h hX hI (fun _ _ h => w_X1_copy h) (fun _ _ h => o_X1_copy h) rfl 0 (lw_V q323 q324 q325 q75 q326) ⟨rfl, xd_X1_copy⟩ ⟨rfl, rfl⟩ rfl hl.1 (Nat.le_of_ble_eq_true rfl) dX0_enter_22 (fun v12 H locs σ cells slots h hI => ?_)
    refine W.eq (g2 := F0 m 25 ls [.ref v12]) rfl ?_
    refine lv_astore (lv' := [(4, .ref v12), (0, .ref a0), (1, .int a1), (2, .int a2), (3, .ref a3)]) hx hb dX0_enter_25 hl (Nat.le_of_ble_eq_true rfl) rfl (fun ls hl => ?_)
    refine lv_aload hx hb dX0_enter_27 (lv_at hl 0 rfl) ?_
    refine lv_iload_n hx hb dX0_enter_29 rfl (lv_at hl 2 rfl) ?_
    refine lv_iload_n hx hb dX0_enter_30 rfl (lv_at hl 3 rfl) ?_
    refine lv_aload_n hx hb dX0_enter_31 rfl (lv_at hl 4 rfl) ?_
    refine xr_callV (iv := (fun b => some (.int b))) (As := [.int a1, .int a2, .ref a3]) (rest := []) h hX hI (fun _ _ h => w_X1_enter h) (fun _ _ h => o_X1_enter h) rfl 3 (lw_V q1536 q1537 q1538 q75 q1539) ⟨rfl, xd_X1_enter⟩ ⟨rfl, rfl⟩ rfl hl.1 (Nat.le_of_ble_eq_true rfl) dX0_enter_32 (fun v13 H locs σ cells slots h hI => ?_)
    refine W.eq (g2 := F0 m 35 ls [.int v13]) rfl ?_
    refine lv_istore (lv' := [(5, .int v13), (4, .ref v12), (0, .ref a0), (1, .int a1), (2, .int a2), (3, .ref a3)]) hx hb dX0_enter_35 hl (Nat.le_of_ble_eq_true rfl) rfl (fun ls hl => ?_)
    refine lv_aload_n hx hb dX0_enter_37 rfl (lv_at hl 2 rfl) ?_
    refine lv_aload hx hb dX0_enter_38 (lv_at hl 1 rfl) ?_
    refine lv_iload hx hb dX0_enter_40 (lv_at hl 0 rfl) ?_
    refine xr_callV (iv := (fun b => some (.int b))) (As := [.ref v12, .int v13]) (rest := []) h hX hI (fun _ _ h => w_X0_become h) (fun _ _ h => o_X0_become h) rfl 2 (lw_V q1182 q1184 qs9 q74 q1185) ⟨rfl, xd_X0_become⟩ ⟨rfl, rfl⟩ rfl hl.1 (Nat.le_of_ble_eq_true rfl) dX0_enter_42 (fun v14 H locs σ cells slots h hI => ?_)
    refine W.eq (g2 := F0 m 45 ls [.int v14]) rfl ?_
    exact xr_ireturn h hX hI dX0_enter_45
  · have h := xif_t h hc
    refine lv_bipush (v := (-3 : Int32)) hx hb dX0_enter_15 (by decide) ?_
    exact xr_ireturn h hX hI dX0_enter_17
/-! PayMatch.bill(IIIII)I  -/
theorem o_X0_bill {a0 : Nat} {a1 : Int32} {a2 : Int32} {a3 : Int32} {a4 : Int32} {a5 : Int32} {r : Int32} {σ σ9 : xS} (h : (f_X0_bill a0 a1 a2 a3 a4 a5).1 σ = some (r, σ9)) : ∃ fs, σ.1 a0 = some (.inl (0, fs)) := xck_of h
theorem w_X0_bill {E : xE} {l : Launch} {a0 : Nat} {a1 : Int32} {a2 : Int32} {a3 : Int32} {a4 : Int32} {a5 : Int32} {r : Int32} {σ σ9 : xS} (h : (f_X0_bill a0 a1 a2 a3 a4 a5).1 σ = some (r, σ9)) : xMet E l yX0_bill (ws_ yX0_bill cX0_bill 6 (some .int)) 15 463 [.ref a0, .int a1, .int a2, .int a3, .int a4, .int a5] σ σ9 (some (.int r)) := by
  refine xstart (by decide +kernel) ((f_X0_bill a0 a1 a2 a3 a4 a5).2 _ _ _ h) (Nat.le_of_ble_eq_true rfl) ?_
  intro p e s m args below meth c H locs cells slots ls R hX hI hl
  have hx := hX.1.1
  have hb := hX.1.2.1
  have hl : lv_has ls 6 [(0, .ref a0), (1, .int a1), (2, .int a2), (3, .int a3), (4, .int a4), (5, .int a5)] := hl
  generalize hσ0 : σ = σ0 at hX hI ⊢
  have h : (f_X0_bill a0 a1 a2 a3 a4 a5).1 σ0 = some (r, σ9) := by rw [← hσ0]; exact h
  clear hσ0
  delta f_X0_bill at h
  have h := (xck_bd h).2
  refine lv_aload_n hx hb dX0_bill_0 rfl (lv_at hl 0 rfl) ?_
  refine xr_gN h hX hI xl_X0_22_0.g dX0_bill_1 (fun v9 h => ?_)
  refine lv_iload_n hx hb dX0_bill_4 rfl (lv_at hl 2 rfl) ?_
  refine lv_iload_n hx hb dX0_bill_5 rfl (lv_at hl 3 rfl) ?_
  refine xr_callV (iv := (fun b => some (.int b))) (As := [.int a2, .int a3]) (rest := []) h hX hI (fun _ _ h => w_X1_hasLine h) (fun _ _ h => o_X1_hasLine h) rfl 2 (lw_V q1318 q1319 q1320 q75 q1321) ⟨rfl, xd_X1_hasLine⟩ ⟨rfl, rfl⟩ rfl hl.1 (Nat.le_of_ble_eq_true rfl) dX0_bill_6 (fun v10 H locs σ cells slots h hI => ?_)
  refine W.eq (g2 := F0 m 9 ls [.int v10]) rfl ?_
  refine lv_if_ne (tgt := 14) hx hb dX0_bill_9 (by decide) (fun hc => ?_) (fun hc => ?_)
  · have h := xif_f h hc
    refine lv_iload_n hx hb dX0_bill_14 rfl (lv_at hl 1 rfl) ?_
    refine lv_iconst (v := (0 : Int32)) hx hb dX0_bill_15 (by decide) ?_
    refine lv_sipush (v := (999 : Int32)) hx hb dX0_bill_16 (by decide) ?_
    refine xr_callS (iv := (fun b => some (.int b))) (As := [.int a1, .int (0 : Int32), .int (999 : Int32)]) (rest := []) h hX hI (fun _ _ h => w_X0_inRange h) 3 (lw_S q1267 q1230 q74 q1231) xd_X0_inRange ⟨rfl, rfl⟩ rfl hl.1 (Nat.le_of_ble_eq_true rfl) dX0_bill_19 (fun v11 H locs σ cells slots h hI => ?_)
    refine W.eq (g2 := F0 m 22 ls [.int v11]) rfl ?_
    refine lv_if_eq (tgt := 41) hx hb dX0_bill_22 (by decide) (fun hc => ?_) (fun hc => ?_)
    · have h := xif_t h hc
      refine lv_bipush (v := (-2 : Int32)) hx hb dX0_bill_41 (by decide) ?_
      exact xr_ireturn h hX hI dX0_bill_43
    · have h := xif_f h hc
      refine lv_iload hx hb dX0_bill_25 (lv_at hl 4 rfl) ?_
      refine xr_callS (iv := (fun b => some (.int b))) (As := [.int a4]) (rest := []) h hX hI (fun _ _ h => w_X0_areUnits h) 1 (lw_S q1302 q1303 q74 q1304) xd_X0_areUnits ⟨rfl, rfl⟩ rfl hl.1 (Nat.le_of_ble_eq_true rfl) dX0_bill_27 (fun v12 H locs σ cells slots h hI => ?_)
      refine W.eq (g2 := F0 m 30 ls [.int v12]) rfl ?_
      refine lv_if_eq (tgt := 41) hx hb dX0_bill_30 (by decide) (fun hc => ?_) (fun hc => ?_)
      · have h := xif_t h hc
        refine lv_bipush (v := (-2 : Int32)) hx hb dX0_bill_41 (by decide) ?_
        exact xr_ireturn h hX hI dX0_bill_43
      · have h := xif_f h hc
        refine lv_iload hx hb dX0_bill_33 (lv_at hl 5 rfl) ?_
        refine xr_callS (iv := (fun b => some (.int b))) (As := [.int a5]) (rest := []) h hX hI (fun _ _ h => w_X0_isPrice h) 1 (lw_S q1305 q1306 q74 q1307) xd_X0_isPrice ⟨rfl, rfl⟩ rfl hl.1 (Nat.le_of_ble_eq_true rfl) dX0_bill_35 (fun v13 H locs σ cells slots h hI => ?_)
        refine W.eq (g2 := F0 m 38 ls [.int v13]) rfl ?_
        refine lv_if_ne (tgt := 44) hx hb dX0_bill_38 (by decide) (fun hc => ?_) (fun hc => ?_)
        · have h := xif_f h hc
          refine lv_aload_n hx hb dX0_bill_44 rfl (lv_at hl 0 rfl) ?_
          refine lv_iload_n hx hb dX0_bill_45 rfl (lv_at hl 1 rfl) ?_
          refine lv_iload_n hx hb dX0_bill_46 rfl (lv_at hl 2 rfl) ?_
          refine lv_iconst (v := (1 : Int32)) hx hb dX0_bill_47 (by decide) ?_
          refine xr_nq h hX hI q1510 (by decide) dX0_bill_48 (fun v14 H σ cells slots h hI => ?_)
          refine lv_dup hx hb dX0_bill_51 rfl ?_
          refine lv_iconst (v := (0 : Int32)) hx hb dX0_bill_52 (by decide) ?_
          refine xr_nw h hX hI xn_X0_218 dX0_bill_53 (fun v15 H σ cells slots h hI => ?_)
          refine lv_dup hx hb dX0_bill_56 rfl ?_
          refine lv_iload_n hx hb dX0_bill_57 rfl (lv_at hl 3 rfl) ?_
          refine lv_iload hx hb dX0_bill_58 (lv_at hl 4 rfl) ?_
          refine lv_iload hx hb dX0_bill_60 (lv_at hl 5 rfl) ?_
          refine xr_callI (As := [.int a3, .int a4, .int a5]) (rest := [.ref v15, .int (0 : Int32), .ref v14, .ref v14, .int a2, .int a1, .ref a0]) h hX hI (fun _ _ h => w_X10_init h) 3 q1512 q1514 q113 q1513 rfl xd_X10_init ⟨rfl, rfl⟩ rfl hl.1 (Nat.le_of_ble_eq_true rfl) dX0_bill_62 (fun _ H locs σ cells slots h hI => ?_)
          refine xr_stR h hX hI (by decide) dX0_bill_65 (fun H locs σ h hI => ?_)
          refine xr_callV (iv := (fun b => some (.int b))) (As := [.int a1, .int a2, .ref v14]) (rest := []) h hX hI (fun _ _ h => w_X0_enter h) (fun _ _ h => o_X0_enter h) rfl 3 (lw_V q1532 q1534 qs18 q74 q1535) ⟨rfl, xd_X0_enter⟩ ⟨rfl, rfl⟩ rfl hl.1 (Nat.le_of_ble_eq_true rfl) dX0_bill_66 (fun v16 H locs σ cells slots h hI => ?_)
          refine W.eq (g2 := F0 m 69 ls [.int v16]) rfl ?_
          exact xr_ireturn h hX hI dX0_bill_69
        · have h := xif_t h hc
          refine lv_bipush (v := (-2 : Int32)) hx hb dX0_bill_41 (by decide) ?_
          exact xr_ireturn h hX hI dX0_bill_43
  · have h := xif_t h hc
    refine lv_iconst (v := (-1 : Int32)) hx hb dX0_bill_12 (by decide) ?_
    exact xr_ireturn h hX hI dX0_bill_13
/-! PayMatchModel.begins(II)I  -/
theorem w_X3_begins_b105 {a0 : Nat} {a3 : Int32} {r : Int32} (hX : xX E R p m c cX3_begins 5 s args RX3 "begins" meth (some .int) 1 21 σ0 σ9)
    (h : (f_X3_begins_b105 a0 a3).1 σ = some (r, σ9)) (hI : xI E σ0 σ s H locs cells slots) (hl : lv_has ls 5 [(0, .ref a0), (3, .int a3)]) : W p l e R s m args below meth c H locs cells slots (xMQ E below args s σ0 σ9 (some (.int r))) (F0 m 105 ls []) := by
  have hx := hX.1.1
  have hb := hX.1.2.1
  delta f_X3_begins_b105 at h
  refine lv_aload_n hx hb dX3_begins_105 rfl (lv_at hl 0 rfl) ?_
  refine xr_gN h hX hI xl_X3_13_3.g dX3_begins_106 (fun v28 h => ?_)
  refine lv_iconst (v := (3 : Int32)) hx hb dX3_begins_109 (by decide) ?_
  refine lv_dup2_11 hx hb dX3_begins_110 rfl rfl ?_
  refine xr_ldL h hX hI dX3_begins_111 (fun v29 h => ?_)
  refine lv_lconst (v := (1 : Int64)) hx hb dX3_begins_112 (by decide) ?_
  refine lv_ladd hx hb dX3_begins_113 ?_
  refine xr_stL h hX hI dX3_begins_114 (fun H locs σ h hI => ?_)
  refine lv_iload_n hx hb dX3_begins_115 rfl (lv_at hl 1 rfl) ?_
  exact xr_ireturn h hX hI dX3_begins_116
theorem w_X3_begins_b78 {rec78 : Nat → Int32 → Int32 → xM Int32} {a0 : Nat} {a3 : Int32} {a4 : Int32} {r : Int32} (hX : xX E R p m c cX3_begins 5 s args RX3 "begins" meth (some .int) 1 21 σ0 σ9) (hrec78 : ∀ (a0 : Nat) (a3 : Int32) (a4 : Int32) (σ : xS) (H : Heap) (locs : List Loc) (cells slots : Nat) (ls : Array Slot), (rec78 a0 a3 a4).1 σ = some (r, σ9) → xI E σ0 σ s H locs cells slots → lv_has ls 5 [(0, .ref a0), (3, .int a3), (4, .int a4)] → W p l e R s m args below meth c H locs cells slots (xMQ E below args s σ0 σ9 (some (.int r))) (F0 m 78 ls []))
    (h : (f_X3_begins_b78 rec78 a0 a3 a4).1 σ = some (r, σ9)) (hI : xI E σ0 σ s H locs cells slots) (hl : lv_has ls 5 [(0, .ref a0), (3, .int a3), (4, .int a4)]) : W p l e R s m args below meth c H locs cells slots (xMQ E below args s σ0 σ9 (some (.int r))) (F0 m 78 ls []) := by
  have hx := hX.1.1
  have hb := hX.1.2.1
  delta f_X3_begins_b78 at h
  refine lv_iload hx hb dX3_begins_78 (lv_at hl 2 rfl) ?_
  refine lv_bipush (v := (9 : Int32)) hx hb dX3_begins_80 (by decide) ?_
  refine lv_icmp_gt (tgt := 105) hx hb dX3_begins_82 (by decide) (fun hc => ?_) (fun hc => ?_)
  · have h := xif_t h hc
    exact w_X3_begins_b105 hX h hI (lv_sub hl [0, 1] rfl)
  · have h := xif_f h hc
    refine lv_aload_n hx hb dX3_begins_85 rfl (lv_at hl 0 rfl) ?_
    refine xr_gN h hX hI xl_X3_13_3.g dX3_begins_86 (fun v26 h => ?_)
    refine lv_iload_n hx hb dX3_begins_89 rfl (lv_at hl 1 rfl) ?_
    refine lv_iload hx hb dX3_begins_90 (lv_at hl 2 rfl) ?_
    refine xr_callS (iv := (fun b => some (.int b))) (As := [.int a3, .int a4]) (rest := [.ref v26]) h hX hI (fun _ _ h => w_X3_ofInvoice h) 2 (lw_S q2068 q2069 q87 q2070) xd_X3_ofInvoice ⟨rfl, rfl⟩ rfl hl.1 (Nat.le_of_ble_eq_true rfl) dX3_begins_92 (fun v27 H locs σ cells slots h hI => ?_)
    refine W.eq (g2 := F0 m 95 ls [.int v27, .ref v26]) rfl ?_
    refine lv_ldc2 (v := (-5 : Int64)) hx hb hX.1.2.2.2.1 (hX.1.2.2.2.2 _ q2164) dX3_begins_95 ?_
    refine xr_stL h hX hI dX3_begins_98 (fun H locs σ h hI => ?_)
    refine lv_iinc (k := 2) (lv' := [(4, .int (a4 + (1 : Int32))), (0, .ref a0), (3, .int a3)]) hx hb dX3_begins_99 hl rfl (xiinc (by decide)) (Nat.le_of_ble_eq_true rfl) rfl (fun ls hl => ?_)
    refine lv_goto (tgt := 78) hx hb dX3_begins_102 (by decide) ?_
    exact hrec78 a0 a3 (a4 + (1 : Int32)) _ _ _ _ _ _ h hI (lv_sub hl [1, 2, 0] rfl)
theorem w_X3_begins_L78 {r : Int32} (hX : xX E R p m c cX3_begins 5 s args RX3 "begins" meth (some .int) 1 21 σ0 σ9) : ∀ (n : Nat) (a0 : Nat) (a3 : Int32) (a4 : Int32) (σ : xS) (H : Heap) (locs : List Loc) (cells slots : Nat) (ls : Array Slot), (f_X3_begins_L78 n a0 a3 a4).1 σ = some (r, σ9) → xI E σ0 σ s H locs cells slots → lv_has ls 5 [(0, .ref a0), (3, .int a3), (4, .int a4)] → W p l e R s m args below meth c H locs cells slots (xMQ E below args s σ0 σ9 (some (.int r))) (F0 m 78 ls []) := by
  intro n
  induction n with
  | zero =>
    intro a0 a3 a4 σ H locs cells slots ls h
    exact xr_no h
  | succ n ih =>
    intro a0 a3 a4 σ H locs cells slots ls h hI hl
    exact w_X3_begins_b78 hX ih h hI hl
theorem w_X3_begins_b34 {a0 : Nat} {a1 : Int32} {a2 : Int32} {a3 : Int32} {r : Int32} (hX : xX E R p m c cX3_begins 5 s args RX3 "begins" meth (some .int) 1 21 σ0 σ9)
    (h : (f_X3_begins_b34 a0 a1 a2 a3).1 σ = some (r, σ9)) (hI : xI E σ0 σ s H locs cells slots) (hl : lv_has ls 5 [(0, .ref a0), (1, .int a1), (2, .int a2), (3, .int a3)]) : W p l e R s m args below meth c H locs cells slots (xMQ E below args s σ0 σ9 (some (.int r))) (F0 m 34 ls []) := by
  have hx := hX.1.1
  have hb := hX.1.2.1
  delta f_X3_begins_b34 at h
  refine lv_aload_n hx hb dX3_begins_34 rfl (lv_at hl 0 rfl) ?_
  refine xr_gN h hX hI xl_X3_13_3.g dX3_begins_35 (fun v18 h => ?_)
  refine lv_iload_n hx hb dX3_begins_38 rfl (lv_at hl 3 rfl) ?_
  refine lv_iconst (v := (0 : Int32)) hx hb dX3_begins_39 (by decide) ?_
  refine xr_callS (iv := (fun b => some (.int b))) (As := [.int a3, .int (0 : Int32)]) (rest := [.ref v18]) h hX hI (fun _ _ h => w_X3_ofInvoice h) 2 (lw_S q2068 q2069 q87 q2070) xd_X3_ofInvoice ⟨rfl, rfl⟩ rfl hl.1 (Nat.le_of_ble_eq_true rfl) dX3_begins_40 (fun v19 H locs σ cells slots h hI => ?_)
  refine W.eq (g2 := F0 m 43 ls [.int v19, .ref v18]) rfl ?_
  refine lv_iload_n hx hb dX3_begins_43 rfl (lv_at hl 1 rfl) ?_
  refine lv_i2l hx hb dX3_begins_44 rfl ?_
  refine xr_stL h hX hI dX3_begins_45 (fun H locs σ h hI => ?_)
  refine lv_aload_n hx hb dX3_begins_46 rfl (lv_at hl 0 rfl) ?_
  refine xr_gN h hX hI xl_X3_13_3.g dX3_begins_47 (fun v20 h => ?_)
  refine lv_iload_n hx hb dX3_begins_50 rfl (lv_at hl 3 rfl) ?_
  refine lv_iconst (v := (1 : Int32)) hx hb dX3_begins_51 (by decide) ?_
  refine xr_callS (iv := (fun b => some (.int b))) (As := [.int a3, .int (1 : Int32)]) (rest := [.ref v20]) h hX hI (fun _ _ h => w_X3_ofInvoice h) 2 (lw_S q2068 q2069 q87 q2070) xd_X3_ofInvoice ⟨rfl, rfl⟩ rfl hl.1 (Nat.le_of_ble_eq_true rfl) dX3_begins_52 (fun v21 H locs σ cells slots h hI => ?_)
  refine W.eq (g2 := F0 m 55 ls [.int v21, .ref v20]) rfl ?_
  refine lv_iload_n hx hb dX3_begins_55 rfl (lv_at hl 2 rfl) ?_
  refine lv_i2l hx hb dX3_begins_56 rfl ?_
  refine xr_stL h hX hI dX3_begins_57 (fun H locs σ h hI => ?_)
  refine lv_aload_n hx hb dX3_begins_58 rfl (lv_at hl 0 rfl) ?_
  refine xr_gN h hX hI xl_X3_13_3.g dX3_begins_59 (fun v22 h => ?_)
  refine lv_iload_n hx hb dX3_begins_62 rfl (lv_at hl 3 rfl) ?_
  refine lv_iconst (v := (2 : Int32)) hx hb dX3_begins_63 (by decide) ?_
  refine xr_callS (iv := (fun b => some (.int b))) (As := [.int a3, .int (2 : Int32)]) (rest := [.ref v22]) h hX hI (fun _ _ h => w_X3_ofInvoice h) 2 (lw_S q2068 q2069 q87 q2070) xd_X3_ofInvoice ⟨rfl, rfl⟩ rfl hl.1 (Nat.le_of_ble_eq_true rfl) dX3_begins_64 (fun v23 H locs σ cells slots h hI => ?_)
  refine W.eq (g2 := F0 m 67 ls [.int v23, .ref v22]) rfl ?_
  refine lv_aload_n hx hb dX3_begins_67 rfl (lv_at hl 0 rfl) ?_
  refine xr_gN h hX hI xl_X3_13_3.g dX3_begins_68 (fun v24 h => ?_)
  refine lv_iconst (v := (0 : Int32)) hx hb dX3_begins_71 (by decide) ?_
  refine xr_ldL h hX hI dX3_begins_72 (fun v25 h => ?_)
  refine xr_stL h hX hI dX3_begins_73 (fun H locs σ h hI => ?_)
  refine lv_bipush (v := (6 : Int32)) hx hb dX3_begins_74 (by decide) ?_
  refine lv_istore (lv' := [(4, .int (6 : Int32)), (0, .ref a0), (1, .int a1), (2, .int a2), (3, .int a3)]) hx hb dX3_begins_76 hl (Nat.le_of_ble_eq_true rfl) rfl (fun ls hl => ?_)
  exact w_X3_begins_L78 hX xFU a0 a3 (6 : Int32) _ _ _ _ _ _ h hI (lv_sub hl [1, 4, 0] rfl)
theorem w_X3_begins_b9 {rec9 : Nat → Int32 → Int32 → Int32 → Int32 → xM Int32} {a0 : Nat} {a1 : Int32} {a2 : Int32} {a3 : Int32} {a4 : Int32} {r : Int32} (hX : xX E R p m c cX3_begins 5 s args RX3 "begins" meth (some .int) 1 21 σ0 σ9) (hrec9 : ∀ (a0 : Nat) (a1 : Int32) (a2 : Int32) (a3 : Int32) (a4 : Int32) (σ : xS) (H : Heap) (locs : List Loc) (cells slots : Nat) (ls : Array Slot), (rec9 a0 a1 a2 a3 a4).1 σ = some (r, σ9) → xI E σ0 σ s H locs cells slots → lv_has ls 5 [(0, .ref a0), (1, .int a1), (2, .int a2), (3, .int a3), (4, .int a4)] → W p l e R s m args below meth c H locs cells slots (xMQ E below args s σ0 σ9 (some (.int r))) (F0 m 9 ls []))
    (h : (f_X3_begins_b9 rec9 a0 a1 a2 a3 a4).1 σ = some (r, σ9)) (hI : xI E σ0 σ s H locs cells slots) (hl : lv_has ls 5 [(0, .ref a0), (1, .int a1), (2, .int a2), (3, .int a3), (4, .int a4)]) : W p l e R s m args below meth c H locs cells slots (xMQ E below args s σ0 σ9 (some (.int r))) (F0 m 9 ls []) := by
  have hx := hX.1.1
  have hb := hX.1.2.1
  delta f_X3_begins_b9 at h
  refine lv_iload hx hb dX3_begins_9 (lv_at hl 4 rfl) ?_
  refine lv_bipush (v := (29 : Int32)) hx hb dX3_begins_11 (by decide) ?_
  refine lv_icmp_ge (tgt := 34) hx hb dX3_begins_13 (by decide) (fun hc => ?_) (fun hc => ?_)
  · have h := xif_t h hc
    exact w_X3_begins_b34 hX h hI (lv_sub hl [0, 1, 2, 3] rfl)
  · have h := xif_f h hc
    refine lv_aload_n hx hb dX3_begins_16 rfl (lv_at hl 0 rfl) ?_
    refine xr_gN h hX hI xl_X3_13_3.g dX3_begins_17 (fun v16 h => ?_)
    refine lv_iload_n hx hb dX3_begins_20 rfl (lv_at hl 3 rfl) ?_
    refine lv_iload hx hb dX3_begins_21 (lv_at hl 4 rfl) ?_
    refine xr_callS (iv := (fun b => some (.int b))) (As := [.int a3, .int a4]) (rest := [.ref v16]) h hX hI (fun _ _ h => w_X3_ofInvoice h) 2 (lw_S q2068 q2069 q87 q2070) xd_X3_ofInvoice ⟨rfl, rfl⟩ rfl hl.1 (Nat.le_of_ble_eq_true rfl) dX3_begins_23 (fun v17 H locs σ cells slots h hI => ?_)
    refine W.eq (g2 := F0 m 26 ls [.int v17, .ref v16]) rfl ?_
    refine lv_lconst (v := (0 : Int64)) hx hb dX3_begins_26 (by decide) ?_
    refine xr_stL h hX hI dX3_begins_27 (fun H locs σ h hI => ?_)
    refine lv_iinc (k := 4) (lv' := [(4, .int (a4 + (1 : Int32))), (0, .ref a0), (1, .int a1), (2, .int a2), (3, .int a3)]) hx hb dX3_begins_28 hl rfl (xiinc (by decide)) (Nat.le_of_ble_eq_true rfl) rfl (fun ls hl => ?_)
    refine lv_goto (tgt := 9) hx hb dX3_begins_31 (by decide) ?_
    exact hrec9 a0 a1 a2 a3 (a4 + (1 : Int32)) _ _ _ _ _ _ h hI (lv_sub hl [1, 2, 3, 4, 0] rfl)
theorem w_X3_begins_L9 {r : Int32} (hX : xX E R p m c cX3_begins 5 s args RX3 "begins" meth (some .int) 1 21 σ0 σ9) : ∀ (n : Nat) (a0 : Nat) (a1 : Int32) (a2 : Int32) (a3 : Int32) (a4 : Int32) (σ : xS) (H : Heap) (locs : List Loc) (cells slots : Nat) (ls : Array Slot), (f_X3_begins_L9 n a0 a1 a2 a3 a4).1 σ = some (r, σ9) → xI E σ0 σ s H locs cells slots → lv_has ls 5 [(0, .ref a0), (1, .int a1), (2, .int a2), (3, .int a3), (4, .int a4)] → W p l e R s m args below meth c H locs cells slots (xMQ E below args s σ0 σ9 (some (.int r))) (F0 m 9 ls []) := by
  intro n
  induction n with
  | zero =>
    intro a0 a1 a2 a3 a4 σ H locs cells slots ls h
    exact xr_no h
  | succ n ih =>
    intro a0 a1 a2 a3 a4 σ H locs cells slots ls h hI hl
    exact w_X3_begins_b9 hX ih h hI hl
theorem o_X3_begins {a0 : Nat} {a1 : Int32} {a2 : Int32} {r : Int32} {σ σ9 : xS} (h : (f_X3_begins a0 a1 a2).1 σ = some (r, σ9)) : ∃ fs, σ.1 a0 = some (.inl (3, fs)) := xck_of h
theorem w_X3_begins {E : xE} {l : Launch} {a0 : Nat} {a1 : Int32} {a2 : Int32} {r : Int32} {σ σ9 : xS} (h : (f_X3_begins a0 a1 a2).1 σ = some (r, σ9)) : xMet E l yX3_begins (ws_ yX3_begins cX3_begins 5 (some .int)) 1 21 [.ref a0, .int a1, .int a2] σ σ9 (some (.int r)) := by
  refine xstart (by decide +kernel) ((f_X3_begins a0 a1 a2).2 _ _ _ h) (Nat.le_of_ble_eq_true rfl) ?_
  intro p e s m args below meth c H locs cells slots ls R hX hI hl
  have hx := hX.1.1
  have hb := hX.1.2.1
  have hl : lv_has ls 5 [(0, .ref a0), (1, .int a1), (2, .int a2)] := hl
  generalize hσ0 : σ = σ0 at hX hI ⊢
  have h : (f_X3_begins a0 a1 a2).1 σ0 = some (r, σ9) := by rw [← hσ0]; exact h
  clear hσ0
  delta f_X3_begins at h
  have h := (xck_bd h).2
  refine lv_aload_n hx hb dX3_begins_0 rfl (lv_at hl 0 rfl) ?_
  refine lv_iconst (v := (3 : Int32)) hx hb dX3_begins_1 (by decide) ?_
  refine xr_callV (iv := (fun b => some (.int b))) (As := [.int (3 : Int32)]) (rest := []) h hX hI (fun _ _ h => w_X3_at h) (fun _ _ h => o_X3_at h) rfl 1 (lw_V q2022 q2024 qs31 q87 q2025) ⟨rfl, xd_X3_at⟩ ⟨rfl, rfl⟩ rfl hl.1 (Nat.le_of_ble_eq_true rfl) dX3_begins_2 (fun v30 H locs σ cells slots h hI => ?_)
  refine W.eq (g2 := F0 m 5 ls [.int v30]) rfl ?_
  refine lv_istore_n (lv' := [(3, .int v30), (0, .ref a0), (1, .int a1), (2, .int a2)]) hx hb dX3_begins_5 rfl hl (Nat.le_of_ble_eq_true rfl) rfl (fun ls hl => ?_)
  refine lv_iconst (v := (0 : Int32)) hx hb dX3_begins_6 (by decide) ?_
  refine lv_istore (lv' := [(4, .int (0 : Int32)), (3, .int v30), (0, .ref a0), (1, .int a1), (2, .int a2)]) hx hb dX3_begins_7 hl (Nat.le_of_ble_eq_true rfl) rfl (fun ls hl => ?_)
  exact w_X3_begins_L9 hX xFU a0 a1 a2 v30 (0 : Int32) _ _ _ _ _ _ h hI (lv_sub hl [2, 3, 4, 1, 0] rfl)
/-! PayMatchModel.adds(IIII)V  -/
theorem o_X3_adds {a0 : Nat} {a1 : Int32} {a2 : Int32} {a3 : Int32} {a4 : Int32} {r : Unit} {σ σ9 : xS} (h : (f_X3_adds a0 a1 a2 a3 a4).1 σ = some (r, σ9)) : ∃ fs, σ.1 a0 = some (.inl (3, fs)) := xck_of h
theorem w_X3_adds {E : xE} {l : Launch} {a0 : Nat} {a1 : Int32} {a2 : Int32} {a3 : Int32} {a4 : Int32} {r : Unit} {σ σ9 : xS} (h : (f_X3_adds a0 a1 a2 a3 a4).1 σ = some (r, σ9)) : xMet E l yX3_adds (ws_ yX3_adds cX3_adds 6 none) 1 21 [.ref a0, .int a1, .int a2, .int a3, .int a4] σ σ9 none := by
  refine xstart (by decide +kernel) ((f_X3_adds a0 a1 a2 a3 a4).2 _ _ _ h) (Nat.le_of_ble_eq_true rfl) ?_
  intro p e s m args below meth c H locs cells slots ls R hX hI hl
  have hx := hX.1.1
  have hb := hX.1.2.1
  have hl : lv_has ls 6 [(0, .ref a0), (1, .int a1), (2, .int a2), (3, .int a3), (4, .int a4)] := hl
  generalize hσ0 : σ = σ0 at hX hI ⊢
  have h : (f_X3_adds a0 a1 a2 a3 a4).1 σ0 = some (r, σ9) := by rw [← hσ0]; exact h
  clear hσ0
  delta f_X3_adds at h
  have h := (xck_bd h).2
  refine lv_iload_n hx hb dX3_adds_0 rfl (lv_at hl 1 rfl) ?_
  refine lv_bipush (v := (11 : Int32)) hx hb dX3_adds_1 (by decide) ?_
  refine xr_callS (iv := (fun b => some (.int b))) (As := [.int a1, .int (11 : Int32)]) (rest := []) h hX hI (fun _ _ h => w_X3_ofInvoice h) 2 (lw_S q2068 q2069 q87 q2070) xd_X3_ofInvoice ⟨rfl, rfl⟩ rfl hl.1 (Nat.le_of_ble_eq_true rfl) dX3_adds_3 (fun v10 H locs σ cells slots h hI => ?_)
  refine W.eq (g2 := F0 m 6 ls [.int v10]) rfl ?_
  refine lv_iconst (v := (3 : Int32)) hx hb dX3_adds_6 (by decide) ?_
  refine lv_aload_n hx hb dX3_adds_7 rfl (lv_at hl 0 rfl) ?_
  refine lv_iload_n hx hb dX3_adds_8 rfl (lv_at hl 1 rfl) ?_
  refine lv_iconst (v := (3 : Int32)) hx hb dX3_adds_9 (by decide) ?_
  refine xr_callS (iv := (fun b => some (.int b))) (As := [.int a1, .int (3 : Int32)]) (rest := [.ref a0, .int (3 : Int32), .int v10]) h hX hI (fun _ _ h => w_X3_ofInvoice h) 2 (lw_S q2068 q2069 q87 q2070) xd_X3_ofInvoice ⟨rfl, rfl⟩ rfl hl.1 (Nat.le_of_ble_eq_true rfl) dX3_adds_10 (fun v11 H locs σ cells slots h hI => ?_)
  refine W.eq (g2 := F0 m 13 ls [.int v11, .ref a0, .int (3 : Int32), .int v10]) rfl ?_
  refine xr_callV (iv := (fun b => some (.int b))) (As := [.int v11]) (rest := [.int (3 : Int32), .int v10]) h hX hI (fun _ _ h => w_X3_at h) (fun _ _ h => o_X3_at h) rfl 1 (lw_V q2022 q2024 qs31 q87 q2025) ⟨rfl, xd_X3_at⟩ ⟨rfl, rfl⟩ rfl hl.1 (Nat.le_of_ble_eq_true rfl) dX3_adds_13 (fun v12 H locs σ cells slots h hI => ?_)
  refine W.eq (g2 := F0 m 16 ls [.int v12, .int (3 : Int32), .int v10]) rfl ?_
  refine lv_imul hx hb dX3_adds_16 ?_
  refine lv_iadd hx hb dX3_adds_17 ?_
  refine lv_istore (lv' := [(5, .int (v10 + ((3 : Int32) * v12))), (0, .ref a0), (1, .int a1), (2, .int a2), (3, .int a3), (4, .int a4)]) hx hb dX3_adds_18 hl (Nat.le_of_ble_eq_true rfl) rfl (fun ls hl => ?_)
  refine lv_aload_n hx hb dX3_adds_20 rfl (lv_at hl 1 rfl) ?_
  refine xr_gN h hX hI xl_X3_13_3.g dX3_adds_21 (fun v13 h => ?_)
  refine lv_iload hx hb dX3_adds_24 (lv_at hl 0 rfl) ?_
  refine lv_iload_n hx hb dX3_adds_26 rfl (lv_at hl 3 rfl) ?_
  refine lv_i2l hx hb dX3_adds_27 rfl ?_
  refine xr_stL h hX hI dX3_adds_28 (fun H locs σ h hI => ?_)
  refine lv_aload_n hx hb dX3_adds_29 rfl (lv_at hl 1 rfl) ?_
  refine xr_gN h hX hI xl_X3_13_3.g dX3_adds_30 (fun v14 h => ?_)
  refine lv_iload hx hb dX3_adds_33 (lv_at hl 0 rfl) ?_
  refine lv_iconst (v := (1 : Int32)) hx hb dX3_adds_35 (by decide) ?_
  refine lv_iadd hx hb dX3_adds_36 ?_
  refine lv_iload_n hx hb dX3_adds_37 rfl (lv_at hl 4 rfl) ?_
  refine lv_i2l hx hb dX3_adds_38 rfl ?_
  refine xr_stL h hX hI dX3_adds_39 (fun H locs σ h hI => ?_)
  refine lv_aload_n hx hb dX3_adds_40 rfl (lv_at hl 1 rfl) ?_
  refine xr_gN h hX hI xl_X3_13_3.g dX3_adds_41 (fun v15 h => ?_)
  refine lv_iload hx hb dX3_adds_44 (lv_at hl 0 rfl) ?_
  refine lv_iconst (v := (2 : Int32)) hx hb dX3_adds_46 (by decide) ?_
  refine lv_iadd hx hb dX3_adds_47 ?_
  refine lv_iload hx hb dX3_adds_48 (lv_at hl 5 rfl) ?_
  refine lv_i2l hx hb dX3_adds_50 rfl ?_
  refine xr_stL h hX hI dX3_adds_51 (fun H locs σ h hI => ?_)
  refine lv_aload_n hx hb dX3_adds_52 rfl (lv_at hl 1 rfl) ?_
  refine xr_gN h hX hI xl_X3_13_3.g dX3_adds_53 (fun v16 h => ?_)
  refine lv_iload_n hx hb dX3_adds_56 rfl (lv_at hl 2 rfl) ?_
  refine lv_iconst (v := (3 : Int32)) hx hb dX3_adds_57 (by decide) ?_
  refine xr_callS (iv := (fun b => some (.int b))) (As := [.int a1, .int (3 : Int32)]) (rest := [.ref v16]) h hX hI (fun _ _ h => w_X3_ofInvoice h) 2 (lw_S q2068 q2069 q87 q2070) xd_X3_ofInvoice ⟨rfl, rfl⟩ rfl hl.1 (Nat.le_of_ble_eq_true rfl) dX3_adds_58 (fun v17 H locs σ cells slots h hI => ?_)
  refine W.eq (g2 := F0 m 61 ls [.int v17, .ref v16]) rfl ?_
  refine lv_dup2_11 hx hb dX3_adds_61 rfl rfl ?_
  refine xr_ldL h hX hI dX3_adds_62 (fun v18 h => ?_)
  refine lv_lconst (v := (1 : Int64)) hx hb dX3_adds_63 (by decide) ?_
  refine lv_ladd hx hb dX3_adds_64 ?_
  refine xr_stL h hX hI dX3_adds_65 (fun H locs σ h hI => ?_)
  exact xr_return h hX hI dX3_adds_66
/-! PayMatchModel.entryOf(III)I  -/
theorem o_X3_entryOf {a0 : Nat} {a1 : Int32} {a2 : Int32} {a3 : Int32} {r : Int32} {σ σ9 : xS} (h : (f_X3_entryOf a0 a1 a2 a3).1 σ = some (r, σ9)) : ∃ fs, σ.1 a0 = some (.inl (3, fs)) := xck_of h
theorem w_X3_entryOf {E : xE} {l : Launch} {a0 : Nat} {a1 : Int32} {a2 : Int32} {a3 : Int32} {r : Int32} {σ σ9 : xS} (h : (f_X3_entryOf a0 a1 a2 a3).1 σ = some (r, σ9)) : xMet E l yX3_entryOf (ws_ yX3_entryOf cX3_entryOf 4 (some .int)) 1 21 [.ref a0, .int a1, .int a2, .int a3] σ σ9 (some (.int r)) := by
  refine xstart (by decide +kernel) ((f_X3_entryOf a0 a1 a2 a3).2 _ _ _ h) (Nat.le_of_ble_eq_true rfl) ?_
  intro p e s m args below meth c H locs cells slots ls R hX hI hl
  have hx := hX.1.1
  have hb := hX.1.2.1
  have hl : lv_has ls 4 [(0, .ref a0), (1, .int a1), (2, .int a2), (3, .int a3)] := hl
  generalize hσ0 : σ = σ0 at hX hI ⊢
  have h : (f_X3_entryOf a0 a1 a2 a3).1 σ0 = some (r, σ9) := by rw [← hσ0]; exact h
  clear hσ0
  delta f_X3_entryOf at h
  have h := (xck_bd h).2
  refine lv_aload_n hx hb dX3_entryOf_0 rfl (lv_at hl 0 rfl) ?_
  refine lv_iload_n hx hb dX3_entryOf_1 rfl (lv_at hl 1 rfl) ?_
  refine lv_bipush (v := (11 : Int32)) hx hb dX3_entryOf_2 (by decide) ?_
  refine xr_callS (iv := (fun b => some (.int b))) (As := [.int a1, .int (11 : Int32)]) (rest := [.ref a0]) h hX hI (fun _ _ h => w_X3_ofInvoice h) 2 (lw_S q2068 q2069 q87 q2070) xd_X3_ofInvoice ⟨rfl, rfl⟩ rfl hl.1 (Nat.le_of_ble_eq_true rfl) dX3_entryOf_4 (fun v3 H locs σ cells slots h hI => ?_)
  refine W.eq (g2 := F0 m 7 ls [.int v3, .ref a0]) rfl ?_
  refine lv_iconst (v := (3 : Int32)) hx hb dX3_entryOf_7 (by decide) ?_
  refine lv_iload_n hx hb dX3_entryOf_8 rfl (lv_at hl 2 rfl) ?_
  refine lv_imul hx hb dX3_entryOf_9 ?_
  refine lv_iadd hx hb dX3_entryOf_10 ?_
  refine lv_iload_n hx hb dX3_entryOf_11 rfl (lv_at hl 3 rfl) ?_
  refine lv_iadd hx hb dX3_entryOf_12 ?_
  refine xr_callV (iv := (fun b => some (.int b))) (As := [.int ((v3 + ((3 : Int32) * a2)) + a3)]) (rest := []) h hX hI (fun _ _ h => w_X3_at h) (fun _ _ h => o_X3_at h) rfl 1 (lw_V q2022 q2024 qs31 q87 q2025) ⟨rfl, xd_X3_at⟩ ⟨rfl, rfl⟩ rfl hl.1 (Nat.le_of_ble_eq_true rfl) dX3_entryOf_13 (fun v4 H locs σ cells slots h hI => ?_)
  refine W.eq (g2 := F0 m 16 ls [.int v4]) rfl ?_
  exact xr_ireturn h hX hI dX3_entryOf_16
/-! PayMatchModel.total(I)I  -/
theorem w_X3_total_b4 {rec4 : Nat → Int32 → Int32 → Int32 → xM Int32} {a0 : Nat} {a1 : Int32} {a2 : Int32} {a3 : Int32} {r : Int32} (hX : xX E R p m c cX3_total 4 s args RX3 "total" meth (some .int) 2 44 σ0 σ9) (hrec4 : ∀ (a0 : Nat) (a1 : Int32) (a2 : Int32) (a3 : Int32) (σ : xS) (H : Heap) (locs : List Loc) (cells slots : Nat) (ls : Array Slot), (rec4 a0 a1 a2 a3).1 σ = some (r, σ9) → xI E σ0 σ s H locs cells slots → lv_has ls 4 [(0, .ref a0), (1, .int a1), (2, .int a2), (3, .int a3)] → W p l e R s m args below meth c H locs cells slots (xMQ E below args s σ0 σ9 (some (.int r))) (F0 m 4 ls []))
    (h : (f_X3_total_b4 rec4 a0 a1 a2 a3).1 σ = some (r, σ9)) (hI : xI E σ0 σ s H locs cells slots) (hl : lv_has ls 4 [(0, .ref a0), (1, .int a1), (2, .int a2), (3, .int a3)]) : W p l e R s m args below meth c H locs cells slots (xMQ E below args s σ0 σ9 (some (.int r))) (F0 m 4 ls []) := by
  have hx := hX.1.1
  have hb := hX.1.2.1
  delta f_X3_total_b4 at h
  refine lv_iload_n hx hb dX3_total_4 rfl (lv_at hl 3 rfl) ?_
  refine lv_aload_n hx hb dX3_total_5 rfl (lv_at hl 0 rfl) ?_
  refine lv_iload_n hx hb dX3_total_6 rfl (lv_at hl 1 rfl) ?_
  refine lv_iconst (v := (3 : Int32)) hx hb dX3_total_7 (by decide) ?_
  refine xr_callS (iv := (fun b => some (.int b))) (As := [.int a1, .int (3 : Int32)]) (rest := [.ref a0, .int a3]) h hX hI (fun _ _ h => w_X3_ofInvoice h) 2 (lw_S q2068 q2069 q87 q2070) xd_X3_ofInvoice ⟨rfl, rfl⟩ rfl hl.1 (Nat.le_of_ble_eq_true rfl) dX3_total_8 (fun v5 H locs σ cells slots h hI => ?_)
  refine W.eq (g2 := F0 m 11 ls [.int v5, .ref a0, .int a3]) rfl ?_
  refine xr_callV (iv := (fun b => some (.int b))) (As := [.int v5]) (rest := [.int a3]) h hX hI (fun _ _ h => w_X3_at h) (fun _ _ h => o_X3_at h) rfl 1 (lw_V q2022 q2024 qs31 q87 q2025) ⟨rfl, xd_X3_at⟩ ⟨rfl, rfl⟩ rfl hl.1 (Nat.le_of_ble_eq_true rfl) dX3_total_11 (fun v6 H locs σ cells slots h hI => ?_)
  refine W.eq (g2 := F0 m 14 ls [.int v6, .int a3]) rfl ?_
  refine lv_icmp_ge (tgt := 41) hx hb dX3_total_14 (by decide) (fun hc => ?_) (fun hc => ?_)
  · have h := xif_t h hc
    refine lv_iload_n hx hb dX3_total_41 rfl (lv_at hl 2 rfl) ?_
    exact xr_ireturn h hX hI dX3_total_42
  · have h := xif_f h hc
    refine lv_iload_n hx hb dX3_total_17 rfl (lv_at hl 2 rfl) ?_
    refine lv_aload_n hx hb dX3_total_18 rfl (lv_at hl 0 rfl) ?_
    refine lv_iload_n hx hb dX3_total_19 rfl (lv_at hl 1 rfl) ?_
    refine lv_iload_n hx hb dX3_total_20 rfl (lv_at hl 3 rfl) ?_
    refine lv_iconst (v := (1 : Int32)) hx hb dX3_total_21 (by decide) ?_
    refine xr_callV (iv := (fun b => some (.int b))) (As := [.int a1, .int a3, .int (1 : Int32)]) (rest := [.int a2]) h hX hI (fun _ _ h => w_X3_entryOf h) (fun _ _ h => o_X3_entryOf h) rfl 3 (lw_V q2177 q2179 qs50 q87 q2180) ⟨rfl, xd_X3_entryOf⟩ ⟨rfl, rfl⟩ rfl hl.1 (Nat.le_of_ble_eq_true rfl) dX3_total_22 (fun v7 H locs σ cells slots h hI => ?_)
    refine W.eq (g2 := F0 m 25 ls [.int v7, .int a2]) rfl ?_
    refine lv_aload_n hx hb dX3_total_25 rfl (lv_at hl 0 rfl) ?_
    refine lv_iload_n hx hb dX3_total_26 rfl (lv_at hl 1 rfl) ?_
    refine lv_iload_n hx hb dX3_total_27 rfl (lv_at hl 3 rfl) ?_
    refine lv_iconst (v := (2 : Int32)) hx hb dX3_total_28 (by decide) ?_
    refine xr_callV (iv := (fun b => some (.int b))) (As := [.int a1, .int a3, .int (2 : Int32)]) (rest := [.int v7, .int a2]) h hX hI (fun _ _ h => w_X3_entryOf h) (fun _ _ h => o_X3_entryOf h) rfl 3 (lw_V q2177 q2179 qs50 q87 q2180) ⟨rfl, xd_X3_entryOf⟩ ⟨rfl, rfl⟩ rfl hl.1 (Nat.le_of_ble_eq_true rfl) dX3_total_29 (fun v8 H locs σ cells slots h hI => ?_)
    refine W.eq (g2 := F0 m 32 ls [.int v8, .int v7, .int a2]) rfl ?_
    refine lv_imul hx hb dX3_total_32 ?_
    refine lv_iadd hx hb dX3_total_33 ?_
    refine lv_istore_n (lv' := [(2, .int (a2 + (v7 * v8))), (0, .ref a0), (1, .int a1), (3, .int a3)]) hx hb dX3_total_34 rfl hl (Nat.le_of_ble_eq_true rfl) rfl (fun ls hl => ?_)
    refine lv_iinc (k := 3) (lv' := [(3, .int (a3 + (1 : Int32))), (2, .int (a2 + (v7 * v8))), (0, .ref a0), (1, .int a1)]) hx hb dX3_total_35 hl rfl (xiinc (by decide)) (Nat.le_of_ble_eq_true rfl) rfl (fun ls hl => ?_)
    refine lv_goto (tgt := 4) hx hb dX3_total_38 (by decide) ?_
    exact hrec4 a0 a1 (a2 + (v7 * v8)) (a3 + (1 : Int32)) _ _ _ _ _ _ h hI (lv_sub hl [2, 3, 1, 0] rfl)
theorem w_X3_total_L4 {r : Int32} (hX : xX E R p m c cX3_total 4 s args RX3 "total" meth (some .int) 2 44 σ0 σ9) : ∀ (n : Nat) (a0 : Nat) (a1 : Int32) (a2 : Int32) (a3 : Int32) (σ : xS) (H : Heap) (locs : List Loc) (cells slots : Nat) (ls : Array Slot), (f_X3_total_L4 n a0 a1 a2 a3).1 σ = some (r, σ9) → xI E σ0 σ s H locs cells slots → lv_has ls 4 [(0, .ref a0), (1, .int a1), (2, .int a2), (3, .int a3)] → W p l e R s m args below meth c H locs cells slots (xMQ E below args s σ0 σ9 (some (.int r))) (F0 m 4 ls []) := by
  intro n
  induction n with
  | zero =>
    intro a0 a1 a2 a3 σ H locs cells slots ls h
    exact xr_no h
  | succ n ih =>
    intro a0 a1 a2 a3 σ H locs cells slots ls h hI hl
    exact w_X3_total_b4 hX ih h hI hl
theorem o_X3_total {a0 : Nat} {a1 : Int32} {r : Int32} {σ σ9 : xS} (h : (f_X3_total a0 a1).1 σ = some (r, σ9)) : ∃ fs, σ.1 a0 = some (.inl (3, fs)) := xck_of h
theorem w_X3_total {E : xE} {l : Launch} {a0 : Nat} {a1 : Int32} {r : Int32} {σ σ9 : xS} (h : (f_X3_total a0 a1).1 σ = some (r, σ9)) : xMet E l yX3_total (ws_ yX3_total cX3_total 4 (some .int)) 2 44 [.ref a0, .int a1] σ σ9 (some (.int r)) := by
  refine xstart (by decide +kernel) ((f_X3_total a0 a1).2 _ _ _ h) (Nat.le_of_ble_eq_true rfl) ?_
  intro p e s m args below meth c H locs cells slots ls R hX hI hl
  have hx := hX.1.1
  have hb := hX.1.2.1
  have hl : lv_has ls 4 [(0, .ref a0), (1, .int a1)] := hl
  generalize hσ0 : σ = σ0 at hX hI ⊢
  have h : (f_X3_total a0 a1).1 σ0 = some (r, σ9) := by rw [← hσ0]; exact h
  clear hσ0
  delta f_X3_total at h
  have h := (xck_bd h).2
  refine lv_iconst (v := (0 : Int32)) hx hb dX3_total_0 (by decide) ?_
  refine lv_istore_n (lv' := [(2, .int (0 : Int32)), (0, .ref a0), (1, .int a1)]) hx hb dX3_total_1 rfl hl (Nat.le_of_ble_eq_true rfl) rfl (fun ls hl => ?_)
  refine lv_iconst (v := (0 : Int32)) hx hb dX3_total_2 (by decide) ?_
  refine lv_istore_n (lv' := [(3, .int (0 : Int32)), (2, .int (0 : Int32)), (0, .ref a0), (1, .int a1)]) hx hb dX3_total_3 rfl hl (Nat.le_of_ble_eq_true rfl) rfl (fun ls hl => ?_)
  exact w_X3_total_L4 hX xFU a0 a1 (0 : Int32) (0 : Int32) _ _ _ _ _ _ h hI (lv_sub hl [2, 3, 1, 0] rfl)
/-! PayMatchModel.entered(I)I  -/
theorem o_X3_entered {a0 : Nat} {a1 : Int32} {r : Int32} {σ σ9 : xS} (h : (f_X3_entered a0 a1).1 σ = some (r, σ9)) : ∃ fs, σ.1 a0 = some (.inl (3, fs)) := xck_of h
theorem w_X3_entered {E : xE} {l : Launch} {a0 : Nat} {a1 : Int32} {r : Int32} {σ σ9 : xS} (h : (f_X3_entered a0 a1).1 σ = some (r, σ9)) : xMet E l yX3_entered (ws_ yX3_entered cX3_entered 2 (some .int)) 3 67 [.ref a0, .int a1] σ σ9 (some (.int r)) := by
  refine xstart (by decide +kernel) ((f_X3_entered a0 a1).2 _ _ _ h) (Nat.le_of_ble_eq_true rfl) ?_
  intro p e s m args below meth c H locs cells slots ls R hX hI hl
  have hx := hX.1.1
  have hb := hX.1.2.1
  have hl : lv_has ls 2 [(0, .ref a0), (1, .int a1)] := hl
  generalize hσ0 : σ = σ0 at hX hI ⊢
  have h : (f_X3_entered a0 a1).1 σ0 = some (r, σ9) := by rw [← hσ0]; exact h
  clear hσ0
  delta f_X3_entered at h
  have h := (xck_bd h).2
  refine lv_aload_n hx hb dX3_entered_0 rfl (lv_at hl 0 rfl) ?_
  refine lv_iconst (v := (2 : Int32)) hx hb dX3_entered_1 (by decide) ?_
  refine lv_iload_n hx hb dX3_entered_2 rfl (lv_at hl 1 rfl) ?_
  refine lv_aload_n hx hb dX3_entered_3 rfl (lv_at hl 0 rfl) ?_
  refine lv_iload_n hx hb dX3_entered_4 rfl (lv_at hl 1 rfl) ?_
  refine xr_callV (iv := (fun b => some (.int b))) (As := [.int a1]) (rest := [.int a1, .int (2 : Int32), .ref a0]) h hX hI (fun _ _ h => w_X3_total h) (fun _ _ h => o_X3_total h) rfl 1 (lw_V q2173 q2175 qs49 q87 q2176) ⟨rfl, xd_X3_total⟩ ⟨rfl, rfl⟩ rfl hl.1 (Nat.le_of_ble_eq_true rfl) dX3_entered_5 (fun v3 H locs σ cells slots h hI => ?_)
  refine W.eq (g2 := F0 m 8 ls [.int v3, .int a1, .int (2 : Int32), .ref a0]) rfl ?_
  refine xr_callV (iv := (fun _ => none)) (As := [.int (2 : Int32), .int a1, .int v3]) (rest := []) h hX hI (fun _ _ h => w_X3_log h) (fun _ _ h => o_X3_log h) rfl 3 (lw_V q2140 q2142 qs43 q87 q2143) ⟨rfl, xd_X3_log⟩ ⟨rfl, rfl⟩ rfl hl.1 (Nat.le_of_ble_eq_true rfl) dX3_entered_8 (fun _ H locs σ cells slots h hI => ?_)
  refine lv_aload_n hx hb dX3_entered_11 rfl (lv_at hl 0 rfl) ?_
  refine lv_iload_n hx hb dX3_entered_12 rfl (lv_at hl 1 rfl) ?_
  refine xr_callV (iv := (fun b => some (.int b))) (As := [.int a1]) (rest := []) h hX hI (fun _ _ h => w_X3_acted h) (fun _ _ h => o_X3_acted h) rfl 1 (lw_V q2031 q2033 qs32 q87 q2034) ⟨rfl, xd_X3_acted⟩ ⟨rfl, rfl⟩ rfl hl.1 (Nat.le_of_ble_eq_true rfl) dX3_entered_13 (fun v4 H locs σ cells slots h hI => ?_)
  refine W.eq (g2 := F0 m 16 ls [.int v4]) rfl ?_
  exact xr_ireturn h hX hI dX3_entered_16
/-! PayMatchModel.bill(IIIII)I  -/
theorem o_X3_bill {a0 : Nat} {a1 : Int32} {a2 : Int32} {a3 : Int32} {a4 : Int32} {a5 : Int32} {r : Int32} {σ σ9 : xS} (h : (f_X3_bill a0 a1 a2 a3 a4 a5).1 σ = some (r, σ9)) : ∃ fs, σ.1 a0 = some (.inl (3, fs)) := xck_of h
theorem w_X3_bill {E : xE} {l : Launch} {a0 : Nat} {a1 : Int32} {a2 : Int32} {a3 : Int32} {a4 : Int32} {a5 : Int32} {r : Int32} {σ σ9 : xS} (h : (f_X3_bill a0 a1 a2 a3 a4 a5).1 σ = some (r, σ9)) : xMet E l yX3_bill (ws_ yX3_bill cX3_bill 7 (some .int)) 4 88 [.ref a0, .int a1, .int a2, .int a3, .int a4, .int a5] σ σ9 (some (.int r)) := by
  refine xstart (by decide +kernel) ((f_X3_bill a0 a1 a2 a3 a4 a5).2 _ _ _ h) (Nat.le_of_ble_eq_true rfl) ?_
  intro p e s m args below meth c H locs cells slots ls R hX hI hl
  have hx := hX.1.1
  have hb := hX.1.2.1
  have hl : lv_has ls 7 [(0, .ref a0), (1, .int a1), (2, .int a2), (3, .int a3), (4, .int a4), (5, .int a5)] := hl
  generalize hσ0 : σ = σ0 at hX hI ⊢
  have h : (f_X3_bill a0 a1 a2 a3 a4 a5).1 σ0 = some (r, σ9) := by rw [← hσ0]; exact h
  clear hσ0
  delta f_X3_bill at h
  have h := (xck_bd h).2
  refine lv_aload_n hx hb dX3_bill_0 rfl (lv_at hl 0 rfl) ?_
  refine xr_callV (iv := (fun _ => none)) (As := []) (rest := []) h hX hI (fun _ _ h => w_X3_aside h) (fun _ _ h => o_X3_aside h) rfl 0 (lw_V q2018 q2020 qs30 q87 q2021) ⟨rfl, xd_X3_aside⟩ ⟨rfl, rfl⟩ rfl hl.1 (Nat.le_of_ble_eq_true rfl) dX3_bill_1 (fun _ H locs σ cells slots h hI => ?_)
  refine lv_aload_n hx hb dX3_bill_4 rfl (lv_at hl 0 rfl) ?_
  refine lv_iload_n hx hb dX3_bill_5 rfl (lv_at hl 2 rfl) ?_
  refine lv_iload_n hx hb dX3_bill_6 rfl (lv_at hl 3 rfl) ?_
  refine xr_callV (iv := (fun b => some (.int b))) (As := [.int a2, .int a3]) (rest := []) h hX hI (fun _ _ h => w_X3_isLine h) (fun _ _ h => o_X3_isLine h) rfl 2 (lw_V q2110 q2112 qs39 q87 q2113) ⟨rfl, xd_X3_isLine⟩ ⟨rfl, rfl⟩ rfl hl.1 (Nat.le_of_ble_eq_true rfl) dX3_bill_7 (fun v8 H locs σ cells slots h hI => ?_)
  refine W.eq (g2 := F0 m 10 ls [.int v8]) rfl ?_
  refine lv_if_ne (tgt := 15) hx hb dX3_bill_10 (by decide) (fun hc => ?_) (fun hc => ?_)
  · have h := xif_f h hc
    refine lv_iload_n hx hb dX3_bill_15 rfl (lv_at hl 1 rfl) ?_
    refine lv_iconst (v := (0 : Int32)) hx hb dX3_bill_16 (by decide) ?_
    refine lv_sipush (v := (999 : Int32)) hx hb dX3_bill_17 (by decide) ?_
    refine xr_callS (iv := (fun b => some (.int b))) (As := [.int a1, .int (0 : Int32), .int (999 : Int32)]) (rest := []) h hX hI (fun _ _ h => w_X3_in h) 3 (lw_S q2043 q2044 q87 q2045) xd_X3_in ⟨rfl, rfl⟩ rfl hl.1 (Nat.le_of_ble_eq_true rfl) dX3_bill_20 (fun v9 H locs σ cells slots h hI => ?_)
    refine W.eq (g2 := F0 m 23 ls [.int v9]) rfl ?_
    refine lv_if_eq (tgt := 50) hx hb dX3_bill_23 (by decide) (fun hc => ?_) (fun hc => ?_)
    · have h := xif_t h hc
      refine lv_bipush (v := (-2 : Int32)) hx hb dX3_bill_50 (by decide) ?_
      exact xr_ireturn h hX hI dX3_bill_52
    · have h := xif_f h hc
      refine lv_iload hx hb dX3_bill_26 (lv_at hl 4 rfl) ?_
      refine lv_iconst (v := (1 : Int32)) hx hb dX3_bill_28 (by decide) ?_
      refine lv_sipush (v := (999 : Int32)) hx hb dX3_bill_29 (by decide) ?_
      refine xr_callS (iv := (fun b => some (.int b))) (As := [.int a4, .int (1 : Int32), .int (999 : Int32)]) (rest := []) h hX hI (fun _ _ h => w_X3_in h) 3 (lw_S q2043 q2044 q87 q2045) xd_X3_in ⟨rfl, rfl⟩ rfl hl.1 (Nat.le_of_ble_eq_true rfl) dX3_bill_32 (fun v10 H locs σ cells slots h hI => ?_)
      refine W.eq (g2 := F0 m 35 ls [.int v10]) rfl ?_
      refine lv_if_eq (tgt := 50) hx hb dX3_bill_35 (by decide) (fun hc => ?_) (fun hc => ?_)
      · have h := xif_t h hc
        refine lv_bipush (v := (-2 : Int32)) hx hb dX3_bill_50 (by decide) ?_
        exact xr_ireturn h hX hI dX3_bill_52
      · have h := xif_f h hc
        refine lv_iload hx hb dX3_bill_38 (lv_at hl 5 rfl) ?_
        refine lv_iconst (v := (1 : Int32)) hx hb dX3_bill_40 (by decide) ?_
        refine lv_sipush (v := (9999 : Int32)) hx hb dX3_bill_41 (by decide) ?_
        refine xr_callS (iv := (fun b => some (.int b))) (As := [.int a5, .int (1 : Int32), .int (9999 : Int32)]) (rest := []) h hX hI (fun _ _ h => w_X3_in h) 3 (lw_S q2043 q2044 q87 q2045) xd_X3_in ⟨rfl, rfl⟩ rfl hl.1 (Nat.le_of_ble_eq_true rfl) dX3_bill_44 (fun v11 H locs σ cells slots h hI => ?_)
        refine W.eq (g2 := F0 m 47 ls [.int v11]) rfl ?_
        refine lv_if_ne (tgt := 53) hx hb dX3_bill_47 (by decide) (fun hc => ?_) (fun hc => ?_)
        · have h := xif_f h hc
          refine lv_aload_n hx hb dX3_bill_53 rfl (lv_at hl 0 rfl) ?_
          refine lv_iconst (v := (3 : Int32)) hx hb dX3_bill_54 (by decide) ?_
          refine xr_callV (iv := (fun b => some (.int b))) (As := [.int (3 : Int32)]) (rest := []) h hX hI (fun _ _ h => w_X3_at h) (fun _ _ h => o_X3_at h) rfl 1 (lw_V q2022 q2024 qs31 q87 q2025) ⟨rfl, xd_X3_at⟩ ⟨rfl, rfl⟩ rfl hl.1 (Nat.le_of_ble_eq_true rfl) dX3_bill_55 (fun v12 H locs σ cells slots h hI => ?_)
          refine W.eq (g2 := F0 m 58 ls [.int v12]) rfl ?_
          refine lv_bipush (v := (24 : Int32)) hx hb dX3_bill_58 (by decide) ?_
          refine lv_icmp_ne (tgt := 66) hx hb dX3_bill_60 (by decide) (fun hc => ?_) (fun hc => ?_)
          · have h := xif_f h hc
            refine lv_aload_n hx hb dX3_bill_66 rfl (lv_at hl 0 rfl) ?_
            refine lv_iload_n hx hb dX3_bill_67 rfl (lv_at hl 1 rfl) ?_
            refine lv_iload_n hx hb dX3_bill_68 rfl (lv_at hl 2 rfl) ?_
            refine xr_callV (iv := (fun b => some (.int b))) (As := [.int a1, .int a2]) (rest := []) h hX hI (fun _ _ h => w_X3_begins h) (fun _ _ h => o_X3_begins h) rfl 2 (lw_V q2160 q2162 qs46 q87 q2163) ⟨rfl, xd_X3_begins⟩ ⟨rfl, rfl⟩ rfl hl.1 (Nat.le_of_ble_eq_true rfl) dX3_bill_69 (fun v13 H locs σ cells slots h hI => ?_)
            refine W.eq (g2 := F0 m 72 ls [.int v13]) rfl ?_
            refine lv_istore (lv' := [(6, .int v13), (0, .ref a0), (1, .int a1), (2, .int a2), (3, .int a3), (4, .int a4), (5, .int a5)]) hx hb dX3_bill_72 hl (Nat.le_of_ble_eq_true rfl) rfl (fun ls hl => ?_)
            refine lv_aload_n hx hb dX3_bill_74 rfl (lv_at hl 1 rfl) ?_
            refine lv_iload hx hb dX3_bill_75 (lv_at hl 0 rfl) ?_
            refine lv_iload_n hx hb dX3_bill_77 rfl (lv_at hl 4 rfl) ?_
            refine lv_iload hx hb dX3_bill_78 (lv_at hl 5 rfl) ?_
            refine lv_iload hx hb dX3_bill_80 (lv_at hl 6 rfl) ?_
            refine xr_callV (iv := (fun _ => none)) (As := [.int v13, .int a3, .int a4, .int a5]) (rest := []) h hX hI (fun _ _ h => w_X3_adds h) (fun _ _ h => o_X3_adds h) rfl 4 (lw_V q2165 q2167 qs47 q87 q2168) ⟨rfl, xd_X3_adds⟩ ⟨rfl, rfl⟩ rfl hl.1 (Nat.le_of_ble_eq_true rfl) dX3_bill_82 (fun _ H locs σ cells slots h hI => ?_)
            refine lv_aload_n hx hb dX3_bill_85 rfl (lv_at hl 1 rfl) ?_
            refine lv_iload hx hb dX3_bill_86 (lv_at hl 0 rfl) ?_
            refine xr_callV (iv := (fun b => some (.int b))) (As := [.int v13]) (rest := []) h hX hI (fun _ _ h => w_X3_entered h) (fun _ _ h => o_X3_entered h) rfl 1 (lw_V q2169 q2171 qs48 q87 q2172) ⟨rfl, xd_X3_entered⟩ ⟨rfl, rfl⟩ rfl hl.1 (Nat.le_of_ble_eq_true rfl) dX3_bill_88 (fun v14 H locs σ cells slots h hI => ?_)
            refine W.eq (g2 := F0 m 91 ls [.int v14]) rfl ?_
            exact xr_ireturn h hX hI dX3_bill_91
          · have h := xif_t h hc
            refine lv_bipush (v := (-3 : Int32)) hx hb dX3_bill_63 (by decide) ?_
            exact xr_ireturn h hX hI dX3_bill_65
        · have h := xif_t h hc
          refine lv_bipush (v := (-2 : Int32)) hx hb dX3_bill_50 (by decide) ?_
          exact xr_ireturn h hX hI dX3_bill_52
  · have h := xif_t h hc
    refine lv_iconst (v := (-1 : Int32)) hx hb dX3_bill_13 (by decide) ?_
    exact xr_ireturn h hX hI dX3_bill_14
/-! PayMatch$Reader.<init>(Ljava/lang/CharSequence;)V  -/
theorem w_X11_init {E : xE} {l : Launch} {a0 : Nat} {a1 : Nat} {r : Unit} {σ σ9 : xS} (h : (f_X11_init a0 a1).1 σ = some (r, σ9)) : xMet E l yX11_init (ws_ yX11_init cX11_init 2 none) 4 120 [.ref a0, .ref a1] σ σ9 none := by
  refine xstart (by decide +kernel) ((f_X11_init a0 a1).2 _ _ _ h) (Nat.le_of_ble_eq_true rfl) ?_
  intro p e s m args below meth c H locs cells slots ls R hX hI hl
  have hx := hX.1.1
  have hb := hX.1.2.1
  have hl : lv_has ls 2 [(0, .ref a0), (1, .ref a1)] := hl
  generalize hσ0 : σ = σ0 at hX hI ⊢
  have h : (f_X11_init a0 a1).1 σ0 = some (r, σ9) := by rw [← hσ0]; exact h
  clear hσ0
  delta f_X11_init at h
  refine lv_aload_n hx hb dX11_init_0 rfl (lv_at hl 0 rfl) ?_
  refine xr_objI hX q1561 q123 q124 hl.1 ⟨rfl, rfl⟩ dX11_init_1 ?_
  refine lv_aload_n hx hb dX11_init_4 rfl (lv_at hl 0 rfl) ?_
  refine xr_nw h hX hI xn_X11_7 dX11_init_5 (fun v2 H σ cells slots h hI => ?_)
  refine lv_dup hx hb dX11_init_8 rfl ?_
  refine xr_callI (As := []) (rest := [.ref v2, .ref a0]) h hX hI (fun _ _ h => w_J2_init h) 0 q1563 q141 q79 q140 rfl xd_J2_init ⟨rfl, rfl⟩ rfl hl.1 (Nat.le_of_ble_eq_true rfl) dX11_init_9 (fun _ H locs σ cells slots h hI => ?_)
  refine xr_pt h hX hI xl_X11_10_10 (Or.inr rfl) rfl rfl dX11_init_12 (fun H locs σ h hI => ?_)
  refine lv_aload_n hx hb dX11_init_15 rfl (lv_at hl 0 rfl) ?_
  refine lv_aload_n hx hb dX11_init_16 rfl (lv_at hl 1 rfl) ?_
  refine xr_pt h hX hI xl_X11_16_10 (Or.inr rfl) rfl rfl dX11_init_17 (fun H locs σ h hI => ?_)
  exact xr_return h hX hI dX11_init_20
/-! java/lang/AbstractStringBuilder.length()I  -/
theorem o_J6_length {a0 : Nat} {r : Int32} {σ σ9 : xS} (h : (f_J6_length a0).1 σ = some (r, σ9)) : ∃ fs, σ.1 a0 = some (.inl (15, fs)) := xck_of h
theorem w_J6_length {E : xE} {l : Launch} {a0 : Nat} {r : Int32} {σ σ9 : xS} (h : (f_J6_length a0).1 σ = some (r, σ9)) : xMet E l yJ6_length (ws_ yJ6_length cJ6_length 1 (some .int)) 0 0 [.ref a0] σ σ9 (some (.int r)) := by
  refine xstart (by decide +kernel) ((f_J6_length a0).2 _ _ _ h) (Nat.le_of_ble_eq_true rfl) ?_
  intro p e s m args below meth c H locs cells slots ls R hX hI hl
  have hx := hX.1.1
  have hb := hX.1.2.1
  have hl : lv_has ls 1 [(0, .ref a0)] := hl
  generalize hσ0 : σ = σ0 at hX hI ⊢
  have h : (f_J6_length a0).1 σ0 = some (r, σ9) := by rw [← hσ0]; exact h
  clear hσ0
  delta f_J6_length at h
  have h := (xck_bd h).2
  refine lv_aload_n hx hb dJ6_length_0 rfl (lv_at hl 0 rfl) ?_
  refine xr_gI h hX hI xl_J6_79_15.g dJ6_length_1 (fun v2 h => ?_)
  exact xr_ireturn h hX hI dJ6_length_4
/-! java/lang/StringBuilder.length()I  -/
theorem o_J7_length {a0 : Nat} {r : Int32} {σ σ9 : xS} (h : (f_J7_length a0).1 σ = some (r, σ9)) : ∃ fs, σ.1 a0 = some (.inl (15, fs)) := xck_of h
theorem w_J7_length {E : xE} {l : Launch} {a0 : Nat} {r : Int32} {σ σ9 : xS} (h : (f_J7_length a0).1 σ = some (r, σ9)) : xMet E l yJ7_length (ws_ yJ7_length cJ7_length 1 (some .int)) 1 20 [.ref a0] σ σ9 (some (.int r)) := by
  refine xstart (by decide +kernel) ((f_J7_length a0).2 _ _ _ h) (Nat.le_of_ble_eq_true rfl) ?_
  intro p e s m args below meth c H locs cells slots ls R hX hI hl
  have hx := hX.1.1
  have hb := hX.1.2.1
  have hl : lv_has ls 1 [(0, .ref a0)] := hl
  generalize hσ0 : σ = σ0 at hX hI ⊢
  have h : (f_J7_length a0).1 σ0 = some (r, σ9) := by rw [← hσ0]; exact h
  clear hσ0
  delta f_J7_length at h
  have h := (xck_bd h).2
  refine lv_aload_n hx hb dJ7_length_0 rfl (lv_at hl 0 rfl) ?_
  refine xr_callSU (iv := (fun b => some (.int b))) (As := []) (rest := []) h hX hI (fun _ _ h => w_J6_length h) (fun _ _ h => o_J6_length h) rfl 0 (xlwSU q768 q764 q284 q763 q83 q769) (by decide +kernel) ⟨rfl, rfl⟩ rfl hl.1 (Nat.le_of_ble_eq_true rfl) dJ7_length_1 (fun v2 H locs σ cells slots h hI => ?_)
  refine W.eq (g2 := F0 m 4 ls [.int v2]) rfl ?_
  exact xr_ireturn h hX hI dJ7_length_4
/-! java/lang/String.checkIndex(II)V  -/
theorem w_J8_checkIndex {E : xE} {l : Launch} {a0 : Int32} {a1 : Int32} {r : Unit} {σ σ9 : xS} (h : (f_J8_checkIndex a0 a1).1 σ = some (r, σ9)) : xMet E l yJ8_checkIndex (ws_ yJ8_checkIndex cJ8_checkIndex 2 none) 1 22 [.int a0, .int a1] σ σ9 none := by
  refine xstart (by decide +kernel) ((f_J8_checkIndex a0 a1).2 _ _ _ h) (Nat.le_of_ble_eq_true rfl) ?_
  intro p e s m args below meth c H locs cells slots ls R hX hI hl
  have hx := hX.1.1
  have hb := hX.1.2.1
  have hl : lv_has ls 2 [(0, .int a0), (1, .int a1)] := hl
  generalize hσ0 : σ = σ0 at hX hI ⊢
  have h : (f_J8_checkIndex a0 a1).1 σ0 = some (r, σ9) := by rw [← hσ0]; exact h
  clear hσ0
  delta f_J8_checkIndex at h
  refine lv_iload_n hx hb dJ8_checkIndex_0 rfl (lv_at hl 0 rfl) ?_
  refine lv_iload_n hx hb dJ8_checkIndex_1 rfl (lv_at hl 1 rfl) ?_
  obtain ⟨v3, hsf_v3⟩ := xZsf hX
  refine xr_gsX hX hI hsf_v3 q686 dJ8_checkIndex_2 ?_
  refine xr_callS (iv := (fun b => some (.int b))) (As := [.int a0, .int a1, va_rf v3]) (rest := []) h hX hI (fun _ _ h => w_J15_checkIndex (a2 := v3) h) 3 (lw_S q1625 q498 q95 q499) xd_J15_checkIndex ⟨rfl, rfl⟩ rfl hl.1 (Nat.le_of_ble_eq_true rfl) dJ8_checkIndex_5 (fun v4 H locs σ cells slots h hI => ?_)
  refine W.eq (g2 := F0 m 8 ls [.int v4]) rfl ?_
  refine lv_pop hx hb dJ8_checkIndex_8 rfl ?_
  exact xr_return h hX hI dJ8_checkIndex_9
/-! java/lang/StringUTF16.length([B)I  -/
theorem w_J9_length {E : xE} {l : Launch} {a0 : Nat} {r : Int32} {σ σ9 : xS} (h : (f_J9_length a0).1 σ = some (r, σ9)) : xMet E l yJ9_length (ws_ yJ9_length cJ9_length 1 (some .int)) 0 0 [.ref a0] σ σ9 (some (.int r)) := by
  refine xstart (by decide +kernel) ((f_J9_length a0).2 _ _ _ h) (Nat.le_of_ble_eq_true rfl) ?_
  intro p e s m args below meth c H locs cells slots ls R hX hI hl
  have hx := hX.1.1
  have hb := hX.1.2.1
  have hl : lv_has ls 1 [(0, .ref a0)] := hl
  generalize hσ0 : σ = σ0 at hX hI ⊢
  have h : (f_J9_length a0).1 σ0 = some (r, σ9) := by rw [← hσ0]; exact h
  clear hσ0
  delta f_J9_length at h
  refine lv_aload_n hx hb dJ9_length_0 rfl (lv_at hl 0 rfl) ?_
  refine xr_ln h hX hI dJ9_length_1 (fun v2 h => ?_)
  refine lv_iconst (v := (1 : Int32)) hx hb dJ9_length_2 (by decide) ?_
  refine lv_ishr hx hb dJ9_length_3 ?_
  exact xr_ireturn h hX hI dJ9_length_4
/-! java/lang/StringUTF16.getChar([BI)C  -/
theorem w_J9_getChar_b28 {a0 : Nat} {a1 : Int32} {r : Int32} (hX : xX E R p m c cJ9_getChar 2 s args RJ9 "getChar" meth (some .char) 1 20 σ0 σ9)
    (h : (f_J9_getChar_b28 a0 a1).1 σ = some (r, σ9)) (hI : xI E σ0 σ s H locs cells slots) (hl : lv_has ls 2 [(0, .ref a0), (1, .int a1)]) : W p l e R s m args below meth c H locs cells slots (xMQ E below args s σ0 σ9 (some (.int r))) (F0 m 28 ls []) := by
  have hx := hX.1.1
  have hb := hX.1.2.1
  delta f_J9_getChar_b28 at h
  refine lv_iload_n hx hb dJ9_getChar_28 rfl (lv_at hl 1 rfl) ?_
  refine lv_iconst (v := (1 : Int32)) hx hb dJ9_getChar_29 (by decide) ?_
  refine lv_ishl hx hb dJ9_getChar_30 ?_
  refine lv_istore_n (lv' := [(1, .int (a1 <<< ((1 : Int32) &&& 31))), (0, .ref a0)]) hx hb dJ9_getChar_31 rfl hl (Nat.le_of_ble_eq_true rfl) rfl (fun ls hl => ?_)
  refine lv_aload_n hx hb dJ9_getChar_32 rfl (lv_at hl 1 rfl) ?_
  refine lv_iload_n hx hb dJ9_getChar_33 rfl (lv_at hl 0 rfl) ?_
  refine lv_iinc (k := 0) (lv' := [(1, .int ((a1 <<< ((1 : Int32) &&& 31)) + (1 : Int32))), (0, .ref a0)]) hx hb dJ9_getChar_34 hl rfl (xiinc (by decide)) (Nat.le_of_ble_eq_true rfl) rfl (fun ls hl => ?_)
  refine xr_ldB h hX hI dJ9_getChar_37 (fun v4 h => ?_)
  refine lv_sipush (v := (255 : Int32)) hx hb dJ9_getChar_38 (by decide) ?_
  refine lv_iand hx hb dJ9_getChar_41 ?_
  refine xr_gsI hX hI (xZhi hX) q696 dJ9_getChar_42 ?_
  refine lv_ishl hx hb dJ9_getChar_45 ?_
  refine lv_aload_n hx hb dJ9_getChar_46 rfl (lv_at hl 1 rfl) ?_
  refine lv_iload_n hx hb dJ9_getChar_47 rfl (lv_at hl 0 rfl) ?_
  refine xr_ldB h hX hI dJ9_getChar_48 (fun v5 h => ?_)
  refine lv_sipush (v := (255 : Int32)) hx hb dJ9_getChar_49 (by decide) ?_
  refine lv_iand hx hb dJ9_getChar_52 ?_
  refine xr_gsI hX hI (xZlo hX) q698 dJ9_getChar_53 ?_
  refine lv_ishl hx hb dJ9_getChar_56 ?_
  refine lv_ior hx hb dJ9_getChar_57 ?_
  refine lv_i2c hx hb dJ9_getChar_58 rfl ?_
  exact xr_creturn h hX hI dJ9_getChar_59
theorem w_J9_getChar {E : xE} {l : Launch} {a0 : Nat} {a1 : Int32} {r : Int32} {σ σ9 : xS} (h : (f_J9_getChar a0 a1).1 σ = some (r, σ9)) : xMet E l yJ9_getChar (ws_ yJ9_getChar cJ9_getChar 2 (some .char)) 1 20 [.ref a0, .int a1] σ σ9 (some (.int r)) := by
  refine xstart (by decide +kernel) ((f_J9_getChar a0 a1).2 _ _ _ h) (Nat.le_of_ble_eq_true rfl) ?_
  intro p e s m args below meth c H locs cells slots ls R hX hI hl
  have hx := hX.1.1
  have hb := hX.1.2.1
  have hl : lv_has ls 2 [(0, .ref a0), (1, .int a1)] := hl
  generalize hσ0 : σ = σ0 at hX hI ⊢
  have h : (f_J9_getChar a0 a1).1 σ0 = some (r, σ9) := by rw [← hσ0]; exact h
  clear hσ0
  delta f_J9_getChar at h
  refine xr_gsI hX hI (xZas hX) q694 dJ9_getChar_0 ?_
  refine lv_if_ne (tgt := 28) hx hb dJ9_getChar_3 (by decide) (fun _ => ?_) (fun hc => absurd hc (by decide))
  exact w_J9_getChar_b28 hX h hI (lv_sub hl [0, 1] rfl)
/-! java/lang/AbstractStringBuilder.charAt(I)C  -/
theorem o_J6_charAt {a0 : Nat} {a1 : Int32} {r : Int32} {σ σ9 : xS} (h : (f_J6_charAt a0 a1).1 σ = some (r, σ9)) : ∃ fs, σ.1 a0 = some (.inl (15, fs)) := xck_of h
theorem w_J6_charAt {E : xE} {l : Launch} {a0 : Nat} {a1 : Int32} {r : Int32} {σ σ9 : xS} (h : (f_J6_charAt a0 a1).1 σ = some (r, σ9)) : xMet E l yJ6_charAt (ws_ yJ6_charAt cJ6_charAt 5 (some .char)) 2 43 [.ref a0, .int a1] σ σ9 (some (.int r)) := by
  refine xstart (by decide +kernel) ((f_J6_charAt a0 a1).2 _ _ _ h) (Nat.le_of_ble_eq_true rfl) ?_
  intro p e s m args below meth c H locs cells slots ls R hX hI hl
  have hx := hX.1.1
  have hb := hX.1.2.1
  have hl : lv_has ls 5 [(0, .ref a0), (1, .int a1)] := hl
  generalize hσ0 : σ = σ0 at hX hI ⊢
  have h : (f_J6_charAt a0 a1).1 σ0 = some (r, σ9) := by rw [← hσ0]; exact h
  clear hσ0
  delta f_J6_charAt at h
  have h := (xck_bd h).2
  refine lv_aload_n hx hb dJ6_charAt_0 rfl (lv_at hl 0 rfl) ?_
  refine xr_gI h hX hI xl_J6_22_15.g dJ6_charAt_1 (fun v8 h => ?_)
  refine lv_istore_n (lv' := [(2, .int v8), (0, .ref a0), (1, .int a1)]) hx hb dJ6_charAt_4 rfl hl (Nat.le_of_ble_eq_true rfl) rfl (fun ls hl => ?_)
  refine lv_aload_n hx hb dJ6_charAt_5 rfl (lv_at hl 1 rfl) ?_
  refine xr_gN h hX hI xl_J6_15_15.g dJ6_charAt_6 (fun v9 h => ?_)
  refine lv_astore_n (lv' := [(3, .ref v9), (2, .int v8), (0, .ref a0), (1, .int a1)]) hx hb dJ6_charAt_9 rfl hl (Nat.le_of_ble_eq_true rfl) rfl (fun ls hl => ?_)
  refine lv_aload_n hx hb dJ6_charAt_10 rfl (lv_at hl 2 rfl) ?_
  refine xr_gI h hX hI xl_J6_79_15.g dJ6_charAt_11 (fun v10 h => ?_)
  refine lv_aload_n hx hb dJ6_charAt_14 rfl (lv_at hl 0 rfl) ?_
  refine xr_ln h hX hI dJ6_charAt_15 (fun v11 h => ?_)
  refine lv_iload_n hx hb dJ6_charAt_16 rfl (lv_at hl 1 rfl) ?_
  refine lv_ishr hx hb dJ6_charAt_17 ?_
  refine xr_callS (iv := (fun b => some (.int b))) (As := [.int v10, .int (v11 >>> (v8 &&& 31))]) (rest := []) h hX hI (fun _ _ h => w_J21_min h) 2 (lw_S q1641 q664 q101 q665) xd_J21_min ⟨rfl, rfl⟩ rfl hl.1 (Nat.le_of_ble_eq_true rfl) dJ6_charAt_18 (fun v12 H locs σ cells slots h hI => ?_)
  refine W.eq (g2 := F0 m 21 ls [.int v12]) rfl ?_
  refine lv_istore (lv' := [(4, .int v12), (3, .ref v9), (2, .int v8), (0, .ref a0), (1, .int a1)]) hx hb dJ6_charAt_21 hl (Nat.le_of_ble_eq_true rfl) rfl (fun ls hl => ?_)
  refine lv_iload_n hx hb dJ6_charAt_23 rfl (lv_at hl 4 rfl) ?_
  refine lv_iload hx hb dJ6_charAt_24 (lv_at hl 0 rfl) ?_
  refine xr_callS (iv := (fun _ => none)) (As := [.int a1, .int v12]) (rest := []) h hX hI (fun _ _ h => w_J8_checkIndex h) 2 (lw_S q1642 q1623 q85 q1624) xd_J8_checkIndex ⟨rfl, rfl⟩ rfl hl.1 (Nat.le_of_ble_eq_true rfl) dJ6_charAt_26 (fun _ H locs σ cells slots h hI => ?_)
  refine lv_iload_n hx hb dJ6_charAt_29 rfl (lv_at hl 2 rfl) ?_
  refine lv_if_ne (tgt := 42) hx hb dJ6_charAt_30 (by decide) (fun hc => ?_) (fun hc => ?_)
  · have h := xif_f h hc
    refine lv_aload_n hx hb dJ6_charAt_42 rfl (lv_at hl 1 rfl) ?_
    refine lv_iload_n hx hb dJ6_charAt_43 rfl (lv_at hl 4 rfl) ?_
    refine xr_callS (iv := (fun b => some (.int b))) (As := [.ref v9, .int a1]) (rest := []) h hX hI (fun _ _ h => w_J9_getChar h) 2 (lw_S q1643 q787 q86 q788) xd_J9_getChar ⟨rfl, rfl⟩ rfl hl.1 (Nat.le_of_ble_eq_true rfl) dJ6_charAt_44 (fun v13 H locs σ cells slots h hI => ?_)
    refine W.eq (g2 := F0 m 47 ls [.int v13]) rfl ?_
    exact xr_creturn h hX hI dJ6_charAt_47
  · have h := xif_t h hc
    refine lv_aload_n hx hb dJ6_charAt_33 rfl (lv_at hl 1 rfl) ?_
    refine lv_iload_n hx hb dJ6_charAt_34 rfl (lv_at hl 4 rfl) ?_
    refine xr_ldB h hX hI dJ6_charAt_35 (fun v14 h => ?_)
    refine lv_sipush (v := (255 : Int32)) hx hb dJ6_charAt_36 (by decide) ?_
    refine lv_iand hx hb dJ6_charAt_39 ?_
    refine lv_i2c hx hb dJ6_charAt_40 rfl ?_
    exact xr_creturn h hX hI dJ6_charAt_41
/-! java/lang/StringBuilder.charAt(I)C  -/
theorem o_J7_charAt {a0 : Nat} {a1 : Int32} {r : Int32} {σ σ9 : xS} (h : (f_J7_charAt a0 a1).1 σ = some (r, σ9)) : ∃ fs, σ.1 a0 = some (.inl (15, fs)) := xck_of h
theorem w_J7_charAt {E : xE} {l : Launch} {a0 : Nat} {a1 : Int32} {r : Int32} {σ σ9 : xS} (h : (f_J7_charAt a0 a1).1 σ = some (r, σ9)) : xMet E l yJ7_charAt (ws_ yJ7_charAt cJ7_charAt 2 (some .char)) 3 67 [.ref a0, .int a1] σ σ9 (some (.int r)) := by
  refine xstart (by decide +kernel) ((f_J7_charAt a0 a1).2 _ _ _ h) (Nat.le_of_ble_eq_true rfl) ?_
  intro p e s m args below meth c H locs cells slots ls R hX hI hl
  have hx := hX.1.1
  have hb := hX.1.2.1
  have hl : lv_has ls 2 [(0, .ref a0), (1, .int a1)] := hl
  generalize hσ0 : σ = σ0 at hX hI ⊢
  have h : (f_J7_charAt a0 a1).1 σ0 = some (r, σ9) := by rw [← hσ0]; exact h
  clear hσ0
  delta f_J7_charAt at h
  have h := (xck_bd h).2
  refine lv_aload_n hx hb dJ7_charAt_0 rfl (lv_at hl 0 rfl) ?_
  refine lv_iload_n hx hb dJ7_charAt_1 rfl (lv_at hl 1 rfl) ?_
  refine xr_callSU (iv := (fun b => some (.int b))) (As := [.int a1]) (rest := []) h hX hI (fun _ _ h => w_J6_charAt h) (fun _ _ h => o_J6_charAt h) rfl 1 (xlwSU q1638 q2378 q284 q1639 q83 q1640) (by decide +kernel) ⟨rfl, rfl⟩ rfl hl.1 (Nat.le_of_ble_eq_true rfl) dJ7_charAt_2 (fun v2 H locs σ cells slots h hI => ?_)
  refine W.eq (g2 := F0 m 5 ls [.int v2]) rfl ?_
  exact xr_creturn h hX hI dJ7_charAt_5
/-! PayMatch$Reader.seesFigure()Z  -/
theorem o_X11_seesFigure {a0 : Nat} {r : Int32} {σ σ9 : xS} (h : (f_X11_seesFigure a0).1 σ = some (r, σ9)) : ∃ fs, σ.1 a0 = some (.inl (10, fs)) := xck_of h
theorem w_X11_seesFigure {E : xE} {l : Launch} {a0 : Nat} {r : Int32} {σ σ9 : xS} (h : (f_X11_seesFigure a0).1 σ = some (r, σ9)) : xMet E l yX11_seesFigure (ws_ yX11_seesFigure cX11_seesFigure 1 (some .boolean)) 4 88 [.ref a0] σ σ9 (some (.int r)) := by
  refine xstart (by decide +kernel) ((f_X11_seesFigure a0).2 _ _ _ h) (Nat.le_of_ble_eq_true rfl) ?_
  intro p e s m args below meth c H locs cells slots ls R hX hI hl
  have hx := hX.1.1
  have hb := hX.1.2.1
  have hl : lv_has ls 1 [(0, .ref a0)] := hl
  generalize hσ0 : σ = σ0 at hX hI ⊢
  have h : (f_X11_seesFigure a0).1 σ0 = some (r, σ9) := by rw [← hσ0]; exact h
  clear hσ0
  delta f_X11_seesFigure at h
  have h := (xck_bd h).2
  refine lv_aload_n hx hb dX11_seesFigure_0 rfl (lv_at hl 0 rfl) ?_
  refine xr_gI h hX hI xl_X11_20_10.g dX11_seesFigure_1 (fun v8 h => ?_)
  refine lv_aload_n hx hb dX11_seesFigure_4 rfl (lv_at hl 0 rfl) ?_
  refine xr_gN h hX hI xl_X11_16_10.g dX11_seesFigure_5 (fun v9 h => ?_)
  refine xr_callF (iv := (fun b => some (.int b))) (As := []) (rest := [.int v8]) h hX hI (fun _ _ h => w_J7_length h) (fun _ _ h => o_J7_length h) rfl 0 xfw_23 q1595 q1603 q766 q84 q767 xdi_23 ⟨rfl, rfl⟩ rfl hl.1 (Nat.le_of_ble_eq_true rfl) dX11_seesFigure_8 (fun v10 H locs σ cells slots h hI => ?_)
  refine W.eq (g2 := F0 m 13 ls [.int v10, .int v8]) rfl ?_
  refine lv_icmp_ge (tgt := 43) hx hb dX11_seesFigure_13 (by decide) (fun hc => ?_) (fun hc => ?_)
  · have h := xif_t h hc
    refine lv_iconst (v := (0 : Int32)) hx hb dX11_seesFigure_43 (by decide) ?_
    exact xr_zreturn h hX hI dX11_seesFigure_44
  · have h := xif_f h hc
    refine lv_aload_n hx hb dX11_seesFigure_16 rfl (lv_at hl 0 rfl) ?_
    refine xr_gN h hX hI xl_X11_16_10.g dX11_seesFigure_17 (fun v11 h => ?_)
    refine lv_aload_n hx hb dX11_seesFigure_20 rfl (lv_at hl 0 rfl) ?_
    refine xr_gI h hX hI xl_X11_20_10.g dX11_seesFigure_21 (fun v12 h => ?_)
    refine xr_callF (iv := (fun b => some (.int b))) (As := [.int v12]) (rest := []) h hX hI (fun _ _ h => w_J7_charAt h) (fun _ _ h => o_J7_charAt h) rfl 1 xfw_24 q1607 q1633 q1635 q84 q1637 xdi_24 ⟨rfl, rfl⟩ rfl hl.1 (Nat.le_of_ble_eq_true rfl) dX11_seesFigure_24 (fun v13 H locs σ cells slots h hI => ?_)
    refine W.eq (g2 := F0 m 29 ls [.int v13]) rfl ?_
    refine lv_bipush (v := (48 : Int32)) hx hb dX11_seesFigure_29 (by decide) ?_
    refine lv_bipush (v := (57 : Int32)) hx hb dX11_seesFigure_31 (by decide) ?_
    refine xr_callSN (iv := (fun b => some (.int b))) (As := [.int v13, .int (48 : Int32), .int (57 : Int32)]) (rest := []) h hX hI (fun _ _ h => w_X0_inRange h) 3 q1644 q1231 q74 q1230 xd_X0_inRange ⟨rfl, rfl⟩ rfl hl.1 (Nat.le_of_ble_eq_true rfl) dX11_seesFigure_33 (fun v14 H locs σ cells slots h hI => ?_)
    refine W.eq (g2 := F0 m 36 ls [.int v14]) rfl ?_
    refine lv_if_eq (tgt := 43) hx hb dX11_seesFigure_36 (by decide) (fun hc => ?_) (fun hc => ?_)
    · have h := xif_t h hc
      refine lv_iconst (v := (0 : Int32)) hx hb dX11_seesFigure_43 (by decide) ?_
      exact xr_zreturn h hX hI dX11_seesFigure_44
    · have h := xif_f h hc
      refine lv_iconst (v := (1 : Int32)) hx hb dX11_seesFigure_39 (by decide) ?_
      refine lv_goto (tgt := 44) hx hb dX11_seesFigure_40 (by decide) ?_
      exact xr_zreturn h hX hI dX11_seesFigure_44
/-! PayMatch$Reader.number(I)I  -/
theorem w_X11_number_b48 {rec48 : Nat → Int32 → Int32 → Int32 → xM (Nat ⊕ Int32)} {a0 : Nat} {a1 : Int32} {a2 : Int32} {a3 : Int32} {r : (Nat ⊕ Int32)} (hX : xX E R p m c cX11_number 4 s args RX11 "number" meth (some .int) 5 108 σ0 σ9) (hE : ∀ x ∈ c.exceptionTable.toList, False) (hl0 : l.stackTraces = false) (hrec48 : ∀ (a0 : Nat) (a1 : Int32) (a2 : Int32) (a3 : Int32) (σ : xS) (H : Heap) (locs : List Loc) (cells slots : Nat) (ls : Array Slot), (rec48 a0 a1 a2 a3).1 σ = some (r, σ9) → xI E σ0 σ s H locs cells slots → lv_has ls 4 [(0, .ref a0), (1, .int a1), (2, .int a2), (3, .int a3)] → W p l e R s m args below meth c H locs cells slots (xMQX E below args s σ0 σ9 (Sum.map id (fun b => some (.int b)) r)) (F0 m 48 ls []))
    (h : (f_X11_number_b48 rec48 a0 a1 a2 a3).1 σ = some (r, σ9)) (hI : xI E σ0 σ s H locs cells slots) (hl : lv_has ls 4 [(0, .ref a0), (1, .int a1), (2, .int a2), (3, .int a3)]) : W p l e R s m args below meth c H locs cells slots (xMQX E below args s σ0 σ9 (Sum.map id (fun b => some (.int b)) r)) (F0 m 48 ls []) := by
  have hx := hX.1.1
  have hb := hX.1.2.1
  delta f_X11_number_b48 at h
  refine lv_iload_n hx hb dX11_number_48 rfl (lv_at hl 3 rfl) ?_
  refine lv_iload_n hx hb dX11_number_49 rfl (lv_at hl 1 rfl) ?_
  refine lv_icmp_ge (tgt := 102) hx hb dX11_number_50 (by decide) (fun hc => ?_) (fun hc => ?_)
  · have h := xif_t h hc
    refine lv_iload_n hx hb dX11_number_102 rfl (lv_at hl 2 rfl) ?_
    exact xr_okx h (fun h => xr_ireturn h hX hI dX11_number_103)
  · have h := xif_f h hc
    refine lv_iload_n hx hb dX11_number_53 rfl (lv_at hl 2 rfl) ?_
    refine lv_if_le (tgt := 102) hx hb dX11_number_54 (by decide) (fun hc => ?_) (fun hc => ?_)
    · have h := xif_t h hc
      refine lv_iload_n hx hb dX11_number_102 rfl (lv_at hl 2 rfl) ?_
      exact xr_okx h (fun h => xr_ireturn h hX hI dX11_number_103)
    · have h := xif_f h hc
      refine lv_aload_n hx hb dX11_number_57 rfl (lv_at hl 0 rfl) ?_
      refine xr_callV (iv := (fun b => some (.int b))) (As := []) (rest := []) h hX hI (fun _ _ h => w_X11_seesFigure h) (fun _ _ h => o_X11_seesFigure h) rfl 0 (lw_V q1590 q1592 qs20 q114 q1593) ⟨rfl, xd_X11_seesFigure⟩ ⟨rfl, rfl⟩ rfl hl.1 (Nat.le_of_ble_eq_true rfl) dX11_number_58 (fun v11 H locs σ cells slots h hI => ?_)
      refine W.eq (g2 := F0 m 61 ls [.int v11]) rfl ?_
      refine lv_if_eq (tgt := 102) hx hb dX11_number_61 (by decide) (fun hc => ?_) (fun hc => ?_)
      · have h := xif_t h hc
        refine lv_iload_n hx hb dX11_number_102 rfl (lv_at hl 2 rfl) ?_
        exact xr_okx h (fun h => xr_ireturn h hX hI dX11_number_103)
      · have h := xif_f h hc
        refine lv_bipush (v := (10 : Int32)) hx hb dX11_number_64 (by decide) ?_
        refine lv_iload_n hx hb dX11_number_66 rfl (lv_at hl 2 rfl) ?_
        refine lv_imul hx hb dX11_number_67 ?_
        refine lv_aload_n hx hb dX11_number_68 rfl (lv_at hl 0 rfl) ?_
        refine xr_gN h hX hI xl_X11_16_10.g dX11_number_69 (fun v12 h => ?_)
        refine lv_aload_n hx hb dX11_number_72 rfl (lv_at hl 0 rfl) ?_
        refine xr_gI h hX hI xl_X11_20_10.g dX11_number_73 (fun v13 h => ?_)
        refine xr_callF (iv := (fun b => some (.int b))) (As := [.int v13]) (rest := [.int ((10 : Int32) * a2)]) h hX hI (fun _ _ h => w_J7_charAt h) (fun _ _ h => o_J7_charAt h) rfl 1 xfw_24 q1607 q1633 q1635 q84 q1637 xdi_24 ⟨rfl, rfl⟩ rfl hl.1 (Nat.le_of_ble_eq_true rfl) dX11_number_76 (fun v14 H locs σ cells slots h hI => ?_)
        refine W.eq (g2 := F0 m 81 ls [.int v14, .int ((10 : Int32) * a2)]) rfl ?_
        refine lv_iadd hx hb dX11_number_81 ?_
        refine lv_bipush (v := (48 : Int32)) hx hb dX11_number_82 (by decide) ?_
        refine lv_isub hx hb dX11_number_84 ?_
        refine lv_istore_n (lv' := [(2, .int ((((10 : Int32) * a2) + v14) - (48 : Int32))), (0, .ref a0), (1, .int a1), (3, .int a3)]) hx hb dX11_number_85 rfl hl (Nat.le_of_ble_eq_true rfl) rfl (fun ls hl => ?_)
        refine lv_aload_n hx hb dX11_number_86 rfl (lv_at hl 1 rfl) ?_
        refine lv_dup hx hb dX11_number_87 rfl ?_
        refine xr_gI h hX hI xl_X11_20_10.g dX11_number_88 (fun v15 h => ?_)
        refine lv_iconst (v := (1 : Int32)) hx hb dX11_number_91 (by decide) ?_
        refine lv_iadd hx hb dX11_number_92 ?_
        refine xr_pt h hX hI xl_X11_20_10 (Or.inl rfl) rfl rfl dX11_number_93 (fun H locs σ h hI => ?_)
        refine lv_iinc (k := 3) (lv' := [(3, .int (a3 + (1 : Int32))), (2, .int ((((10 : Int32) * a2) + v14) - (48 : Int32))), (0, .ref a0), (1, .int a1)]) hx hb dX11_number_96 hl rfl (xiinc (by decide)) (Nat.le_of_ble_eq_true rfl) rfl (fun ls hl => ?_)
        refine lv_goto (tgt := 48) hx hb dX11_number_99 (by decide) ?_
        exact hrec48 a0 a1 ((((10 : Int32) * a2) + v14) - (48 : Int32)) (a3 + (1 : Int32)) _ _ _ _ _ _ h hI (lv_sub hl [2, 3, 1, 0] rfl)
theorem w_X11_number_L48 {r : (Nat ⊕ Int32)} (hX : xX E R p m c cX11_number 4 s args RX11 "number" meth (some .int) 5 108 σ0 σ9) (hE : ∀ x ∈ c.exceptionTable.toList, False) (hl0 : l.stackTraces = false) : ∀ (n : Nat) (a0 : Nat) (a1 : Int32) (a2 : Int32) (a3 : Int32) (σ : xS) (H : Heap) (locs : List Loc) (cells slots : Nat) (ls : Array Slot), (f_X11_number_L48 n a0 a1 a2 a3).1 σ = some (r, σ9) → xI E σ0 σ s H locs cells slots → lv_has ls 4 [(0, .ref a0), (1, .int a1), (2, .int a2), (3, .int a3)] → W p l e R s m args below meth c H locs cells slots (xMQX E below args s σ0 σ9 (Sum.map id (fun b => some (.int b)) r)) (F0 m 48 ls []) := by
  intro n
  induction n with
  | zero =>
    intro a0 a1 a2 a3 σ H locs cells slots ls h
    exact xr_no h
  | succ n ih =>
    intro a0 a1 a2 a3 σ H locs cells slots ls h hI hl
    exact w_X11_number_b48 hX hE hl0 ih h hI hl
theorem o_X11_number {a0 : Nat} {a1 : Int32} {r : (Nat ⊕ Int32)} {σ σ9 : xS} (h : (f_X11_number a0 a1).1 σ = some (r, σ9)) : ∃ fs, σ.1 a0 = some (.inl (10, fs)) := xck_of h
theorem w_X11_number {E : xE} {l : Launch} {a0 : Nat} {a1 : Int32} {r : (Nat ⊕ Int32)} {σ σ9 : xS} (hl0 : l.stackTraces = false) (h : (f_X11_number a0 a1).1 σ = some (r, σ9)) : xMetX E l yX11_number (ws_ yX11_number cX11_number 4 (some .int)) 5 108 [.ref a0, .int a1] σ σ9 (Sum.map id (fun b => some (.int b)) r) := by
  refine xstartX (by decide +kernel) ((f_X11_number a0 a1).2 _ _ _ h) (Nat.le_of_ble_eq_true rfl) ?_
  intro p e s m args below meth c H locs cells slots ls R hX hE hI hl
  have hx := hX.1.1
  have hb := hX.1.2.1
  have hl : lv_has ls 4 [(0, .ref a0), (1, .int a1)] := hl
  generalize hσ0 : σ = σ0 at hX hI ⊢
  have h : (f_X11_number a0 a1).1 σ0 = some (r, σ9) := by rw [← hσ0]; exact h
  clear hσ0
  delta f_X11_number at h
  have h := (xck_bd h).2
  refine lv_aload_n hx hb dX11_number_0 rfl (lv_at hl 0 rfl) ?_
  refine xr_callV (iv := (fun b => some (.int b))) (As := []) (rest := []) h hX hI (fun _ _ h => w_X11_seesFigure h) (fun _ _ h => o_X11_seesFigure h) rfl 0 (lw_V q1590 q1592 qs20 q114 q1593) ⟨rfl, xd_X11_seesFigure⟩ ⟨rfl, rfl⟩ rfl hl.1 (Nat.le_of_ble_eq_true rfl) dX11_number_1 (fun v16 H locs σ cells slots h hI => ?_)
  refine W.eq (g2 := F0 m 4 ls [.int v16]) rfl ?_
  refine lv_if_ne (tgt := 19) hx hb dX11_number_4 (by decide) (fun hc => ?_) (fun hc => ?_)
  · have h := xif_f h hc
    refine lv_aload_n hx hb dX11_number_19 rfl (lv_at hl 0 rfl) ?_
    refine xr_gN h hX hI xl_X11_16_10.g dX11_number_20 (fun v17 h => ?_)
    refine lv_aload_n hx hb dX11_number_23 rfl (lv_at hl 0 rfl) ?_
    refine xr_gI h hX hI xl_X11_20_10.g dX11_number_24 (fun v18 h => ?_)
    refine xr_callF (iv := (fun b => some (.int b))) (As := [.int v18]) (rest := []) h hX hI (fun _ _ h => w_J7_charAt h) (fun _ _ h => o_J7_charAt h) rfl 1 xfw_24 q1607 q1633 q1635 q84 q1637 xdi_24 ⟨rfl, rfl⟩ rfl hl.1 (Nat.le_of_ble_eq_true rfl) dX11_number_27 (fun v19 H locs σ cells slots h hI => ?_)
    refine W.eq (g2 := F0 m 32 ls [.int v19]) rfl ?_
    refine lv_bipush (v := (48 : Int32)) hx hb dX11_number_32 (by decide) ?_
    refine lv_isub hx hb dX11_number_34 ?_
    refine lv_istore_n (lv' := [(2, .int (v19 - (48 : Int32))), (0, .ref a0), (1, .int a1)]) hx hb dX11_number_35 rfl hl (Nat.le_of_ble_eq_true rfl) rfl (fun ls hl => ?_)
    refine lv_aload_n hx hb dX11_number_36 rfl (lv_at hl 1 rfl) ?_
    refine lv_dup hx hb dX11_number_37 rfl ?_
    refine xr_gI h hX hI xl_X11_20_10.g dX11_number_38 (fun v20 h => ?_)
    refine lv_iconst (v := (1 : Int32)) hx hb dX11_number_41 (by decide) ?_
    refine lv_iadd hx hb dX11_number_42 ?_
    refine xr_pt h hX hI xl_X11_20_10 (Or.inl rfl) rfl rfl dX11_number_43 (fun H locs σ h hI => ?_)
    refine lv_iconst (v := (1 : Int32)) hx hb dX11_number_46 (by decide) ?_
    refine lv_istore_n (lv' := [(3, .int (1 : Int32)), (2, .int (v19 - (48 : Int32))), (0, .ref a0), (1, .int a1)]) hx hb dX11_number_47 rfl hl (Nat.le_of_ble_eq_true rfl) rfl (fun ls hl => ?_)
    exact w_X11_number_L48 hX hE hl0 xFU a0 a1 (v19 - (48 : Int32)) (1 : Int32) _ _ _ _ _ _ h hI (lv_sub hl [2, 3, 1, 0] rfl)
  · have h := xif_t h hc
    exact xr_fault hl0 h hX hE hI hl ⟨rfl, rfl⟩ xl_X11_20_10.g dX11_number_7 dX11_number_10 dX11_number_11 dX11_number_12 dX11_number_15 dX11_number_18
/-! PayMatch$Reader.sign(C)V  -/
theorem w_X11_sign_b33 {a0 : Nat} {r : (Nat ⊕ Unit)} (hX : xX E R p m c cX11_sign 2 s args RX11 "sign" meth none 5 88 σ0 σ9) (hE : ∀ x ∈ c.exceptionTable.toList, False) (hl0 : l.stackTraces = false)
    (h : (f_X11_sign_b33 a0).1 σ = some (r, σ9)) (hI : xI E σ0 σ s H locs cells slots) (hl : lv_has ls 2 [(0, .ref a0)]) : W p l e R s m args below meth c H locs cells slots (xMQX E below args s σ0 σ9 (Sum.map id (fun _ => none) r)) (F0 m 33 ls []) := by
  have hx := hX.1.1
  have hb := hX.1.2.1
  delta f_X11_sign_b33 at h
  exact xr_fault hl0 h hX hE hI hl ⟨rfl, rfl⟩ xl_X11_20_10.g dX11_sign_33 dX11_sign_36 dX11_sign_37 dX11_sign_38 dX11_sign_41 dX11_sign_44
theorem o_X11_sign {a0 : Nat} {a1 : Int32} {r : (Nat ⊕ Unit)} {σ σ9 : xS} (h : (f_X11_sign a0 a1).1 σ = some (r, σ9)) : ∃ fs, σ.1 a0 = some (.inl (10, fs)) := xck_of h
theorem w_X11_sign {E : xE} {l : Launch} {a0 : Nat} {a1 : Int32} {r : (Nat ⊕ Unit)} {σ σ9 : xS} (hl0 : l.stackTraces = false) (h : (f_X11_sign a0 a1).1 σ = some (r, σ9)) : xMetX E l yX11_sign (ws_ yX11_sign cX11_sign 2 none) 5 88 [.ref a0, .int a1] σ σ9 (Sum.map id (fun _ => none) r) := by
  refine xstartX (by decide +kernel) ((f_X11_sign a0 a1).2 _ _ _ h) (Nat.le_of_ble_eq_true rfl) ?_
  intro p e s m args below meth c H locs cells slots ls R hX hE hI hl
  have hx := hX.1.1
  have hb := hX.1.2.1
  have hl : lv_has ls 2 [(0, .ref a0), (1, .int a1)] := hl
  generalize hσ0 : σ = σ0 at hX hI ⊢
  have h : (f_X11_sign a0 a1).1 σ0 = some (r, σ9) := by rw [← hσ0]; exact h
  clear hσ0
  delta f_X11_sign at h
  have h := (xck_bd h).2
  refine lv_aload_n hx hb dX11_sign_0 rfl (lv_at hl 0 rfl) ?_
  refine xr_gI h hX hI xl_X11_20_10.g dX11_sign_1 (fun v8 h => ?_)
  refine lv_aload_n hx hb dX11_sign_4 rfl (lv_at hl 0 rfl) ?_
  refine xr_gN h hX hI xl_X11_16_10.g dX11_sign_5 (fun v9 h => ?_)
  refine xr_callF (iv := (fun b => some (.int b))) (As := []) (rest := [.int v8]) h hX hI (fun _ _ h => w_J7_length h) (fun _ _ h => o_J7_length h) rfl 0 xfw_23 q1595 q1603 q766 q84 q767 xdi_23 ⟨rfl, rfl⟩ rfl hl.1 (Nat.le_of_ble_eq_true rfl) dX11_sign_8 (fun v10 H locs σ cells slots h hI => ?_)
  refine W.eq (g2 := F0 m 13 ls [.int v10, .int v8]) rfl ?_
  refine lv_icmp_ge (tgt := 33) hx hb dX11_sign_13 (by decide) (fun hc => ?_) (fun hc => ?_)
  · have h := xif_t h hc
    exact w_X11_sign_b33 hX hE hl0 h hI (lv_sub hl [0] rfl)
  · have h := xif_f h hc
    refine lv_aload_n hx hb dX11_sign_16 rfl (lv_at hl 0 rfl) ?_
    refine xr_gN h hX hI xl_X11_16_10.g dX11_sign_17 (fun v11 h => ?_)
    refine lv_aload_n hx hb dX11_sign_20 rfl (lv_at hl 0 rfl) ?_
    refine xr_gI h hX hI xl_X11_20_10.g dX11_sign_21 (fun v12 h => ?_)
    refine xr_callF (iv := (fun b => some (.int b))) (As := [.int v12]) (rest := []) h hX hI (fun _ _ h => w_J7_charAt h) (fun _ _ h => o_J7_charAt h) rfl 1 xfw_24 q1607 q1633 q1635 q84 q1637 xdi_24 ⟨rfl, rfl⟩ rfl hl.1 (Nat.le_of_ble_eq_true rfl) dX11_sign_24 (fun v13 H locs σ cells slots h hI => ?_)
    refine W.eq (g2 := F0 m 29 ls [.int v13]) rfl ?_
    refine lv_iload_n hx hb dX11_sign_29 rfl (lv_at hl 1 rfl) ?_
    refine lv_icmp_eq (tgt := 45) hx hb dX11_sign_30 (by decide) (fun hc => ?_) (fun hc => ?_)
    · have h := xif_t h hc
      refine lv_aload_n hx hb dX11_sign_45 rfl (lv_at hl 0 rfl) ?_
      refine lv_dup hx hb dX11_sign_46 rfl ?_
      refine xr_gI h hX hI xl_X11_20_10.g dX11_sign_47 (fun v14 h => ?_)
      refine lv_iconst (v := (1 : Int32)) hx hb dX11_sign_50 (by decide) ?_
      refine lv_iadd hx hb dX11_sign_51 ?_
      refine xr_pt h hX hI xl_X11_20_10 (Or.inl rfl) rfl rfl dX11_sign_52 (fun H locs σ h hI => ?_)
      exact xr_okx h (fun h => xr_return h hX hI dX11_sign_55)
    · have h := xif_f h hc
      exact w_X11_sign_b33 hX hE hl0 h hI (lv_sub hl [0] rfl)
/-! PayMatch$Reader.entry()V  -/
theorem o_X11_entry {a0 : Nat} {r : (Nat ⊕ Unit)} {σ σ9 : xS} (h : (f_X11_entry a0).1 σ = some (r, σ9)) : ∃ fs, σ.1 a0 = some (.inl (10, fs)) := xck_of h
theorem w_X11_entry {E : xE} {l : Launch} {a0 : Nat} {r : (Nat ⊕ Unit)} {σ σ9 : xS} (hl0 : l.stackTraces = false) (h : (f_X11_entry a0).1 σ = some (r, σ9)) : xMetX E l yX11_entry (ws_ yX11_entry cX11_entry 3 none) 8 308 [.ref a0] σ σ9 (Sum.map id (fun _ => none) r) := by
  refine xstartX (by decide +kernel) ((f_X11_entry a0).2 _ _ _ h) (Nat.le_of_ble_eq_true rfl) ?_
  intro p e s m args below meth c H locs cells slots ls R hX hE hI hl
  have hx := hX.1.1
  have hb := hX.1.2.1
  have hl : lv_has ls 3 [(0, .ref a0)] := hl
  generalize hσ0 : σ = σ0 at hX hI ⊢
  have h : (f_X11_entry a0).1 σ0 = some (r, σ9) := by rw [← hσ0]; exact h
  clear hσ0
  delta f_X11_entry at h
  have h := (xck_bd h).2
  refine lv_aload_n hx hb dX11_entry_0 rfl (lv_at hl 0 rfl) ?_
  refine lv_iconst (v := (3 : Int32)) hx hb dX11_entry_1 (by decide) ?_
  refine xr_callVX (iv := (fun b => some (.int b))) (As := [.int (3 : Int32)]) (rest := []) h hX hI (fun _ _ h => w_X11_number hl0 h) (fun _ _ h => o_X11_number h) rfl 1 (lw_V q1586 q1588 qs19 q114 q1589) ⟨rfl, xd_X11_number⟩ ⟨rfl, rfl⟩ rfl hl.1 (Nat.le_of_ble_eq_true rfl) dX11_entry_2 (fun qv13 H locs σ cells slots ce h hI hce hcv hcl => ?_) (fun v13 H locs σ cells slots h hI => ?_)
  · exact xr_outx h hX hE hI hce hcv hcl
  · refine W.eq (g2 := F0 m 5 ls [.int v13]) rfl ?_
    refine lv_istore_n (lv' := [(1, .int v13), (0, .ref a0)]) hx hb dX11_entry_5 rfl hl (Nat.le_of_ble_eq_true rfl) rfl (fun ls hl => ?_)
    refine lv_aload_n hx hb dX11_entry_6 rfl (lv_at hl 1 rfl) ?_
    refine lv_bipush (v := (120 : Int32)) hx hb dX11_entry_7 (by decide) ?_
    refine xr_callVX (iv := (fun _ => none)) (As := [.int (120 : Int32)]) (rest := []) h hX hI (fun _ _ h => w_X11_sign hl0 h) (fun _ _ h => o_X11_sign h) rfl 1 (lw_V q1667 q1669 qs21 q114 q1670) ⟨rfl, xd_X11_sign⟩ ⟨rfl, rfl⟩ rfl hl.1 (Nat.le_of_ble_eq_true rfl) dX11_entry_9 (fun qv14 H locs σ cells slots ce h hI hce hcv hcl => ?_) (fun _ H locs σ cells slots h hI => ?_)
    · exact xr_outx h hX hE hI hce hcv hcl
    · refine lv_aload_n hx hb dX11_entry_12 rfl (lv_at hl 1 rfl) ?_
      refine lv_iconst (v := (3 : Int32)) hx hb dX11_entry_13 (by decide) ?_
      refine xr_callVX (iv := (fun b => some (.int b))) (As := [.int (3 : Int32)]) (rest := []) h hX hI (fun _ _ h => w_X11_number hl0 h) (fun _ _ h => o_X11_number h) rfl 1 (lw_V q1586 q1588 qs19 q114 q1589) ⟨rfl, xd_X11_number⟩ ⟨rfl, rfl⟩ rfl hl.1 (Nat.le_of_ble_eq_true rfl) dX11_entry_14 (fun qv16 H locs σ cells slots ce h hI hce hcv hcl => ?_) (fun v16 H locs σ cells slots h hI => ?_)
      · exact xr_outx h hX hE hI hce hcv hcl
      · refine W.eq (g2 := F0 m 17 ls [.int v16]) rfl ?_
        refine lv_istore_n (lv' := [(2, .int v16), (1, .int v13), (0, .ref a0)]) hx hb dX11_entry_17 rfl hl (Nat.le_of_ble_eq_true rfl) rfl (fun ls hl => ?_)
        refine lv_aload_n hx hb dX11_entry_18 rfl (lv_at hl 2 rfl) ?_
        refine lv_bipush (v := (64 : Int32)) hx hb dX11_entry_19 (by decide) ?_
        refine xr_callVX (iv := (fun _ => none)) (As := [.int (64 : Int32)]) (rest := []) h hX hI (fun _ _ h => w_X11_sign hl0 h) (fun _ _ h => o_X11_sign h) rfl 1 (lw_V q1667 q1669 qs21 q114 q1670) ⟨rfl, xd_X11_sign⟩ ⟨rfl, rfl⟩ rfl hl.1 (Nat.le_of_ble_eq_true rfl) dX11_entry_21 (fun qv17 H locs σ cells slots ce h hI hce hcv hcl => ?_) (fun _ H locs σ cells slots h hI => ?_)
        · exact xr_outx h hX hE hI hce hcv hcl
        · refine lv_aload_n hx hb dX11_entry_24 rfl (lv_at hl 2 rfl) ?_
          refine xr_gN h hX hI xl_X11_10_10.g dX11_entry_25 (fun v18 h => ?_)
          refine xr_nw h hX hI xn_X11_57 dX11_entry_28 (fun v19 H σ cells slots h hI => ?_)
          refine lv_dup hx hb dX11_entry_31 rfl ?_
          refine lv_iload_n hx hb dX11_entry_32 rfl (lv_at hl 1 rfl) ?_
          refine lv_iload_n hx hb dX11_entry_33 rfl (lv_at hl 0 rfl) ?_
          refine lv_aload_n hx hb dX11_entry_34 rfl (lv_at hl 2 rfl) ?_
          refine lv_iconst (v := (4 : Int32)) hx hb dX11_entry_35 (by decide) ?_
          refine xr_callVX (iv := (fun b => some (.int b))) (As := [.int (4 : Int32)]) (rest := [.int v16, .int v13, .ref v19, .ref v19, .ref v18]) h hX hI (fun _ _ h => w_X11_number hl0 h) (fun _ _ h => o_X11_number h) rfl 1 (lw_V q1586 q1588 qs19 q114 q1589) ⟨rfl, xd_X11_number⟩ ⟨rfl, rfl⟩ rfl hl.1 (Nat.le_of_ble_eq_true rfl) dX11_entry_36 (fun qv21 H locs σ cells slots ce h hI hce hcv hcl => ?_) (fun v21 H locs σ cells slots h hI => ?_)
          · exact xr_outx h hX hE hI hce hcv hcl
          · refine W.eq (g2 := F0 m 39 ls [.int v21, .int v16, .int v13, .ref v19, .ref v19, .ref v18]) rfl ?_
            refine xr_callI (As := [.int v13, .int v16, .int v21]) (rest := [.ref v19, .ref v18]) h hX hI (fun _ _ h => w_X10_init h) 3 q1676 q1514 q113 q1513 rfl xd_X10_init ⟨rfl, rfl⟩ rfl hl.1 (Nat.le_of_ble_eq_true rfl) dX11_entry_39 (fun _ H locs σ cells slots h hI => ?_)
            refine xr_callF (iv := (fun b => some (.int b))) (As := [.ref v19]) (rest := []) h hX hI (fun _ _ h => w_J2_add h) (fun _ _ h => o_J2_add h) rfl 1 xfw_12 q1678 q1104 q1106 q79 q1108 xdi_12 ⟨rfl, rfl⟩ rfl hl.1 (Nat.le_of_ble_eq_true rfl) dX11_entry_42 (fun v22 H locs σ cells slots h hI => ?_)
            refine W.eq (g2 := F0 m 47 ls [.int v22]) rfl ?_
            refine lv_pop hx hb dX11_entry_47 rfl ?_
            exact xr_okx h (fun h => xr_return h hX hI dX11_entry_48)
/-! PayMatch$Reader.read()V  -/
theorem w_X11_read_b34 {rec34 : Nat → xM (Nat ⊕ Unit)} {a0 : Nat} {r : (Nat ⊕ Unit)} (hX : xX E R p m c cX11_read 1 s args RX11 "read" meth none 9 330 σ0 σ9) (hE : ∀ x ∈ c.exceptionTable.toList, False) (hl0 : l.stackTraces = false) (hrec34 : ∀ (a0 : Nat) (σ : xS) (H : Heap) (locs : List Loc) (cells slots : Nat) (ls : Array Slot), (rec34 a0).1 σ = some (r, σ9) → xI E σ0 σ s H locs cells slots → lv_has ls 1 [(0, .ref a0)] → W p l e R s m args below meth c H locs cells slots (xMQX E below args s σ0 σ9 (Sum.map id (fun _ => none) r)) (F0 m 34 ls []))
    (h : (f_X11_read_b34 rec34 a0).1 σ = some (r, σ9)) (hI : xI E σ0 σ s H locs cells slots) (hl : lv_has ls 1 [(0, .ref a0)]) : W p l e R s m args below meth c H locs cells slots (xMQX E below args s σ0 σ9 (Sum.map id (fun _ => none) r)) (F0 m 34 ls []) := by
  have hx := hX.1.1
  have hb := hX.1.2.1
  delta f_X11_read_b34 at h
  refine lv_aload_n hx hb dX11_read_34 rfl (lv_at hl 0 rfl) ?_
  refine xr_gI h hX hI xl_X11_20_10.g dX11_read_35 (fun v13 h => ?_)
  refine lv_aload_n hx hb dX11_read_38 rfl (lv_at hl 0 rfl) ?_
  refine xr_gN h hX hI xl_X11_16_10.g dX11_read_39 (fun v14 h => ?_)
  refine xr_callF (iv := (fun b => some (.int b))) (As := []) (rest := [.int v13]) h hX hI (fun _ _ h => w_J7_length h) (fun _ _ h => o_J7_length h) rfl 0 xfw_23 q1595 q1603 q766 q84 q767 xdi_23 ⟨rfl, rfl⟩ rfl hl.1 (Nat.le_of_ble_eq_true rfl) dX11_read_42 (fun v15 H locs σ cells slots h hI => ?_)
  refine W.eq (g2 := F0 m 47 ls [.int v15, .int v13]) rfl ?_
  refine lv_icmp_ge (tgt := 63) hx hb dX11_read_47 (by decide) (fun hc => ?_) (fun hc => ?_)
  · have h := xif_t h hc
    exact xr_okx h (fun h => xr_return h hX hI dX11_read_63)
  · have h := xif_f h hc
    refine lv_aload_n hx hb dX11_read_50 rfl (lv_at hl 0 rfl) ?_
    refine lv_bipush (v := (44 : Int32)) hx hb dX11_read_51 (by decide) ?_
    refine xr_callVX (iv := (fun _ => none)) (As := [.int (44 : Int32)]) (rest := []) h hX hI (fun _ _ h => w_X11_sign hl0 h) (fun _ _ h => o_X11_sign h) rfl 1 (lw_V q1667 q1669 qs21 q114 q1670) ⟨rfl, xd_X11_sign⟩ ⟨rfl, rfl⟩ rfl hl.1 (Nat.le_of_ble_eq_true rfl) dX11_read_53 (fun qv16 H locs σ cells slots ce h hI hce hcv hcl => ?_) (fun _ H locs σ cells slots h hI => ?_)
    · exact xr_outx h hX hE hI hce hcv hcl
    · refine lv_aload_n hx hb dX11_read_56 rfl (lv_at hl 0 rfl) ?_
      refine xr_callVX (iv := (fun _ => none)) (As := []) (rest := []) h hX hI (fun _ _ h => w_X11_entry hl0 h) (fun _ _ h => o_X11_entry h) rfl 0 (lw_V q1671 q1673 qs22 q114 q1674) ⟨rfl, xd_X11_entry⟩ ⟨rfl, rfl⟩ rfl hl.1 (Nat.le_of_ble_eq_true rfl) dX11_read_57 (fun qv17 H locs σ cells slots ce h hI hce hcv hcl => ?_) (fun _ H locs σ cells slots h hI => ?_)
      · exact xr_outx h hX hE hI hce hcv hcl
      · refine lv_goto (tgt := 34) hx hb dX11_read_60 (by decide) ?_
        exact hrec34 a0 _ _ _ _ _ _ h hI (lv_sub hl [0] rfl)
theorem w_X11_read_L34 {r : (Nat ⊕ Unit)} (hX : xX E R p m c cX11_read 1 s args RX11 "read" meth none 9 330 σ0 σ9) (hE : ∀ x ∈ c.exceptionTable.toList, False) (hl0 : l.stackTraces = false) : ∀ (n : Nat) (a0 : Nat) (σ : xS) (H : Heap) (locs : List Loc) (cells slots : Nat) (ls : Array Slot), (f_X11_read_L34 n a0).1 σ = some (r, σ9) → xI E σ0 σ s H locs cells slots → lv_has ls 1 [(0, .ref a0)] → W p l e R s m args below meth c H locs cells slots (xMQX E below args s σ0 σ9 (Sum.map id (fun _ => none) r)) (F0 m 34 ls []) := by
  intro n
  induction n with
  | zero =>
    intro a0 σ H locs cells slots ls h
    exact xr_no h
  | succ n ih =>
    intro a0 σ H locs cells slots ls h hI hl
    exact w_X11_read_b34 hX hE hl0 ih h hI hl
theorem o_X11_read {a0 : Nat} {r : (Nat ⊕ Unit)} {σ σ9 : xS} (h : (f_X11_read a0).1 σ = some (r, σ9)) : ∃ fs, σ.1 a0 = some (.inl (10, fs)) := xck_of h
theorem w_X11_read {E : xE} {l : Launch} {a0 : Nat} {r : (Nat ⊕ Unit)} {σ σ9 : xS} (hl0 : l.stackTraces = false) (h : (f_X11_read a0).1 σ = some (r, σ9)) : xMetX E l yX11_read (ws_ yX11_read cX11_read 1 none) 9 330 [.ref a0] σ σ9 (Sum.map id (fun _ => none) r) := by
  refine xstartX (by decide +kernel) ((f_X11_read a0).2 _ _ _ h) (Nat.le_of_ble_eq_true rfl) ?_
  intro p e s m args below meth c H locs cells slots ls R hX hE hI hl
  have hx := hX.1.1
  have hb := hX.1.2.1
  have hl : lv_has ls 1 [(0, .ref a0)] := hl
  generalize hσ0 : σ = σ0 at hX hI ⊢
  have h : (f_X11_read a0).1 σ0 = some (r, σ9) := by rw [← hσ0]; exact h
  clear hσ0
  delta f_X11_read at h
  have h := (xck_bd h).2
  refine lv_aload_n hx hb dX11_read_0 rfl (lv_at hl 0 rfl) ?_
  refine lv_aload_n hx hb dX11_read_1 rfl (lv_at hl 0 rfl) ?_
  refine lv_iconst (v := (3 : Int32)) hx hb dX11_read_2 (by decide) ?_
  refine xr_callVX (iv := (fun b => some (.int b))) (As := [.int (3 : Int32)]) (rest := [.ref a0]) h hX hI (fun _ _ h => w_X11_number hl0 h) (fun _ _ h => o_X11_number h) rfl 1 (lw_V q1586 q1588 qs19 q114 q1589) ⟨rfl, xd_X11_number⟩ ⟨rfl, rfl⟩ rfl hl.1 (Nat.le_of_ble_eq_true rfl) dX11_read_3 (fun qv19 H locs σ cells slots ce h hI hce hcv hcl => ?_) (fun v19 H locs σ cells slots h hI => ?_)
  · exact xr_outx h hX hE hI hce hcv hcl
  · refine W.eq (g2 := F0 m 6 ls [.int v19, .ref a0]) rfl ?_
    refine xr_pt h hX hI xl_X11_68_10 (Or.inl rfl) rfl rfl dX11_read_6 (fun H locs σ h hI => ?_)
    refine lv_aload_n hx hb dX11_read_9 rfl (lv_at hl 0 rfl) ?_
    refine lv_bipush (v := (47 : Int32)) hx hb dX11_read_10 (by decide) ?_
    refine xr_callVX (iv := (fun _ => none)) (As := [.int (47 : Int32)]) (rest := []) h hX hI (fun _ _ h => w_X11_sign hl0 h) (fun _ _ h => o_X11_sign h) rfl 1 (lw_V q1667 q1669 qs21 q114 q1670) ⟨rfl, xd_X11_sign⟩ ⟨rfl, rfl⟩ rfl hl.1 (Nat.le_of_ble_eq_true rfl) dX11_read_12 (fun qv20 H locs σ cells slots ce h hI hce hcv hcl => ?_) (fun _ H locs σ cells slots h hI => ?_)
    · exact xr_outx h hX hE hI hce hcv hcl
    · refine lv_aload_n hx hb dX11_read_15 rfl (lv_at hl 0 rfl) ?_
      refine lv_aload_n hx hb dX11_read_16 rfl (lv_at hl 0 rfl) ?_
      refine lv_iconst (v := (3 : Int32)) hx hb dX11_read_17 (by decide) ?_
      refine xr_callVX (iv := (fun b => some (.int b))) (As := [.int (3 : Int32)]) (rest := [.ref a0]) h hX hI (fun _ _ h => w_X11_number hl0 h) (fun _ _ h => o_X11_number h) rfl 1 (lw_V q1586 q1588 qs19 q114 q1589) ⟨rfl, xd_X11_number⟩ ⟨rfl, rfl⟩ rfl hl.1 (Nat.le_of_ble_eq_true rfl) dX11_read_18 (fun qv22 H locs σ cells slots ce h hI hce hcv hcl => ?_) (fun v22 H locs σ cells slots h hI => ?_)
      · exact xr_outx h hX hE hI hce hcv hcl
      · refine W.eq (g2 := F0 m 21 ls [.int v22, .ref a0]) rfl ?_
        refine xr_pt h hX hI xl_X11_71_10 (Or.inl rfl) rfl rfl dX11_read_21 (fun H locs σ h hI => ?_)
        refine lv_aload_n hx hb dX11_read_24 rfl (lv_at hl 0 rfl) ?_
        refine lv_bipush (v := (58 : Int32)) hx hb dX11_read_25 (by decide) ?_
        refine xr_callVX (iv := (fun _ => none)) (As := [.int (58 : Int32)]) (rest := []) h hX hI (fun _ _ h => w_X11_sign hl0 h) (fun _ _ h => o_X11_sign h) rfl 1 (lw_V q1667 q1669 qs21 q114 q1670) ⟨rfl, xd_X11_sign⟩ ⟨rfl, rfl⟩ rfl hl.1 (Nat.le_of_ble_eq_true rfl) dX11_read_27 (fun qv23 H locs σ cells slots ce h hI hce hcv hcl => ?_) (fun _ H locs σ cells slots h hI => ?_)
        · exact xr_outx h hX hE hI hce hcv hcl
        · refine lv_aload_n hx hb dX11_read_30 rfl (lv_at hl 0 rfl) ?_
          refine xr_callVX (iv := (fun _ => none)) (As := []) (rest := []) h hX hI (fun _ _ h => w_X11_entry hl0 h) (fun _ _ h => o_X11_entry h) rfl 0 (lw_V q1671 q1673 qs22 q114 q1674) ⟨rfl, xd_X11_entry⟩ ⟨rfl, rfl⟩ rfl hl.1 (Nat.le_of_ble_eq_true rfl) dX11_read_31 (fun qv24 H locs σ cells slots ce h hI hce hcv hcl => ?_) (fun _ H locs σ cells slots h hI => ?_)
          · exact xr_outx h hX hE hI hce hcv hcl
          · exact w_X11_read_L34 hX hE hl0 xFU a0 _ _ _ _ _ _ h hI (lv_sub hl [0] rfl)
/-! PayMatch$Reader.row()[LPayMatch$Entry;  -/
theorem w_X11_row_b15 {rec15 : Nat → Nat → Int32 → xM Nat} {a0 : Nat} {a1 : Nat} {a2 : Int32} {r : Nat} (hX : xX E R p m c cX11_row 3 s args RX11 "row" meth (some (.array (.object "PayMatch$Entry"))) 3 64 σ0 σ9) (hrec15 : ∀ (a0 : Nat) (a1 : Nat) (a2 : Int32) (σ : xS) (H : Heap) (locs : List Loc) (cells slots : Nat) (ls : Array Slot), (rec15 a0 a1 a2).1 σ = some (r, σ9) → xI E σ0 σ s H locs cells slots → lv_has ls 3 [(0, .ref a0), (1, .ref a1), (2, .int a2)] → W p l e R s m args below meth c H locs cells slots (xMQ E below args s σ0 σ9 (some (.ref r))) (F0 m 15 ls []))
    (h : (f_X11_row_b15 rec15 a0 a1 a2).1 σ = some (r, σ9)) (hI : xI E σ0 σ s H locs cells slots) (hl : lv_has ls 3 [(0, .ref a0), (1, .ref a1), (2, .int a2)]) : W p l e R s m args below meth c H locs cells slots (xMQ E below args s σ0 σ9 (some (.ref r))) (F0 m 15 ls []) := by
  have hx := hX.1.1
  have hb := hX.1.2.1
  delta f_X11_row_b15 at h
  refine lv_iload_n hx hb dX11_row_15 rfl (lv_at hl 2 rfl) ?_
  refine lv_aload_n hx hb dX11_row_16 rfl (lv_at hl 1 rfl) ?_
  refine xr_ln h hX hI dX11_row_17 (fun v7 h => ?_)
  refine lv_icmp_ge (tgt := 43) hx hb dX11_row_18 (by decide) (fun hc => ?_) (fun hc => ?_)
  · have h := xif_t h hc
    refine lv_aload_n hx hb dX11_row_43 rfl (lv_at hl 1 rfl) ?_
    exact xr_areturn h hX hI (Or.inr ⟨_, rfl⟩) dX11_row_44
  · have h := xif_f h hc
    refine lv_aload_n hx hb dX11_row_21 rfl (lv_at hl 1 rfl) ?_
    refine lv_iload_n hx hb dX11_row_22 rfl (lv_at hl 2 rfl) ?_
    refine lv_aload_n hx hb dX11_row_23 rfl (lv_at hl 0 rfl) ?_
    refine xr_gN h hX hI xl_X11_10_10.g dX11_row_24 (fun v8 h => ?_)
    refine lv_iload_n hx hb dX11_row_27 rfl (lv_at hl 2 rfl) ?_
    refine xr_callF (iv := (fun b => some (.ref b))) (As := [.int a2]) (rest := [.int a2, .ref a1]) h hX hI (fun _ _ h => w_J2_get h) (fun _ _ h => o_J2_get h) rfl 1 xfw_14 q1686 q1257 q492 q79 q493 xdi_14 ⟨rfl, rfl⟩ rfl hl.1 (Nat.le_of_ble_eq_true rfl) dX11_row_28 (fun v9 H locs σ cells slots h hI => ?_)
    refine W.eq (g2 := F0 m 33 ls [.ref v9, .int a2, .ref a1]) rfl ?_
    refine xr_cks h hX hI xc_X11_57 dX11_row_33 (fun h => ?_)
    refine xr_stR h hX hI (by decide) dX11_row_36 (fun H locs σ h hI => ?_)
    refine lv_iinc (k := 2) (lv' := [(2, .int (a2 + (1 : Int32))), (0, .ref a0), (1, .ref a1)]) hx hb dX11_row_37 hl rfl (xiinc (by decide)) (Nat.le_of_ble_eq_true rfl) rfl (fun ls hl => ?_)
    refine lv_goto (tgt := 15) hx hb dX11_row_40 (by decide) ?_
    exact hrec15 a0 a1 (a2 + (1 : Int32)) _ _ _ _ _ _ h hI (lv_sub hl [1, 2, 0] rfl)
theorem w_X11_row_L15 {r : Nat} (hX : xX E R p m c cX11_row 3 s args RX11 "row" meth (some (.array (.object "PayMatch$Entry"))) 3 64 σ0 σ9) : ∀ (n : Nat) (a0 : Nat) (a1 : Nat) (a2 : Int32) (σ : xS) (H : Heap) (locs : List Loc) (cells slots : Nat) (ls : Array Slot), (f_X11_row_L15 n a0 a1 a2).1 σ = some (r, σ9) → xI E σ0 σ s H locs cells slots → lv_has ls 3 [(0, .ref a0), (1, .ref a1), (2, .int a2)] → W p l e R s m args below meth c H locs cells slots (xMQ E below args s σ0 σ9 (some (.ref r))) (F0 m 15 ls []) := by
  intro n
  induction n with
  | zero =>
    intro a0 a1 a2 σ H locs cells slots ls h
    exact xr_no h
  | succ n ih =>
    intro a0 a1 a2 σ H locs cells slots ls h hI hl
    exact w_X11_row_b15 hX ih h hI hl
theorem o_X11_row {a0 : Nat} {r : Nat} {σ σ9 : xS} (h : (f_X11_row a0).1 σ = some (r, σ9)) : ∃ fs, σ.1 a0 = some (.inl (10, fs)) := xck_of h
theorem w_X11_row {E : xE} {l : Launch} {a0 : Nat} {r : Nat} {σ σ9 : xS} (h : (f_X11_row a0).1 σ = some (r, σ9)) : xMet E l yX11_row (ws_ yX11_row cX11_row 3 (some (.array (.object "PayMatch$Entry")))) 3 64 [.ref a0] σ σ9 (some (.ref r)) := by
  refine xstart (by decide +kernel) ((f_X11_row a0).2 _ _ _ h) (Nat.le_of_ble_eq_true rfl) ?_
  intro p e s m args below meth c H locs cells slots ls R hX hI hl
  have hx := hX.1.1
  have hb := hX.1.2.1
  have hl : lv_has ls 3 [(0, .ref a0)] := hl
  generalize hσ0 : σ = σ0 at hX hI ⊢
  have h : (f_X11_row a0).1 σ0 = some (r, σ9) := by rw [← hσ0]; exact h
  clear hσ0
  delta f_X11_row at h
  have h := (xck_bd h).2
  refine lv_aload_n hx hb dX11_row_0 rfl (lv_at hl 0 rfl) ?_
  refine xr_gN h hX hI xl_X11_10_10.g dX11_row_1 (fun v10 h => ?_)
  refine xr_callF (iv := (fun b => some (.int b))) (As := []) (rest := []) h hX hI (fun _ _ h => w_J2_size h) (fun _ _ h => o_J2_size h) rfl 0 xfw_0 q1684 q312 q314 q79 q316 xdi_0 ⟨rfl, rfl⟩ rfl hl.1 (Nat.le_of_ble_eq_true rfl) dX11_row_4 (fun v11 H locs σ cells slots h hI => ?_)
  refine W.eq (g2 := F0 m 9 ls [.int v11]) rfl ?_
  refine xr_nq h hX hI q1675 (by decide) dX11_row_9 (fun v12 H σ cells slots h hI => ?_)
  refine lv_astore_n (lv' := [(1, .ref v12), (0, .ref a0)]) hx hb dX11_row_12 rfl hl (Nat.le_of_ble_eq_true rfl) rfl (fun ls hl => ?_)
  refine lv_iconst (v := (0 : Int32)) hx hb dX11_row_13 (by decide) ?_
  refine lv_istore_n (lv' := [(2, .int (0 : Int32)), (1, .ref v12), (0, .ref a0)]) hx hb dX11_row_14 rfl hl (Nat.le_of_ble_eq_true rfl) rfl (fun ls hl => ?_)
  exact w_X11_row_L15 hX xFU a0 v12 (0 : Int32) _ _ _ _ _ _ h hI (lv_sub hl [2, 1, 0] rfl)
/-! PayMatch.areKnown(I[LPayMatch$Entry;)Z  -/
theorem w_X0_areKnown_b62 {rec23 : Nat → Int32 → Int32 → Nat → Int32 → Int32 → xM Int32} {t0 : Int32} {a0 : Nat} {a1 : Int32} {a4 : Nat} {a5 : Int32} {a6 : Int32} {r : Int32} (hX : xX E R p m c cX0_areKnown 8 s args RX0 "areKnown" meth (some .boolean) 5 107 σ0 σ9) (hrec23 : ∀ (a0 : Nat) (a1 : Int32) (a3 : Int32) (a4 : Nat) (a5 : Int32) (a6 : Int32) (σ : xS) (H : Heap) (locs : List Loc) (cells slots : Nat) (ls : Array Slot), (rec23 a0 a1 a3 a4 a5 a6).1 σ = some (r, σ9) → xI E σ0 σ s H locs cells slots → lv_has ls 8 [(0, .ref a0), (1, .int a1), (3, .int a3), (4, .ref a4), (5, .int a5), (6, .int a6)] → W p l e R s m args below meth c H locs cells slots (xMQ E below args s σ0 σ9 (some (.int r))) (F0 m 23 ls []))
    (h : (f_X0_areKnown_b62 rec23 t0 a0 a1 a4 a5 a6).1 σ = some (r, σ9)) (hI : xI E σ0 σ s H locs cells slots) (hl : lv_has ls 8 [(0, .ref a0), (1, .int a1), (4, .ref a4), (5, .int a5), (6, .int a6)]) : W p l e R s m args below meth c H locs cells slots (xMQ E below args s σ0 σ9 (some (.int r))) (F0 m 62 ls [.int t0]) := by
  have hx := hX.1.1
  have hb := hX.1.2.1
  delta f_X0_areKnown_b62 at h
  refine lv_istore_n (lv' := [(3, .int t0), (0, .ref a0), (1, .int a1), (4, .ref a4), (5, .int a5), (6, .int a6)]) hx hb dX0_areKnown_62 rfl hl (Nat.le_of_ble_eq_true rfl) rfl (fun ls hl => ?_)
  refine lv_iinc (k := 5) (lv' := [(6, .int (a6 + (1 : Int32))), (3, .int t0), (0, .ref a0), (1, .int a1), (4, .ref a4), (5, .int a5)]) hx hb dX0_areKnown_63 hl rfl (xiinc (by decide)) (Nat.le_of_ble_eq_true rfl) rfl (fun ls hl => ?_)
  refine lv_goto (tgt := 23) hx hb dX0_areKnown_66 (by decide) ?_
  exact hrec23 a0 a1 t0 a4 a5 (a6 + (1 : Int32)) _ _ _ _ _ _ h hI (lv_sub hl [2, 3, 1, 4, 5, 0] rfl)
theorem w_X0_areKnown_b61 {rec23 : Nat → Int32 → Int32 → Nat → Int32 → Int32 → xM Int32} {a0 : Nat} {a1 : Int32} {a4 : Nat} {a5 : Int32} {a6 : Int32} {r : Int32} (hX : xX E R p m c cX0_areKnown 8 s args RX0 "areKnown" meth (some .boolean) 5 107 σ0 σ9) (hrec23 : ∀ (a0 : Nat) (a1 : Int32) (a3 : Int32) (a4 : Nat) (a5 : Int32) (a6 : Int32) (σ : xS) (H : Heap) (locs : List Loc) (cells slots : Nat) (ls : Array Slot), (rec23 a0 a1 a3 a4 a5 a6).1 σ = some (r, σ9) → xI E σ0 σ s H locs cells slots → lv_has ls 8 [(0, .ref a0), (1, .int a1), (3, .int a3), (4, .ref a4), (5, .int a5), (6, .int a6)] → W p l e R s m args below meth c H locs cells slots (xMQ E below args s σ0 σ9 (some (.int r))) (F0 m 23 ls []))
    (h : (f_X0_areKnown_b61 rec23 a0 a1 a4 a5 a6).1 σ = some (r, σ9)) (hI : xI E σ0 σ s H locs cells slots) (hl : lv_has ls 8 [(0, .ref a0), (1, .int a1), (4, .ref a4), (5, .int a5), (6, .int a6)]) : W p l e R s m args below meth c H locs cells slots (xMQ E below args s σ0 σ9 (some (.int r))) (F0 m 61 ls []) := by
  have hx := hX.1.1
  have hb := hX.1.2.1
  delta f_X0_areKnown_b61 at h
  refine lv_iconst (v := (0 : Int32)) hx hb dX0_areKnown_61 (by decide) ?_
  exact w_X0_areKnown_b62 hX hrec23 h hI (lv_sub hl [0, 1, 2, 3, 4] rfl)
theorem w_X0_areKnown_b23 {rec23 : Nat → Int32 → Int32 → Nat → Int32 → Int32 → xM Int32} {a0 : Nat} {a1 : Int32} {a3 : Int32} {a4 : Nat} {a5 : Int32} {a6 : Int32} {r : Int32} (hX : xX E R p m c cX0_areKnown 8 s args RX0 "areKnown" meth (some .boolean) 5 107 σ0 σ9) (hrec23 : ∀ (a0 : Nat) (a1 : Int32) (a3 : Int32) (a4 : Nat) (a5 : Int32) (a6 : Int32) (σ : xS) (H : Heap) (locs : List Loc) (cells slots : Nat) (ls : Array Slot), (rec23 a0 a1 a3 a4 a5 a6).1 σ = some (r, σ9) → xI E σ0 σ s H locs cells slots → lv_has ls 8 [(0, .ref a0), (1, .int a1), (3, .int a3), (4, .ref a4), (5, .int a5), (6, .int a6)] → W p l e R s m args below meth c H locs cells slots (xMQ E below args s σ0 σ9 (some (.int r))) (F0 m 23 ls []))
    (h : (f_X0_areKnown_b23 rec23 a0 a1 a3 a4 a5 a6).1 σ = some (r, σ9)) (hI : xI E σ0 σ s H locs cells slots) (hl : lv_has ls 8 [(0, .ref a0), (1, .int a1), (3, .int a3), (4, .ref a4), (5, .int a5), (6, .int a6)]) : W p l e R s m args below meth c H locs cells slots (xMQ E below args s σ0 σ9 (some (.int r))) (F0 m 23 ls []) := by
  have hx := hX.1.1
  have hb := hX.1.2.1
  delta f_X0_areKnown_b23 at h
  refine lv_iload hx hb dX0_areKnown_23 (lv_at hl 5 rfl) ?_
  refine lv_iload hx hb dX0_areKnown_25 (lv_at hl 4 rfl) ?_
  refine lv_icmp_ge (tgt := 69) hx hb dX0_areKnown_27 (by decide) (fun hc => ?_) (fun hc => ?_)
  · have h := xif_t h hc
    refine lv_iload_n hx hb dX0_areKnown_69 rfl (lv_at hl 2 rfl) ?_
    exact xr_zreturn h hX hI dX0_areKnown_70
  · have h := xif_f h hc
    refine lv_aload hx hb dX0_areKnown_30 (lv_at hl 3 rfl) ?_
    refine lv_iload hx hb dX0_areKnown_32 (lv_at hl 5 rfl) ?_
    refine xr_ldN h hX hI (by decide) dX0_areKnown_34 (fun v9 h => ?_)
    refine lv_astore (lv' := [(7, .ref v9), (0, .ref a0), (1, .int a1), (3, .int a3), (4, .ref a4), (5, .int a5), (6, .int a6)]) hx hb dX0_areKnown_35 hl (Nat.le_of_ble_eq_true rfl) rfl (fun ls hl => ?_)
    refine lv_iload_n hx hb dX0_areKnown_37 rfl (lv_at hl 3 rfl) ?_
    refine lv_if_eq (tgt := 61) hx hb dX0_areKnown_38 (by decide) (fun hc => ?_) (fun hc => ?_)
    · have h := xif_t h hc
      exact w_X0_areKnown_b61 hX hrec23 h hI (lv_sub hl [1, 2, 4, 5, 6] rfl)
    · have h := xif_f h hc
      refine lv_aload_n hx hb dX0_areKnown_41 rfl (lv_at hl 1 rfl) ?_
      refine xr_gN h hX hI xl_X0_22_0.g dX0_areKnown_42 (fun v10 h => ?_)
      refine lv_iload_n hx hb dX0_areKnown_45 rfl (lv_at hl 2 rfl) ?_
      refine lv_aload hx hb dX0_areKnown_46 (lv_at hl 0 rfl) ?_
      refine xr_gI h hX hI xl_X0_224_9 dX0_areKnown_48 (fun v11 h => ?_)
      refine xr_callV (iv := (fun b => some (.int b))) (As := [.int a1, .int v11]) (rest := []) h hX hI (fun _ _ h => w_X1_hasLine h) (fun _ _ h => o_X1_hasLine h) rfl 2 (lw_V q1318 q1319 q1320 q75 q1321) ⟨rfl, xd_X1_hasLine⟩ ⟨rfl, rfl⟩ rfl hl.1 (Nat.le_of_ble_eq_true rfl) dX0_areKnown_51 (fun v12 H locs σ cells slots h hI => ?_)
      refine W.eq (g2 := F0 m 54 ls [.int v12]) rfl ?_
      refine lv_if_eq (tgt := 61) hx hb dX0_areKnown_54 (by decide) (fun hc => ?_) (fun hc => ?_)
      · have h := xif_t h hc
        exact w_X0_areKnown_b61 hX hrec23 h hI (lv_sub hl [1, 2, 4, 5, 6] rfl)
      · have h := xif_f h hc
        refine lv_iconst (v := (1 : Int32)) hx hb dX0_areKnown_57 (by decide) ?_
        refine lv_goto (tgt := 62) hx hb dX0_areKnown_58 (by decide) ?_
        exact w_X0_areKnown_b62 hX hrec23 h hI (lv_sub hl [1, 2, 4, 5, 6] rfl)
theorem w_X0_areKnown_L23 {r : Int32} (hX : xX E R p m c cX0_areKnown 8 s args RX0 "areKnown" meth (some .boolean) 5 107 σ0 σ9) : ∀ (n : Nat) (a0 : Nat) (a1 : Int32) (a3 : Int32) (a4 : Nat) (a5 : Int32) (a6 : Int32) (σ : xS) (H : Heap) (locs : List Loc) (cells slots : Nat) (ls : Array Slot), (f_X0_areKnown_L23 n a0 a1 a3 a4 a5 a6).1 σ = some (r, σ9) → xI E σ0 σ s H locs cells slots → lv_has ls 8 [(0, .ref a0), (1, .int a1), (3, .int a3), (4, .ref a4), (5, .int a5), (6, .int a6)] → W p l e R s m args below meth c H locs cells slots (xMQ E below args s σ0 σ9 (some (.int r))) (F0 m 23 ls []) := by
  intro n
  induction n with
  | zero =>
    intro a0 a1 a3 a4 a5 a6 σ H locs cells slots ls h
    exact xr_no h
  | succ n ih =>
    intro a0 a1 a3 a4 a5 a6 σ H locs cells slots ls h hI hl
    exact w_X0_areKnown_b23 hX ih h hI hl
theorem o_X0_areKnown {a0 : Nat} {a1 : Int32} {a2 : Nat} {r : Int32} {σ σ9 : xS} (h : (f_X0_areKnown a0 a1 a2).1 σ = some (r, σ9)) : ∃ fs, σ.1 a0 = some (.inl (0, fs)) := xck_of h
theorem w_X0_areKnown {E : xE} {l : Launch} {a0 : Nat} {a1 : Int32} {a2 : Nat} {r : Int32} {σ σ9 : xS} (h : (f_X0_areKnown a0 a1 a2).1 σ = some (r, σ9)) : xMet E l yX0_areKnown (ws_ yX0_areKnown cX0_areKnown 8 (some .boolean)) 5 107 [.ref a0, .int a1, .ref a2] σ σ9 (some (.int r)) := by
  refine xstart (by decide +kernel) ((f_X0_areKnown a0 a1 a2).2 _ _ _ h) (Nat.le_of_ble_eq_true rfl) ?_
  intro p e s m args below meth c H locs cells slots ls R hX hI hl
  have hx := hX.1.1
  have hb := hX.1.2.1
  have hl : lv_has ls 8 [(0, .ref a0), (1, .int a1), (2, .ref a2)] := hl
  generalize hσ0 : σ = σ0 at hX hI ⊢
  have h : (f_X0_areKnown a0 a1 a2).1 σ0 = some (r, σ9) := by rw [← hσ0]; exact h
  clear hσ0
  delta f_X0_areKnown at h
  have h := (xck_bd h).2
  refine lv_aload_n hx hb dX0_areKnown_0 rfl (lv_at hl 0 rfl) ?_
  refine xr_gN h hX hI xl_X0_22_0.g dX0_areKnown_1 (fun v13 h => ?_)
  refine xr_gN h hX hI xl_X0_130_1.g dX0_areKnown_4 (fun v14 h => ?_)
  refine lv_iload_n hx hb dX0_areKnown_7 rfl (lv_at hl 1 rfl) ?_
  refine xr_callV (iv := (fun b => some (.int b))) (As := [.int a1]) (rest := []) h hX hI (fun _ _ h => w_X2_has h) (fun _ _ h => o_X2_has h) rfl 1 (lw_V q1225 q1226 q1227 q76 q1228) ⟨rfl, xd_X2_has⟩ ⟨rfl, rfl⟩ rfl hl.1 (Nat.le_of_ble_eq_true rfl) dX0_areKnown_8 (fun v15 H locs σ cells slots h hI => ?_)
  refine W.eq (g2 := F0 m 11 ls [.int v15]) rfl ?_
  refine lv_istore_n (lv' := [(3, .int v15), (0, .ref a0), (1, .int a1), (2, .ref a2)]) hx hb dX0_areKnown_11 rfl hl (Nat.le_of_ble_eq_true rfl) rfl (fun ls hl => ?_)
  refine lv_aload_n hx hb dX0_areKnown_12 rfl (lv_at hl 3 rfl) ?_
  refine lv_astore (lv' := [(4, .ref a2), (3, .int v15), (0, .ref a0), (1, .int a1), (2, .ref a2)]) hx hb dX0_areKnown_13 hl (Nat.le_of_ble_eq_true rfl) rfl (fun ls hl => ?_)
  refine lv_aload hx hb dX0_areKnown_15 (lv_at hl 0 rfl) ?_
  refine xr_ln h hX hI dX0_areKnown_17 (fun v16 h => ?_)
  refine lv_istore (lv' := [(5, .int v16), (4, .ref a2), (3, .int v15), (0, .ref a0), (1, .int a1), (2, .ref a2)]) hx hb dX0_areKnown_18 hl (Nat.le_of_ble_eq_true rfl) rfl (fun ls hl => ?_)
  refine lv_iconst (v := (0 : Int32)) hx hb dX0_areKnown_20 (by decide) ?_
  refine lv_istore (lv' := [(6, .int (0 : Int32)), (5, .int v16), (4, .ref a2), (3, .int v15), (0, .ref a0), (1, .int a1), (2, .ref a2)]) hx hb dX0_areKnown_21 hl (Nat.le_of_ble_eq_true rfl) rfl (fun ls hl => ?_)
  exact w_X0_areKnown_L23 hX xFU a0 a1 v15 a2 v16 (0 : Int32) _ _ _ _ _ _ h hI (lv_sub hl [4, 5, 3, 2, 1, 0] rfl)
/-! PayMatch.areGood([LPayMatch$Entry;)Z  -/
theorem w_X0_areGood_b69 {rec13 : Int32 → Int32 → Nat → Int32 → Int32 → xM Int32} {t0 : Int32} {a1 : Int32} {a3 : Nat} {a4 : Int32} {a5 : Int32} {a6 : Nat} {r : Int32} (hX : xX E R p m c cX0_areGood 7 s args RX0 "areGood" meth (some .boolean) 2 42 σ0 σ9) (hrec13 : ∀ (a1 : Int32) (a2 : Int32) (a3 : Nat) (a4 : Int32) (a5 : Int32) (σ : xS) (H : Heap) (locs : List Loc) (cells slots : Nat) (ls : Array Slot), (rec13 a1 a2 a3 a4 a5).1 σ = some (r, σ9) → xI E σ0 σ s H locs cells slots → lv_has ls 7 [(1, .int a1), (2, .int a2), (3, .ref a3), (4, .int a4), (5, .int a5)] → W p l e R s m args below meth c H locs cells slots (xMQ E below args s σ0 σ9 (some (.int r))) (F0 m 13 ls []))
    (h : (f_X0_areGood_b69 rec13 t0 a1 a3 a4 a5 a6).1 σ = some (r, σ9)) (hI : xI E σ0 σ s H locs cells slots) (hl : lv_has ls 7 [(1, .int a1), (3, .ref a3), (4, .int a4), (5, .int a5), (6, .ref a6)]) : W p l e R s m args below meth c H locs cells slots (xMQ E below args s σ0 σ9 (some (.int r))) (F0 m 69 ls [.int t0]) := by
  have hx := hX.1.1
  have hb := hX.1.2.1
  delta f_X0_areGood_b69 at h
  refine lv_istore_n (lv' := [(2, .int t0), (1, .int a1), (3, .ref a3), (4, .int a4), (5, .int a5), (6, .ref a6)]) hx hb dX0_areGood_69 rfl hl (Nat.le_of_ble_eq_true rfl) rfl (fun ls hl => ?_)
  refine lv_iload_n hx hb dX0_areGood_70 rfl (lv_at hl 1 rfl) ?_
  refine lv_iconst (v := (1 : Int32)) hx hb dX0_areGood_71 (by decide) ?_
  refine lv_aload hx hb dX0_areGood_72 (lv_at hl 5 rfl) ?_
  refine xr_gI h hX hI xl_X0_224_9 dX0_areGood_74 (fun v15 h => ?_)
  refine lv_ishl hx hb dX0_areGood_77 ?_
  refine lv_ior hx hb dX0_areGood_78 ?_
  refine lv_istore_n (lv' := [(1, .int (a1 ||| ((1 : Int32) <<< (v15 &&& 31)))), (2, .int t0), (3, .ref a3), (4, .int a4), (5, .int a5), (6, .ref a6)]) hx hb dX0_areGood_79 rfl hl (Nat.le_of_ble_eq_true rfl) rfl (fun ls hl => ?_)
  refine lv_iinc (k := 4) (lv' := [(5, .int (a5 + (1 : Int32))), (1, .int (a1 ||| ((1 : Int32) <<< (v15 &&& 31)))), (2, .int t0), (3, .ref a3), (4, .int a4), (6, .ref a6)]) hx hb dX0_areGood_80 hl rfl (xiinc (by decide)) (Nat.le_of_ble_eq_true rfl) rfl (fun ls hl => ?_)
  refine lv_goto (tgt := 13) hx hb dX0_areGood_83 (by decide) ?_
  exact hrec13 (a1 ||| ((1 : Int32) <<< (v15 &&& 31))) t0 a3 a4 (a5 + (1 : Int32)) _ _ _ _ _ _ h hI (lv_sub hl [1, 2, 3, 4, 0] rfl)
theorem w_X0_areGood_b68 {rec13 : Int32 → Int32 → Nat → Int32 → Int32 → xM Int32} {a1 : Int32} {a3 : Nat} {a4 : Int32} {a5 : Int32} {a6 : Nat} {r : Int32} (hX : xX E R p m c cX0_areGood 7 s args RX0 "areGood" meth (some .boolean) 2 42 σ0 σ9) (hrec13 : ∀ (a1 : Int32) (a2 : Int32) (a3 : Nat) (a4 : Int32) (a5 : Int32) (σ : xS) (H : Heap) (locs : List Loc) (cells slots : Nat) (ls : Array Slot), (rec13 a1 a2 a3 a4 a5).1 σ = some (r, σ9) → xI E σ0 σ s H locs cells slots → lv_has ls 7 [(1, .int a1), (2, .int a2), (3, .ref a3), (4, .int a4), (5, .int a5)] → W p l e R s m args below meth c H locs cells slots (xMQ E below args s σ0 σ9 (some (.int r))) (F0 m 13 ls []))
    (h : (f_X0_areGood_b68 rec13 a1 a3 a4 a5 a6).1 σ = some (r, σ9)) (hI : xI E σ0 σ s H locs cells slots) (hl : lv_has ls 7 [(1, .int a1), (3, .ref a3), (4, .int a4), (5, .int a5), (6, .ref a6)]) : W p l e R s m args below meth c H locs cells slots (xMQ E below args s σ0 σ9 (some (.int r))) (F0 m 68 ls []) := by
  have hx := hX.1.1
  have hb := hX.1.2.1
  delta f_X0_areGood_b68 at h
  refine lv_iconst (v := (0 : Int32)) hx hb dX0_areGood_68 (by decide) ?_
  exact w_X0_areGood_b69 hX hrec13 h hI (lv_sub hl [0, 1, 2, 3, 4] rfl)
theorem w_X0_areGood_b13 {rec13 : Int32 → Int32 → Nat → Int32 → Int32 → xM Int32} {a1 : Int32} {a2 : Int32} {a3 : Nat} {a4 : Int32} {a5 : Int32} {r : Int32} (hX : xX E R p m c cX0_areGood 7 s args RX0 "areGood" meth (some .boolean) 2 42 σ0 σ9) (hrec13 : ∀ (a1 : Int32) (a2 : Int32) (a3 : Nat) (a4 : Int32) (a5 : Int32) (σ : xS) (H : Heap) (locs : List Loc) (cells slots : Nat) (ls : Array Slot), (rec13 a1 a2 a3 a4 a5).1 σ = some (r, σ9) → xI E σ0 σ s H locs cells slots → lv_has ls 7 [(1, .int a1), (2, .int a2), (3, .ref a3), (4, .int a4), (5, .int a5)] → W p l e R s m args below meth c H locs cells slots (xMQ E below args s σ0 σ9 (some (.int r))) (F0 m 13 ls []))
    (h : (f_X0_areGood_b13 rec13 a1 a2 a3 a4 a5).1 σ = some (r, σ9)) (hI : xI E σ0 σ s H locs cells slots) (hl : lv_has ls 7 [(1, .int a1), (2, .int a2), (3, .ref a3), (4, .int a4), (5, .int a5)]) : W p l e R s m args below meth c H locs cells slots (xMQ E below args s σ0 σ9 (some (.int r))) (F0 m 13 ls []) := by
  have hx := hX.1.1
  have hb := hX.1.2.1
  delta f_X0_areGood_b13 at h
  refine lv_iload hx hb dX0_areGood_13 (lv_at hl 4 rfl) ?_
  refine lv_iload hx hb dX0_areGood_15 (lv_at hl 3 rfl) ?_
  refine lv_icmp_ge (tgt := 86) hx hb dX0_areGood_17 (by decide) (fun hc => ?_) (fun hc => ?_)
  · have h := xif_t h hc
    refine lv_iload_n hx hb dX0_areGood_86 rfl (lv_at hl 1 rfl) ?_
    exact xr_zreturn h hX hI dX0_areGood_87
  · have h := xif_f h hc
    refine lv_aload_n hx hb dX0_areGood_20 rfl (lv_at hl 2 rfl) ?_
    refine lv_iload hx hb dX0_areGood_21 (lv_at hl 4 rfl) ?_
    refine xr_ldN h hX hI (by decide) dX0_areGood_23 (fun v9 h => ?_)
    refine lv_astore (lv' := [(6, .ref v9), (1, .int a1), (2, .int a2), (3, .ref a3), (4, .int a4), (5, .int a5)]) hx hb dX0_areGood_24 hl (Nat.le_of_ble_eq_true rfl) rfl (fun ls hl => ?_)
    refine lv_iload_n hx hb dX0_areGood_26 rfl (lv_at hl 2 rfl) ?_
    refine lv_if_eq (tgt := 68) hx hb dX0_areGood_27 (by decide) (fun hc => ?_) (fun hc => ?_)
    · have h := xif_t h hc
      exact w_X0_areGood_b68 hX hrec13 h hI (lv_sub hl [1, 3, 4, 5, 0] rfl)
    · have h := xif_f h hc
      refine lv_aload hx hb dX0_areGood_30 (lv_at hl 0 rfl) ?_
      refine xr_gI h hX hI xl_X0_226_9 dX0_areGood_32 (fun v10 h => ?_)
      refine xr_callS (iv := (fun b => some (.int b))) (As := [.int v10]) (rest := []) h hX hI (fun _ _ h => w_X0_areUnits h) 1 (lw_S q1302 q1303 q74 q1304) xd_X0_areUnits ⟨rfl, rfl⟩ rfl hl.1 (Nat.le_of_ble_eq_true rfl) dX0_areGood_35 (fun v11 H locs σ cells slots h hI => ?_)
      refine W.eq (g2 := F0 m 38 ls [.int v11]) rfl ?_
      refine lv_if_eq (tgt := 68) hx hb dX0_areGood_38 (by decide) (fun hc => ?_) (fun hc => ?_)
      · have h := xif_t h hc
        exact w_X0_areGood_b68 hX hrec13 h hI (lv_sub hl [1, 3, 4, 5, 0] rfl)
      · have h := xif_f h hc
        refine lv_aload hx hb dX0_areGood_41 (lv_at hl 0 rfl) ?_
        refine xr_gI h hX hI xl_X0_229_9 dX0_areGood_43 (fun v12 h => ?_)
        refine xr_callS (iv := (fun b => some (.int b))) (As := [.int v12]) (rest := []) h hX hI (fun _ _ h => w_X0_isPrice h) 1 (lw_S q1305 q1306 q74 q1307) xd_X0_isPrice ⟨rfl, rfl⟩ rfl hl.1 (Nat.le_of_ble_eq_true rfl) dX0_areGood_46 (fun v13 H locs σ cells slots h hI => ?_)
        refine W.eq (g2 := F0 m 49 ls [.int v13]) rfl ?_
        refine lv_if_eq (tgt := 68) hx hb dX0_areGood_49 (by decide) (fun hc => ?_) (fun hc => ?_)
        · have h := xif_t h hc
          exact w_X0_areGood_b68 hX hrec13 h hI (lv_sub hl [1, 3, 4, 5, 0] rfl)
        · have h := xif_f h hc
          refine lv_iload_n hx hb dX0_areGood_52 rfl (lv_at hl 1 rfl) ?_
          refine lv_aload hx hb dX0_areGood_53 (lv_at hl 0 rfl) ?_
          refine xr_gI h hX hI xl_X0_224_9 dX0_areGood_55 (fun v14 h => ?_)
          refine lv_ishr hx hb dX0_areGood_58 ?_
          refine lv_iconst (v := (1 : Int32)) hx hb dX0_areGood_59 (by decide) ?_
          refine lv_iand hx hb dX0_areGood_60 ?_
          refine lv_if_ne (tgt := 68) hx hb dX0_areGood_61 (by decide) (fun hc => ?_) (fun hc => ?_)
          · have h := xif_f h hc
            exact w_X0_areGood_b68 hX hrec13 h hI (lv_sub hl [1, 3, 4, 5, 0] rfl)
          · have h := xif_t h hc
            refine lv_iconst (v := (1 : Int32)) hx hb dX0_areGood_64 (by decide) ?_
            refine lv_goto (tgt := 69) hx hb dX0_areGood_65 (by decide) ?_
            exact w_X0_areGood_b69 hX hrec13 h hI (lv_sub hl [1, 3, 4, 5, 0] rfl)
theorem w_X0_areGood_L13 {r : Int32} (hX : xX E R p m c cX0_areGood 7 s args RX0 "areGood" meth (some .boolean) 2 42 σ0 σ9) : ∀ (n : Nat) (a1 : Int32) (a2 : Int32) (a3 : Nat) (a4 : Int32) (a5 : Int32) (σ : xS) (H : Heap) (locs : List Loc) (cells slots : Nat) (ls : Array Slot), (f_X0_areGood_L13 n a1 a2 a3 a4 a5).1 σ = some (r, σ9) → xI E σ0 σ s H locs cells slots → lv_has ls 7 [(1, .int a1), (2, .int a2), (3, .ref a3), (4, .int a4), (5, .int a5)] → W p l e R s m args below meth c H locs cells slots (xMQ E below args s σ0 σ9 (some (.int r))) (F0 m 13 ls []) := by
  intro n
  induction n with
  | zero =>
    intro a1 a2 a3 a4 a5 σ H locs cells slots ls h
    exact xr_no h
  | succ n ih =>
    intro a1 a2 a3 a4 a5 σ H locs cells slots ls h hI hl
    exact w_X0_areGood_b13 hX ih h hI hl
theorem w_X0_areGood {E : xE} {l : Launch} {a0 : Nat} {r : Int32} {σ σ9 : xS} (h : (f_X0_areGood a0).1 σ = some (r, σ9)) : xMet E l yX0_areGood (ws_ yX0_areGood cX0_areGood 7 (some .boolean)) 2 42 [.ref a0] σ σ9 (some (.int r)) := by
  refine xstart (by decide +kernel) ((f_X0_areGood a0).2 _ _ _ h) (Nat.le_of_ble_eq_true rfl) ?_
  intro p e s m args below meth c H locs cells slots ls R hX hI hl
  have hx := hX.1.1
  have hb := hX.1.2.1
  have hl : lv_has ls 7 [(0, .ref a0)] := hl
  generalize hσ0 : σ = σ0 at hX hI ⊢
  have h : (f_X0_areGood a0).1 σ0 = some (r, σ9) := by rw [← hσ0]; exact h
  clear hσ0
  delta f_X0_areGood at h
  refine lv_iconst (v := (0 : Int32)) hx hb dX0_areGood_0 (by decide) ?_
  refine lv_istore_n (lv' := [(1, .int (0 : Int32)), (0, .ref a0)]) hx hb dX0_areGood_1 rfl hl (Nat.le_of_ble_eq_true rfl) rfl (fun ls hl => ?_)
  refine lv_iconst (v := (1 : Int32)) hx hb dX0_areGood_2 (by decide) ?_
  refine lv_istore_n (lv' := [(2, .int (1 : Int32)), (1, .int (0 : Int32)), (0, .ref a0)]) hx hb dX0_areGood_3 rfl hl (Nat.le_of_ble_eq_true rfl) rfl (fun ls hl => ?_)
  refine lv_aload_n hx hb dX0_areGood_4 rfl (lv_at hl 2 rfl) ?_
  refine lv_astore_n (lv' := [(3, .ref a0), (2, .int (1 : Int32)), (1, .int (0 : Int32)), (0, .ref a0)]) hx hb dX0_areGood_5 rfl hl (Nat.le_of_ble_eq_true rfl) rfl (fun ls hl => ?_)
  refine lv_aload_n hx hb dX0_areGood_6 rfl (lv_at hl 0 rfl) ?_
  refine xr_ln h hX hI dX0_areGood_7 (fun v16 h => ?_)
  refine lv_istore (lv' := [(4, .int v16), (3, .ref a0), (2, .int (1 : Int32)), (1, .int (0 : Int32)), (0, .ref a0)]) hx hb dX0_areGood_8 hl (Nat.le_of_ble_eq_true rfl) rfl (fun ls hl => ?_)
  refine lv_iconst (v := (0 : Int32)) hx hb dX0_areGood_10 (by decide) ?_
  refine lv_istore (lv' := [(5, .int (0 : Int32)), (4, .int v16), (3, .ref a0), (2, .int (1 : Int32)), (1, .int (0 : Int32)), (0, .ref a0)]) hx hb dX0_areGood_11 hl (Nat.le_of_ble_eq_true rfl) rfl (fun ls hl => ?_)
  exact w_X0_areGood_L13 hX xFU (0 : Int32) (1 : Int32) a0 v16 (0 : Int32) _ _ _ _ _ _ h hI (lv_sub hl [4, 3, 2, 1, 0] rfl)
end
