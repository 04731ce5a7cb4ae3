/-! walks, printed by gen.py -/
set_option maxRecDepth 100000
section
variable {E : xE} {p : Program} {l : Launch} {e : Env} {R : Room} {s : State} {m : MethodId} {args : Array Value} {below : List Frame} {meth : Method} {c : Code} {H : Heap} {locs : List Loc} {cells slots : Nat} {ls : Array Slot} {σ0 σ σ9 : xS}
/-! java/util/AbstractCollection.<init>()V c12 -/
theorem w_J0_init_c12 {E : xE} {l : Launch} {a0 : Nat} {r : Unit} {σ σ9 : xS} (h : (f_J0_init_c12 a0).1 σ = some (r, σ9)) : xMet E l yJ0_init (ws_ yJ0_init cJ0_init 1 none) 1 60 [.ref a0] σ σ9 none := by
  refine xstart (by decide +kernel) ((f_J0_init_c12 a0).2 _ _ _ h) (Nat.le_of_ble_eq_true rfl) ?_
  intro p e s m args below meth c H locs cells slots ls R hX hI hl
  have hx := hX.1.1
  have hb := hX.1.2.1
  have hl : lv_has ls 1 [(0, .ref a0)] := hl
  generalize hσ0 : σ = σ0 at hX hI ⊢
  have h : (f_J0_init_c12 a0).1 σ0 = some (r, σ9) := by rw [← hσ0]; exact h
  clear hσ0
  delta f_J0_init_c12 at h
  refine lv_aload_n hx hb dJ0_init_0 rfl (lv_at hl 0 rfl) ?_
  refine xr_objI hX q148 q123 q124 hl.1 ⟨rfl, rfl⟩ dJ0_init_1 ?_
  exact xr_return h hX hI dJ0_init_4
/-! java/util/AbstractList.<init>()V c12 -/
theorem w_J1_init_c12 {E : xE} {l : Launch} {a0 : Nat} {r : Unit} {σ σ9 : xS} (h : (f_J1_init_c12 a0).1 σ = some (r, σ9)) : xMet E l yJ1_init (ws_ yJ1_init cJ1_init 1 none) 2 80 [.ref a0] σ σ9 none := by
  refine xstart (by decide +kernel) ((f_J1_init_c12 a0).2 _ _ _ h) (Nat.le_of_ble_eq_true rfl) ?_
  intro p e s m args below meth c H locs cells slots ls R hX hI hl
  have hx := hX.1.1
  have hb := hX.1.2.1
  have hl : lv_has ls 1 [(0, .ref a0)] := hl
  generalize hσ0 : σ = σ0 at hX hI ⊢
  have h : (f_J1_init_c12 a0).1 σ0 = some (r, σ9) := by rw [← hσ0]; exact h
  clear hσ0
  delta f_J1_init_c12 at h
  refine lv_aload_n hx hb dJ1_init_0 rfl (lv_at hl 0 rfl) ?_
  refine xr_callI (As := []) (rest := []) h hX hI (fun _ _ h => w_J0_init_c12 h) 0 q145 q147 q77 q146 rfl xd_J0_init ⟨rfl, rfl⟩ rfl hl.1 (Nat.le_of_ble_eq_true rfl) dJ1_init_1 (fun _ H locs σ cells slots h hI => ?_)
  refine lv_aload_n hx hb dJ1_init_4 rfl (lv_at hl 0 rfl) ?_
  refine lv_iconst (v := (0 : Int32)) hx hb dJ1_init_5 (by decide) ?_
  refine xr_pt h hX hI xl_J1_7_12 (Or.inl rfl) rfl rfl dJ1_init_6 (fun H locs σ h hI => ?_)
  exact xr_return h hX hI dJ1_init_9
/-! java/util/ArrayList.<init>()V  -/
theorem w_J2_init {E : xE} {l : Launch} {a0 : Nat} {r : Unit} {σ σ9 : xS} (h : (f_J2_init a0).1 σ = some (r, σ9)) : xMet E l yJ2_init (ws_ yJ2_init cJ2_init 1 none) 3 100 [.ref a0] σ σ9 none := by
  refine xstart (by decide +kernel) ((f_J2_init a0).2 _ _ _ h) (Nat.le_of_ble_eq_true rfl) ?_
  intro p e s m args below meth c H locs cells slots ls R hX hI hl
  have hx := hX.1.1
  have hb := hX.1.2.1
  have hl : lv_has ls 1 [(0, .ref a0)] := hl
  generalize hσ0 : σ = σ0 at hX hI ⊢
  have h : (f_J2_init a0).1 σ0 = some (r, σ9) := by rw [← hσ0]; exact h
  clear hσ0
  delta f_J2_init at h
  refine lv_aload_n hx hb dJ2_init_0 rfl (lv_at hl 0 rfl) ?_
  refine xr_callI (As := []) (rest := []) h hX hI (fun _ _ h => w_J1_init_c12 h) 0 q142 q144 q78 q143 rfl xd_J1_init ⟨rfl, rfl⟩ rfl hl.1 (Nat.le_of_ble_eq_true rfl) dJ2_init_1 (fun _ H locs σ cells slots h hI => ?_)
  refine lv_aload_n hx hb dJ2_init_4 rfl (lv_at hl 0 rfl) ?_
  refine xr_gse0 h hX hI q149 dJ2_init_5 (fun v2 h => ?_)
  refine xr_pt h hX hI xl_J2_9_12 (Or.inl rfl) rfl rfl dJ2_init_8 (fun H locs σ h hI => ?_)
  exact xr_return h hX hI dJ2_init_11
/-! PayMatch$Book.<init>()V  -/
theorem w_X2_init {E : xE} {l : Launch} {a0 : Nat} {r : Unit} {σ σ9 : xS} (h : (f_X2_init a0).1 σ = some (r, σ9)) : xMet E l yX2_init (ws_ yX2_init cX2_init 1 none) 4 120 [.ref a0] σ σ9 none := by
  refine xstart (by decide +kernel) ((f_X2_init a0).2 _ _ _ h) (Nat.le_of_ble_eq_true rfl) ?_
  intro p e s m args below meth c H locs cells slots ls R hX hI hl
  have hx := hX.1.1
  have hb := hX.1.2.1
  have hl : lv_has ls 1 [(0, .ref a0)] := hl
  generalize hσ0 : σ = σ0 at hX hI ⊢
  have h : (f_X2_init a0).1 σ0 = some (r, σ9) := by rw [← hσ0]; exact h
  clear hσ0
  delta f_X2_init at h
  refine lv_aload_n hx hb dX2_init_0 rfl (lv_at hl 0 rfl) ?_
  refine xr_objI hX q136 q123 q124 hl.1 ⟨rfl, rfl⟩ dX2_init_1 ?_
  refine lv_aload_n hx hb dX2_init_4 rfl (lv_at hl 0 rfl) ?_
  refine xr_nw h hX hI xn_X2_7 dX2_init_5 (fun v2 H σ cells slots h hI => ?_)
  refine lv_dup hx hb dX2_init_8 rfl ?_
  refine xr_callI (As := []) (rest := [.ref v2, .ref a0]) h hX hI (fun _ _ h => w_J2_init h) 0 q139 q141 q79 q140 rfl xd_J2_init ⟨rfl, rfl⟩ rfl hl.1 (Nat.le_of_ble_eq_true rfl) dX2_init_9 (fun _ H locs σ cells slots h hI => ?_)
  refine xr_pt h hX hI xl_X2_10_2 (Or.inr rfl) rfl rfl dX2_init_12 (fun H locs σ h hI => ?_)
  exact xr_return h hX hI dX2_init_15
/-! java/util/AbstractCollection.<init>()V c13 -/
theorem w_J0_init_c13 {E : xE} {l : Launch} {a0 : Nat} {r : Unit} {σ σ9 : xS} (h : (f_J0_init_c13 a0).1 σ = some (r, σ9)) : xMet E l yJ0_init (ws_ yJ0_init cJ0_init 1 none) 1 60 [.ref a0] σ σ9 none := by
  refine xstart (by decide +kernel) ((f_J0_init_c13 a0).2 _ _ _ h) (Nat.le_of_ble_eq_true rfl) ?_
  intro p e s m args below meth c H locs cells slots ls R hX hI hl
  have hx := hX.1.1
  have hb := hX.1.2.1
  have hl : lv_has ls 1 [(0, .ref a0)] := hl
  generalize hσ0 : σ = σ0 at hX hI ⊢
  have h : (f_J0_init_c13 a0).1 σ0 = some (r, σ9) := by rw [← hσ0]; exact h
  clear hσ0
  delta f_J0_init_c13 at h
  refine lv_aload_n hx hb dJ0_init_0 rfl (lv_at hl 0 rfl) ?_
  refine xr_objI hX q148 q123 q124 hl.1 ⟨rfl, rfl⟩ dJ0_init_1 ?_
  exact xr_return h hX hI dJ0_init_4
/-! java/util/AbstractList.<init>()V c13 -/
theorem w_J1_init_c13 {E : xE} {l : Launch} {a0 : Nat} {r : Unit} {σ σ9 : xS} (h : (f_J1_init_c13 a0).1 σ = some (r, σ9)) : xMet E l yJ1_init (ws_ yJ1_init cJ1_init 1 none) 2 80 [.ref a0] σ σ9 none := by
  refine xstart (by decide +kernel) ((f_J1_init_c13 a0).2 _ _ _ h) (Nat.le_of_ble_eq_true rfl) ?_
  intro p e s m args below meth c H locs cells slots ls R hX hI hl
  have hx := hX.1.1
  have hb := hX.1.2.1
  have hl : lv_has ls 1 [(0, .ref a0)] := hl
  generalize hσ0 : σ = σ0 at hX hI ⊢
  have h : (f_J1_init_c13 a0).1 σ0 = some (r, σ9) := by rw [← hσ0]; exact h
  clear hσ0
  delta f_J1_init_c13 at h
  refine lv_aload_n hx hb dJ1_init_0 rfl (lv_at hl 0 rfl) ?_
  refine xr_callI (As := []) (rest := []) h hX hI (fun _ _ h => w_J0_init_c13 h) 0 q145 q147 q77 q146 rfl xd_J0_init ⟨rfl, rfl⟩ rfl hl.1 (Nat.le_of_ble_eq_true rfl) dJ1_init_1 (fun _ H locs σ cells slots h hI => ?_)
  refine lv_aload_n hx hb dJ1_init_4 rfl (lv_at hl 0 rfl) ?_
  refine lv_iconst (v := (0 : Int32)) hx hb dJ1_init_5 (by decide) ?_
  refine xr_pt h hX hI xl_J1_7_13 (Or.inl rfl) rfl rfl dJ1_init_6 (fun H locs σ h hI => ?_)
  exact xr_return h hX hI dJ1_init_9
/-! java/util/AbstractSequentialList.<init>()V c13 -/
theorem w_J3_init_c13 {E : xE} {l : Launch} {a0 : Nat} {r : Unit} {σ σ9 : xS} (h : (f_J3_init_c13 a0).1 σ = some (r, σ9)) : xMet E l yJ3_init (ws_ yJ3_init cJ3_init 1 none) 3 100 [.ref a0] σ σ9 none := by
  refine xstart (by decide +kernel) ((f_J3_init_c13 a0).2 _ _ _ h) (Nat.le_of_ble_eq_true rfl) ?_
  intro p e s m args below meth c H locs cells slots ls R hX hI hl
  have hx := hX.1.1
  have hb := hX.1.2.1
  have hl : lv_has ls 1 [(0, .ref a0)] := hl
  generalize hσ0 : σ = σ0 at hX hI ⊢
  have h : (f_J3_init_c13 a0).1 σ0 = some (r, σ9) := by rw [← hσ0]; exact h
  clear hσ0
  delta f_J3_init_c13 at h
  refine lv_aload_n hx hb dJ3_init_0 rfl (lv_at hl 0 rfl) ?_
  refine xr_callI (As := []) (rest := []) h hX hI (fun _ _ h => w_J1_init_c13 h) 0 q182 q144 q78 q143 rfl xd_J1_init ⟨rfl, rfl⟩ rfl hl.1 (Nat.le_of_ble_eq_true rfl) dJ3_init_1 (fun _ H locs σ cells slots h hI => ?_)
  exact xr_return h hX hI dJ3_init_4
/-! java/util/LinkedList.<init>()V  -/
theorem w_J4_init {E : xE} {l : Launch} {a0 : Nat} {r : Unit} {σ σ9 : xS} (h : (f_J4_init a0).1 σ = some (r, σ9)) : xMet E l yJ4_init (ws_ yJ4_init cJ4_init 1 none) 4 120 [.ref a0] σ σ9 none := by
  refine xstart (by decide +kernel) ((f_J4_init a0).2 _ _ _ h) (Nat.le_of_ble_eq_true rfl) ?_
  intro p e s m args below meth c H locs cells slots ls R hX hI hl
  have hx := hX.1.1
  have hb := hX.1.2.1
  have hl : lv_has ls 1 [(0, .ref a0)] := hl
  generalize hσ0 : σ = σ0 at hX hI ⊢
  have h : (f_J4_init a0).1 σ0 = some (r, σ9) := by rw [← hσ0]; exact h
  clear hσ0
  delta f_J4_init at h
  refine lv_aload_n hx hb dJ4_init_0 rfl (lv_at hl 0 rfl) ?_
  refine xr_callI (As := []) (rest := []) h hX hI (fun _ _ h => w_J3_init_c13 h) 0 q179 q181 q80 q180 rfl xd_J3_init ⟨rfl, rfl⟩ rfl hl.1 (Nat.le_of_ble_eq_true rfl) dJ4_init_1 (fun _ H locs σ cells slots h hI => ?_)
  refine lv_aload_n hx hb dJ4_init_4 rfl (lv_at hl 0 rfl) ?_
  refine lv_iconst (v := (0 : Int32)) hx hb dJ4_init_5 (by decide) ?_
  refine xr_pt h hX hI xl_J4_7_13 (Or.inl rfl) rfl rfl dJ4_init_6 (fun H locs σ h hI => ?_)
  exact xr_return h hX hI dJ4_init_9
/-! PayMatch$State.<init>()V  -/
theorem w_X1_init {E : xE} {l : Launch} {a0 : Nat} {r : Unit} {σ σ9 : xS} (h : (f_X1_init a0).1 σ = some (r, σ9)) : xMet E l yX1_init (ws_ yX1_init cX1_init 1 none) 5 140 [.ref a0] σ σ9 none := by
  refine xstart (by decide +kernel) ((f_X1_init a0).2 _ _ _ h) (Nat.le_of_ble_eq_true rfl) ?_
  intro p e s m args below meth c H locs cells slots ls R hX hI hl
  have hx := hX.1.1
  have hb := hX.1.2.1
  have hl : lv_has ls 1 [(0, .ref a0)] := hl
  generalize hσ0 : σ = σ0 at hX hI ⊢
  have h : (f_X1_init a0).1 σ0 = some (r, σ9) := by rw [← hσ0]; exact h
  clear hσ0
  delta f_X1_init at h
  refine lv_aload_n hx hb dX1_init_0 rfl (lv_at hl 0 rfl) ?_
  refine xr_objI hX q130 q123 q124 hl.1 ⟨rfl, rfl⟩ dX1_init_1 ?_
  refine lv_aload_n hx hb dX1_init_4 rfl (lv_at hl 0 rfl) ?_
  refine xr_nw h hX hI xn_X1_9 dX1_init_5 (fun v5 H σ cells slots h hI => ?_)
  refine lv_dup hx hb dX1_init_8 rfl ?_
  refine xr_callIN (As := []) (rest := [.ref v5, .ref a0]) h hX hI (fun _ _ h => w_X2_init h) 0 q133 q135 q76 q134 rfl xd_X2_init ⟨rfl, rfl⟩ rfl hl.1 (Nat.le_of_ble_eq_true rfl) dX1_init_9 (fun _ H locs σ cells slots h hI => ?_)
  refine xr_pt h hX hI xl_X1_12_1 (Or.inl rfl) rfl rfl dX1_init_12 (fun H locs σ h hI => ?_)
  refine lv_aload_n hx hb dX1_init_15 rfl (lv_at hl 0 rfl) ?_
  refine xr_nw h hX hI xn_X1_9 dX1_init_16 (fun v6 H σ cells slots h hI => ?_)
  refine lv_dup hx hb dX1_init_19 rfl ?_
  refine xr_callIN (As := []) (rest := [.ref v6, .ref a0]) h hX hI (fun _ _ h => w_X2_init h) 0 q133 q135 q76 q134 rfl xd_X2_init ⟨rfl, rfl⟩ rfl hl.1 (Nat.le_of_ble_eq_true rfl) dX1_init_20 (fun _ H locs σ cells slots h hI => ?_)
  refine xr_pt h hX hI xl_X1_18_1 (Or.inl rfl) rfl rfl dX1_init_23 (fun H locs σ h hI => ?_)
  refine lv_aload_n hx hb dX1_init_26 rfl (lv_at hl 0 rfl) ?_
  refine xr_nw h hX hI xn_X1_9 dX1_init_27 (fun v7 H σ cells slots h hI => ?_)
  refine lv_dup hx hb dX1_init_30 rfl ?_
  refine xr_callIN (As := []) (rest := [.ref v7, .ref a0]) h hX hI (fun _ _ h => w_X2_init h) 0 q133 q135 q76 q134 rfl xd_X2_init ⟨rfl, rfl⟩ rfl hl.1 (Nat.le_of_ble_eq_true rfl) dX1_init_31 (fun _ H locs σ cells slots h hI => ?_)
  refine xr_pt h hX hI xl_X1_21_1 (Or.inl rfl) rfl rfl dX1_init_34 (fun H locs σ h hI => ?_)
  refine lv_aload_n hx hb dX1_init_37 rfl (lv_at hl 0 rfl) ?_
  refine xr_nw h hX hI xn_X1_24 dX1_init_38 (fun v8 H σ cells slots h hI => ?_)
  refine lv_dup hx hb dX1_init_41 rfl ?_
  refine xr_callI (As := []) (rest := [.ref v8, .ref a0]) h hX hI (fun _ _ h => w_J4_init h) 0 q176 q178 q81 q177 rfl xd_J4_init ⟨rfl, rfl⟩ rfl hl.1 (Nat.le_of_ble_eq_true rfl) dX1_init_42 (fun _ H locs σ cells slots h hI => ?_)
  refine xr_pt h hX hI xl_X1_27_1 (Or.inr rfl) rfl rfl dX1_init_45 (fun H locs σ h hI => ?_)
  refine lv_aload_n hx hb dX1_init_48 rfl (lv_at hl 0 rfl) ?_
  refine lv_ldc2d (v := (4611686018427387904 : UInt64)) hx hb hX.1.2.2.2.1 (hX.1.2.2.2.2 _ q195) dX1_init_49 ?_
  refine xr_pt h hX hI xl_X1_33_1 (Or.inl rfl) rfl rfl dX1_init_52 (fun H locs σ h hI => ?_)
  refine lv_aload_n hx hb dX1_init_55 rfl (lv_at hl 0 rfl) ?_
  refine lv_bipush (v := (10 : Int32)) hx hb dX1_init_56 (by decide) ?_
  refine xr_pt h hX hI xl_X1_37_1 (Or.inl rfl) rfl rfl dX1_init_58 (fun H locs σ h hI => ?_)
  refine lv_aload_n hx hb dX1_init_61 rfl (lv_at hl 0 rfl) ?_
  refine lv_bipush (v := (30 : Int32)) hx hb dX1_init_62 (by decide) ?_
  refine xr_pt h hX hI xl_X1_41_1 (Or.inl rfl) rfl rfl dX1_init_64 (fun H locs σ h hI => ?_)
  exact xr_return h hX hI dX1_init_67
/-! java/util/AbstractCollection.<init>()V c14 -/
theorem w_J0_init_c14 {E : xE} {l : Launch} {a0 : Nat} {r : Unit} {σ σ9 : xS} (h : (f_J0_init_c14 a0).1 σ = some (r, σ9)) : xMet E l yJ0_init (ws_ yJ0_init cJ0_init 1 none) 1 60 [.ref a0] σ σ9 none := by
  refine xstart (by decide +kernel) ((f_J0_init_c14 a0).2 _ _ _ h) (Nat.le_of_ble_eq_true rfl) ?_
  intro p e s m args below meth c H locs cells slots ls R hX hI hl
  have hx := hX.1.1
  have hb := hX.1.2.1
  have hl : lv_has ls 1 [(0, .ref a0)] := hl
  generalize hσ0 : σ = σ0 at hX hI ⊢
  have h : (f_J0_init_c14 a0).1 σ0 = some (r, σ9) := by rw [← hσ0]; exact h
  clear hσ0
  delta f_J0_init_c14 at h
  refine lv_aload_n hx hb dJ0_init_0 rfl (lv_at hl 0 rfl) ?_
  refine xr_objI hX q148 q123 q124 hl.1 ⟨rfl, rfl⟩ dJ0_init_1 ?_
  exact xr_return h hX hI dJ0_init_4
/-! java/util/ArrayDeque.<init>()V  -/
theorem w_J5_init {E : xE} {l : Launch} {a0 : Nat} {r : Unit} {σ σ9 : xS} (h : (f_J5_init a0).1 σ = some (r, σ9)) : xMet E l yJ5_init (ws_ yJ5_init cJ5_init 1 none) 2 80 [.ref a0] σ σ9 none := by
  refine xstart (by decide +kernel) ((f_J5_init a0).2 _ _ _ h) (Nat.le_of_ble_eq_true rfl) ?_
  intro p e s m args below meth c H locs cells slots ls R hX hI hl
  have hx := hX.1.1
  have hb := hX.1.2.1
  have hl : lv_has ls 1 [(0, .ref a0)] := hl
  generalize hσ0 : σ = σ0 at hX hI ⊢
  have h : (f_J5_init a0).1 σ0 = some (r, σ9) := by rw [← hσ0]; exact h
  clear hσ0
  delta f_J5_init at h
  refine lv_aload_n hx hb dJ5_init_0 rfl (lv_at hl 0 rfl) ?_
  refine xr_callI (As := []) (rest := []) h hX hI (fun _ _ h => w_J0_init_c14 h) 0 q238 q147 q77 q146 rfl xd_J0_init ⟨rfl, rfl⟩ rfl hl.1 (Nat.le_of_ble_eq_true rfl) dJ5_init_1 (fun _ H locs σ cells slots h hI => ?_)
  refine lv_aload_n hx hb dJ5_init_4 rfl (lv_at hl 0 rfl) ?_
  refine lv_bipush (v := (17 : Int32)) hx hb dJ5_init_5 (by decide) ?_
  refine xr_nq h hX hI q239 (by decide) dJ5_init_7 (fun v2 H σ cells slots h hI => ?_)
  refine xr_pt h hX hI xl_J5_3_14 (Or.inl rfl) rfl rfl dJ5_init_10 (fun H locs σ h hI => ?_)
  exact xr_return h hX hI dJ5_init_13
/-! java/lang/StringUTF16.newBytesLength(I)I  -/
theorem w_J9_newBytesLength {E : xE} {l : Launch} {a0 : Int32} {r : Int32} {σ σ9 : xS} (h : (f_J9_newBytesLength a0).1 σ = some (r, σ9)) : xMet E l yJ9_newBytesLength (ws_ yJ9_newBytesLength cJ9_newBytesLength 1 (some .int)) 0 0 [.int a0] σ σ9 (some (.int r)) := by
  refine xstart (by decide +kernel) ((f_J9_newBytesLength a0).2 _ _ _ h) (Nat.le_of_ble_eq_true rfl) ?_
  intro p e s m args below meth c H locs cells slots ls R hX hI hl
  have hx := hX.1.1
  have hb := hX.1.2.1
  have hl : lv_has ls 1 [(0, .int a0)] := hl
  generalize hσ0 : σ = σ0 at hX hI ⊢
  have h : (f_J9_newBytesLength a0).1 σ0 = some (r, σ9) := by rw [← hσ0]; exact h
  clear hσ0
  delta f_J9_newBytesLength at h
  refine lv_iload_n hx hb dJ9_newBytesLength_0 rfl (lv_at hl 0 rfl) ?_
  refine lv_if_ge (tgt := 12) hx hb dJ9_newBytesLength_1 (by decide) (fun hc => ?_) (fun hc => ?_)
  · have h := xif_t h hc
    refine lv_iload_n hx hb dJ9_newBytesLength_12 rfl (lv_at hl 0 rfl) ?_
    refine lv_ldc (v := (1073741823 : Int32)) hx hb hX.1.2.2.2.1 (hX.1.2.2.2.2 _ q270) dJ9_newBytesLength_13 ?_
    refine lv_icmp_lt (tgt := 55) hx hb dJ9_newBytesLength_15 (by decide) (fun hc => ?_) (fun hc => ?_)
    · have h := xif_t h hc
      refine lv_iload_n hx hb dJ9_newBytesLength_55 rfl (lv_at hl 0 rfl) ?_
      refine lv_iconst (v := (1 : Int32)) hx hb dJ9_newBytesLength_56 (by decide) ?_
      refine lv_ishl hx hb dJ9_newBytesLength_57 ?_
      exact xr_ireturn h hX hI dJ9_newBytesLength_58
    · have h := xif_f h hc
      exact xr_no h
  · have h := xif_f h hc
    exact xr_no h
/-! java/lang/StringUTF16.newBytesFor(I)[B  -/
theorem w_J9_newBytesFor {E : xE} {l : Launch} {a0 : Int32} {r : Nat} {σ σ9 : xS} (h : (f_J9_newBytesFor a0).1 σ = some (r, σ9)) : xMet E l yJ9_newBytesFor (ws_ yJ9_newBytesFor cJ9_newBytesFor 1 (some (.array .byte))) 1 20 [.int a0] σ σ9 (some (.ref r)) := by
  refine xstart (by decide +kernel) ((f_J9_newBytesFor a0).2 _ _ _ h) (Nat.le_of_ble_eq_true rfl) ?_
  intro p e s m args below meth c H locs cells slots ls R hX hI hl
  have hx := hX.1.1
  have hb := hX.1.2.1
  have hl : lv_has ls 1 [(0, .int a0)] := hl
  generalize hσ0 : σ = σ0 at hX hI ⊢
  have h : (f_J9_newBytesFor a0).1 σ0 = some (r, σ9) := by rw [← hσ0]; exact h
  clear hσ0
  delta f_J9_newBytesFor at h
  refine lv_iload_n hx hb dJ9_newBytesFor_0 rfl (lv_at hl 0 rfl) ?_
  refine xr_callS (iv := (fun b => some (.int b))) (As := [.int a0]) (rest := []) h hX hI (fun _ _ h => w_J9_newBytesLength h) 1 (lw_S q267 q268 q86 q269) xd_J9_newBytesLength ⟨rfl, rfl⟩ rfl hl.1 (Nat.le_of_ble_eq_true rfl) dJ9_newBytesFor_1 (fun v3 H locs σ cells slots h hI => ?_)
  refine W.eq (g2 := F0 m 4 ls [.int v3]) rfl ?_
  refine xr_na (atype := .byte) h hX hI q285 (by decide) rfl (fun _ _ => rfl) (by decide) dJ9_newBytesFor_4 (fun v4 H σ cells slots h hI => ?_)
  exact xr_areturn h hX hI (Or.inr ⟨_, rfl⟩) dJ9_newBytesFor_6
/-! java/lang/AbstractStringBuilder.<init>(I)V  -/
theorem w_J6_init {E : xE} {l : Launch} {a0 : Nat} {a1 : Int32} {r : Unit} {σ σ9 : xS} (h : (f_J6_init a0 a1).1 σ = some (r, σ9)) : xMet E l yJ6_init (ws_ yJ6_init cJ6_init 2 none) 2 60 [.ref a0, .int a1] σ σ9 none := by
  refine xstart (by decide +kernel) ((f_J6_init a0 a1).2 _ _ _ h) (Nat.le_of_ble_eq_true rfl) ?_
  intro p e s m args below meth c H locs cells slots ls R hX hI hl
  have hx := hX.1.1
  have hb := hX.1.2.1
  have hl : lv_has ls 2 [(0, .ref a0), (1, .int a1)] := hl
  generalize hσ0 : σ = σ0 at hX hI ⊢
  have h : (f_J6_init a0 a1).1 σ0 = some (r, σ9) := by rw [← hσ0]; exact h
  clear hσ0
  delta f_J6_init at h
  refine lv_aload_n hx hb dJ6_init_0 rfl (lv_at hl 0 rfl) ?_
  refine xr_objI hX q261 q123 q124 hl.1 ⟨rfl, rfl⟩ dJ6_init_1 ?_
  refine xr_gsI hX hI (xZcs hX) q262 dJ6_init_4 ?_
  refine lv_if_eq (tgt := 25) hx hb dJ6_init_7 (by decide) (fun hc => absurd hc (by decide)) (fun _ => ?_)
  refine lv_aload_n hx hb dJ6_init_10 rfl (lv_at hl 0 rfl) ?_
  refine lv_iload_n hx hb dJ6_init_11 rfl (lv_at hl 1 rfl) ?_
  refine xr_na (atype := .byte) h hX hI q285 (by decide) rfl (fun _ _ => rfl) (by decide) dJ6_init_12 (fun v3 H σ cells slots h hI => ?_)
  refine xr_pt h hX hI xl_J6_15_15 (Or.inl rfl) rfl rfl dJ6_init_14 (fun H locs σ h hI => ?_)
  refine lv_aload_n hx hb dJ6_init_17 rfl (lv_at hl 0 rfl) ?_
  refine lv_iconst (v := (0 : Int32)) hx hb dJ6_init_18 (by decide) ?_
  refine xr_ptB h hX hI xl_J6_22_15 (Or.inl rfl) dJ6_init_19 (fun H locs σ h hI => ?_)
  refine lv_goto (tgt := 38) hx hb dJ6_init_22 (by decide) ?_
  exact xr_return h hX hI dJ6_init_38
/-! java/lang/StringBuilder.<init>(I)V  -/
theorem w_J7_init {E : xE} {l : Launch} {a0 : Nat} {a1 : Int32} {r : Unit} {σ σ9 : xS} (h : (f_J7_init a0 a1).1 σ = some (r, σ9)) : xMet E l yJ7_init (ws_ yJ7_init cJ7_init 2 none) 3 81 [.ref a0, .int a1] σ σ9 none := by
  refine xstart (by decide +kernel) ((f_J7_init a0 a1).2 _ _ _ h) (Nat.le_of_ble_eq_true rfl) ?_
  intro p e s m args below meth c H locs cells slots ls R hX hI hl
  have hx := hX.1.1
  have hb := hX.1.2.1
  have hl : lv_has ls 2 [(0, .ref a0), (1, .int a1)] := hl
  generalize hσ0 : σ = σ0 at hX hI ⊢
  have h : (f_J7_init a0 a1).1 σ0 = some (r, σ9) := by rw [← hσ0]; exact h
  clear hσ0
  delta f_J7_init at h
  refine lv_aload_n hx hb dJ7_init_0 rfl (lv_at hl 0 rfl) ?_
  refine lv_iload_n hx hb dJ7_init_1 rfl (lv_at hl 1 rfl) ?_
  refine xr_callI (As := [.int a1]) (rest := []) h hX hI (fun _ _ h => w_J6_init h) 1 q258 q260 q83 q259 rfl xd_J6_init ⟨rfl, rfl⟩ rfl hl.1 (Nat.le_of_ble_eq_true rfl) dJ7_init_2 (fun _ H locs σ cells slots h hI => ?_)
  exact xr_return h hX hI dJ7_init_5
/-! PayMatch.<init>()V  -/
theorem w_X0_init {E : xE} {l : Launch} {a0 : Nat} {r : Unit} {σ σ9 : xS} (h : (f_X0_init a0).1 σ = some (r, σ9)) : xMet E l yX0_init (ws_ yX0_init cX0_init 1 none) 6 160 [.ref a0] σ σ9 none := by
  refine xstart (by decide +kernel) ((f_X0_init a0).2 _ _ _ h) (Nat.le_of_ble_eq_true rfl) ?_
  intro p e s m args below meth c H locs cells slots ls R hX hI hl
  have hx := hX.1.1
  have hb := hX.1.2.1
  have hl : lv_has ls 1 [(0, .ref a0)] := hl
  generalize hσ0 : σ = σ0 at hX hI ⊢
  have h : (f_X0_init a0).1 σ0 = some (r, σ9) := by rw [← hσ0]; exact h
  clear hσ0
  delta f_X0_init at h
  refine lv_aload_n hx hb dX0_init_0 rfl (lv_at hl 0 rfl) ?_
  refine xr_objI hX q122 q123 q124 hl.1 ⟨rfl, rfl⟩ dX0_init_1 ?_
  refine lv_aload_n hx hb dX0_init_4 rfl (lv_at hl 0 rfl) ?_
  refine xr_nw h hX hI xn_X0_19 dX0_init_5 (fun v4 H σ cells slots h hI => ?_)
  refine lv_dup hx hb dX0_init_8 rfl ?_
  refine xr_callIN (As := []) (rest := [.ref v4, .ref a0]) h hX hI (fun _ _ h => w_X1_init h) 0 q127 q129 q75 q128 rfl xd_X1_init ⟨rfl, rfl⟩ rfl hl.1 (Nat.le_of_ble_eq_true rfl) dX0_init_9 (fun _ H locs σ cells slots h hI => ?_)
  refine xr_pt h hX hI xl_X0_22_0 (Or.inl rfl) rfl rfl dX0_init_12 (fun H locs σ h hI => ?_)
  refine lv_aload_n hx hb dX0_init_15 rfl (lv_at hl 0 rfl) ?_
  refine xr_nw h hX hI xn_X0_28 dX0_init_16 (fun v5 H σ cells slots h hI => ?_)
  refine lv_dup hx hb dX0_init_19 rfl ?_
  refine xr_callI (As := []) (rest := [.ref v5, .ref a0]) h hX hI (fun _ _ h => w_J5_init h) 0 q235 q237 q82 q236 rfl xd_J5_init ⟨rfl, rfl⟩ rfl hl.1 (Nat.le_of_ble_eq_true rfl) dX0_init_20 (fun _ H locs σ cells slots h hI => ?_)
  refine xr_pt h hX hI xl_X0_31_0 (Or.inr rfl) rfl rfl dX0_init_23 (fun H locs σ h hI => ?_)
  refine lv_aload_n hx hb dX0_init_26 rfl (lv_at hl 0 rfl) ?_
  refine xr_nw h hX hI xn_X0_35 dX0_init_27 (fun v6 H σ cells slots h hI => ?_)
  refine lv_dup hx hb dX0_init_30 rfl ?_
  refine lv_bipush (v := (60 : Int32)) hx hb dX0_init_31 (by decide) ?_
  refine xr_callI (As := [.int (60 : Int32)]) (rest := [.ref v6, .ref a0]) h hX hI (fun _ _ h => w_J7_init h) 1 q255 q257 q84 q256 rfl xd_J7_init ⟨rfl, rfl⟩ rfl hl.1 (Nat.le_of_ble_eq_true rfl) dX0_init_33 (fun _ H locs σ cells slots h hI => ?_)
  refine xr_pt h hX hI xl_X0_40_0 (Or.inr rfl) rfl rfl dX0_init_36 (fun H locs σ h hI => ?_)
  exact xr_return h hX hI dX0_init_39
/-! PayMatchModel.<init>()V  -/
theorem w_X3_init {E : xE} {l : Launch} {a0 : Nat} {r : Unit} {σ σ9 : xS} (h : (f_X3_init a0).1 σ = some (r, σ9)) : xMet E l yX3_init (ws_ yX3_init cX3_init 1 none) 1 60 [.ref a0] σ σ9 none := by
  refine xstart (by decide +kernel) ((f_X3_init a0).2 _ _ _ h) (Nat.le_of_ble_eq_true rfl) ?_
  intro p e s m args below meth c H locs cells slots ls R hX hI hl
  have hx := hX.1.1
  have hb := hX.1.2.1
  have hl : lv_has ls 1 [(0, .ref a0)] := hl
  generalize hσ0 : σ = σ0 at hX hI ⊢
  have h : (f_X3_init a0).1 σ0 = some (r, σ9) := by rw [← hσ0]; exact h
  clear hσ0
  delta f_X3_init at h
  refine lv_aload_n hx hb dX3_init_0 rfl (lv_at hl 0 rfl) ?_
  refine xr_objI hX q1968 q123 q124 hl.1 ⟨rfl, rfl⟩ dX3_init_1 ?_
  refine lv_aload_n hx hb dX3_init_4 rfl (lv_at hl 0 rfl) ?_
  refine lv_sipush (v := (1411 : Int32)) hx hb dX3_init_5 (by decide) ?_
  refine xr_na (atype := .long) h hX hI q2012 (by decide) rfl (fun _ _ => rfl) (by decide) dX3_init_8 (fun v10 H σ cells slots h hI => ?_)
  refine xr_pt h hX hI xl_X3_13_3 (Or.inr rfl) rfl rfl dX3_init_10 (fun H locs σ h hI => ?_)
  refine lv_aload_n hx hb dX3_init_13 rfl (lv_at hl 0 rfl) ?_
  refine lv_sipush (v := (1411 : Int32)) hx hb dX3_init_14 (by decide) ?_
  refine xr_na (atype := .long) h hX hI q2012 (by decide) rfl (fun _ _ => rfl) (by decide) dX3_init_17 (fun v11 H σ cells slots h hI => ?_)
  refine xr_pt h hX hI xl_X3_17_3 (Or.inr rfl) rfl rfl dX3_init_19 (fun H locs σ h hI => ?_)
  refine lv_aload_n hx hb dX3_init_22 rfl (lv_at hl 0 rfl) ?_
  refine lv_sipush (v := (1411 : Int32)) hx hb dX3_init_23 (by decide) ?_
  refine xr_na (atype := .long) h hX hI q2012 (by decide) rfl (fun _ _ => rfl) (by decide) dX3_init_26 (fun v12 H σ cells slots h hI => ?_)
  refine xr_pt h hX hI xl_X3_20_3 (Or.inr rfl) rfl rfl dX3_init_28 (fun H locs σ h hI => ?_)
  refine lv_aload_n hx hb dX3_init_31 rfl (lv_at hl 0 rfl) ?_
  refine lv_sipush (v := (5644 : Int32)) hx hb dX3_init_32 (by decide) ?_
  refine xr_na (atype := .long) h hX hI q2012 (by decide) rfl (fun _ _ => rfl) (by decide) dX3_init_35 (fun v13 H σ cells slots h hI => ?_)
  refine xr_pt h hX hI xl_X3_23_3 (Or.inr rfl) rfl rfl dX3_init_37 (fun H locs σ h hI => ?_)
  refine lv_aload_n hx hb dX3_init_40 rfl (lv_at hl 0 rfl) ?_
  refine lv_bipush (v := (60 : Int32)) hx hb dX3_init_41 (by decide) ?_
  refine xr_na (atype := .int) h hX hI q2013 (by decide) rfl (fun _ _ => rfl) (by decide) dX3_init_43 (fun v14 H σ cells slots h hI => ?_)
  refine xr_pt h hX hI xl_X3_26_3 (Or.inr rfl) rfl rfl dX3_init_45 (fun H locs σ h hI => ?_)
  refine lv_aload_n hx hb dX3_init_48 rfl (lv_at hl 0 rfl) ?_
  refine lv_bipush (v := (36 : Int32)) hx hb dX3_init_49 (by decide) ?_
  refine xr_na (atype := .int) h hX hI q2013 (by decide) rfl (fun _ _ => rfl) (by decide) dX3_init_51 (fun v15 H σ cells slots h hI => ?_)
  refine xr_pt h hX hI xl_X3_30_3 (Or.inr rfl) rfl rfl dX3_init_53 (fun H locs σ h hI => ?_)
  refine lv_aload_n hx hb dX3_init_56 rfl (lv_at hl 0 rfl) ?_
  refine xr_gN h hX hI xl_X3_13_3.g dX3_init_57 (fun v16 h => ?_)
  refine lv_iconst (v := (4 : Int32)) hx hb dX3_init_60 (by decide) ?_
  refine lv_ldc2d (v := (4611686018427387904 : UInt64)) hx hb hX.1.2.2.2.1 (hX.1.2.2.2.2 _ q1969) dX3_init_61 ?_
  refine xr_d2l hX q1970 q1972 q1971 q88 hl.1 ⟨rfl, rfl⟩ dX3_init_64 ?_
  refine xr_stL h hX hI dX3_init_67 (fun H locs σ h hI => ?_)
  refine lv_aload_n hx hb dX3_init_68 rfl (lv_at hl 0 rfl) ?_
  refine xr_gN h hX hI xl_X3_13_3.g dX3_init_69 (fun v17 h => ?_)
  refine lv_iconst (v := (5 : Int32)) hx hb dX3_init_72 (by decide) ?_
  refine lv_ldc2 (v := (10 : Int64)) hx hb hX.1.2.2.2.1 (hX.1.2.2.2.2 _ q1973) dX3_init_73 ?_
  refine xr_stL h hX hI dX3_init_76 (fun H locs σ h hI => ?_)
  refine lv_aload_n hx hb dX3_init_77 rfl (lv_at hl 0 rfl) ?_
  refine xr_gN h hX hI xl_X3_13_3.g dX3_init_78 (fun v18 h => ?_)
  refine lv_bipush (v := (6 : Int32)) hx hb dX3_init_81 (by decide) ?_
  refine lv_ldc2 (v := (30 : Int64)) hx hb hX.1.2.2.2.1 (hX.1.2.2.2.2 _ q1974) dX3_init_83 ?_
  refine xr_stL h hX hI dX3_init_86 (fun H locs σ h hI => ?_)
  exact xr_return h hX hI dX3_init_87
/-! java/util/ArrayList.size()I  -/
theorem o_J2_size {a0 : Nat} {r : Int32} {σ σ9 : xS} (h : (f_J2_size a0).1 σ = some (r, σ9)) : ∃ fs, σ.1 a0 = some (.inl (12, fs)) := xck_of h
theorem w_J2_size {E : xE} {l : Launch} {a0 : Nat} {r : Int32} {σ σ9 : xS} (h : (f_J2_size a0).1 σ = some (r, σ9)) : xMet E l yJ2_size (ws_ yJ2_size cJ2_size 1 (some .int)) 0 0 [.ref a0] σ σ9 (some (.int r)) := by
  refine xstart (by decide +kernel) ((f_J2_size a0).2 _ _ _ h) (Nat.le_of_ble_eq_true rfl) ?_
  intro p e s m args below meth c H locs cells slots ls R hX hI hl
  have hx := hX.1.1
  have hb := hX.1.2.1
  have hl : lv_has ls 1 [(0, .ref a0)] := hl
  generalize hσ0 : σ = σ0 at hX hI ⊢
  have h : (f_J2_size a0).1 σ0 = some (r, σ9) := by rw [← hσ0]; exact h
  clear hσ0
  delta f_J2_size at h
  have h := (xck_bd h).2
  refine lv_aload_n hx hb dJ2_size_0 rfl (lv_at hl 0 rfl) ?_
  refine xr_gI h hX hI xl_J2_48_12.g dJ2_size_1 (fun v2 h => ?_)
  exact xr_ireturn h hX hI dJ2_size_4
/-! PayMatch$Book.size()I  -/
theorem o_X2_size {a0 : Nat} {r : Int32} {σ σ9 : xS} (h : (f_X2_size a0).1 σ = some (r, σ9)) : ∃ fs, σ.1 a0 = some (.inl (2, fs)) := xck_of h
theorem w_X2_size {E : xE} {l : Launch} {a0 : Nat} {r : Int32} {σ σ9 : xS} (h : (f_X2_size a0).1 σ = some (r, σ9)) : xMet E l yX2_size (ws_ yX2_size cX2_size 1 (some .int)) 1 20 [.ref a0] σ σ9 (some (.int r)) := by
  refine xstart (by decide +kernel) ((f_X2_size a0).2 _ _ _ h) (Nat.le_of_ble_eq_true rfl) ?_
  intro p e s m args below meth c H locs cells slots ls R hX hI hl
  have hx := hX.1.1
  have hb := hX.1.2.1
  have hl : lv_has ls 1 [(0, .ref a0)] := hl
  generalize hσ0 : σ = σ0 at hX hI ⊢
  have h : (f_X2_size a0).1 σ0 = some (r, σ9) := by rw [← hσ0]; exact h
  clear hσ0
  delta f_X2_size at h
  have h := (xck_bd h).2
  refine lv_aload_n hx hb dX2_size_0 rfl (lv_at hl 0 rfl) ?_
  refine xr_gN h hX hI xl_X2_10_2.g dX2_size_1 (fun v3 h => ?_)
  refine xr_callF (iv := (fun b => some (.int b))) (As := []) (rest := []) h hX hI (fun _ _ h => w_J2_size h) (fun _ _ h => o_J2_size h) rfl 0 xfw_0 q308 q312 q314 q79 q316 xdi_0 ⟨rfl, rfl⟩ rfl hl.1 (Nat.le_of_ble_eq_true rfl) dX2_size_4 (fun v4 H locs σ cells slots h hI => ?_)
  refine W.eq (g2 := F0 m 9 ls [.int v4]) rfl ?_
  exact xr_ireturn h hX hI dX2_size_9
/-! java/util/ArrayList$Itr.<init>(Ljava/util/ArrayList;)V  -/
theorem w_J10_init {E : xE} {l : Launch} {a0 : Nat} {a1 : Nat} {r : Unit} {σ σ9 : xS} (h : (f_J10_init a0 a1).1 σ = some (r, σ9)) : xMet E l yJ10_init (ws_ yJ10_init cJ10_init 2 none) 1 60 [.ref a0, .ref a1] σ σ9 none := by
  refine xstart (by decide +kernel) ((f_J10_init a0 a1).2 _ _ _ h) (Nat.le_of_ble_eq_true rfl) ?_
  intro p e s m args below meth c H locs cells slots ls R hX hI hl
  have hx := hX.1.1
  have hb := hX.1.2.1
  have hl : lv_has ls 2 [(0, .ref a0), (1, .ref a1)] := hl
  generalize hσ0 : σ = σ0 at hX hI ⊢
  have h : (f_J10_init a0 a1).1 σ0 = some (r, σ9) := by rw [← hσ0]; exact h
  clear hσ0
  delta f_J10_init at h
  refine lv_aload_n hx hb dJ10_init_0 rfl (lv_at hl 0 rfl) ?_
  refine lv_aload_n hx hb dJ10_init_1 rfl (lv_at hl 1 rfl) ?_
  refine xr_pt h hX hI xl_J10_1_16 (Or.inr rfl) rfl rfl dJ10_init_2 (fun H locs σ h hI => ?_)
  refine lv_aload_n hx hb dJ10_init_5 rfl (lv_at hl 0 rfl) ?_
  refine xr_objI hX q349 q123 q124 hl.1 ⟨rfl, rfl⟩ dJ10_init_6 ?_
  refine lv_aload_n hx hb dJ10_init_9 rfl (lv_at hl 0 rfl) ?_
  refine lv_iconst (v := (-1 : Int32)) hx hb dJ10_init_10 (by decide) ?_
  refine xr_pt h hX hI xl_J10_13_16 (Or.inl rfl) rfl rfl dJ10_init_11 (fun H locs σ h hI => ?_)
  refine lv_aload_n hx hb dJ10_init_14 rfl (lv_at hl 0 rfl) ?_
  refine lv_aload_n hx hb dJ10_init_15 rfl (lv_at hl 0 rfl) ?_
  refine xr_gN h hX hI xl_J10_1_16.g dJ10_init_16 (fun v3 h => ?_)
  refine xr_gI h hX hI xl_J10_17_12.g dJ10_init_19 (fun v4 h => ?_)
  refine xr_pt h hX hI xl_J10_22_16 (Or.inl rfl) rfl rfl dJ10_init_22 (fun H locs σ h hI => ?_)
  exact xr_return h hX hI dJ10_init_25
/-! java/util/ArrayList.iterator()Ljava/util/Iterator;  -/
theorem o_J2_iterator {a0 : Nat} {r : Nat} {σ σ9 : xS} (h : (f_J2_iterator a0).1 σ = some (r, σ9)) : ∃ fs, σ.1 a0 = some (.inl (12, fs)) := xck_of h
theorem w_J2_iterator {E : xE} {l : Launch} {a0 : Nat} {r : Nat} {σ σ9 : xS} (h : (f_J2_iterator a0).1 σ = some (r, σ9)) : xMet E l yJ2_iterator (ws_ yJ2_iterator cJ2_iterator 1 (some (.object "java/util/Iterator"))) 2 81 [.ref a0] σ σ9 (some (.ref r)) := by
  refine xstart (by decide +kernel) ((f_J2_iterator a0).2 _ _ _ h) (Nat.le_of_ble_eq_true rfl) ?_
  intro p e s m args below meth c H locs cells slots ls R hX hI hl
  have hx := hX.1.1
  have hb := hX.1.2.1
  have hl : lv_has ls 1 [(0, .ref a0)] := hl
  generalize hσ0 : σ = σ0 at hX hI ⊢
  have h : (f_J2_iterator a0).1 σ0 = some (r, σ9) := by rw [← hσ0]; exact h
  clear hσ0
  delta f_J2_iterator at h
  have h := (xck_bd h).2
  refine xr_nw h hX hI xn_J2_267 dJ2_iterator_0 (fun v2 H σ cells slots h hI => ?_)
  refine lv_dup hx hb dJ2_iterator_3 rfl ?_
  refine lv_aload_n hx hb dJ2_iterator_4 rfl (lv_at hl 0 rfl) ?_
  refine xr_callI (As := [.ref a0]) (rest := [.ref v2]) h hX hI (fun _ _ h => w_J10_init h) 1 q346 q348 q89 q347 rfl xd_J10_init ⟨rfl, rfl⟩ rfl hl.1 (Nat.le_of_ble_eq_true rfl) dJ2_iterator_5 (fun _ H locs σ cells slots h hI => ?_)
  exact xr_areturn h hX hI (Or.inl ⟨_, rfl⟩) dJ2_iterator_8
/-! java/util/ArrayList$Itr.hasNext()Z  -/
theorem o_J10_hasNext {a0 : Nat} {r : Int32} {σ σ9 : xS} (h : (f_J10_hasNext a0).1 σ = some (r, σ9)) : ∃ fs, σ.1 a0 = some (.inl (16, fs)) := xck_of h
theorem w_J10_hasNext {E : xE} {l : Launch} {a0 : Nat} {r : Int32} {σ σ9 : xS} (h : (f_J10_hasNext a0).1 σ = some (r, σ9)) : xMet E l yJ10_hasNext (ws_ yJ10_hasNext cJ10_hasNext 1 (some .boolean)) 0 0 [.ref a0] σ σ9 (some (.int r)) := by
  refine xstart (by decide +kernel) ((f_J10_hasNext a0).2 _ _ _ h) (Nat.le_of_ble_eq_true rfl) ?_
  intro p e s m args below meth c H locs cells slots ls R hX hI hl
  have hx := hX.1.1
  have hb := hX.1.2.1
  have hl : lv_has ls 1 [(0, .ref a0)] := hl
  generalize hσ0 : σ = σ0 at hX hI ⊢
  have h : (f_J10_hasNext a0).1 σ0 = some (r, σ9) := by rw [← hσ0]; exact h
  clear hσ0
  delta f_J10_hasNext at h
  have h := (xck_bd h).2
  refine lv_aload_n hx hb dJ10_hasNext_0 rfl (lv_at hl 0 rfl) ?_
  refine xr_gI h hX hI xl_J10_25_16.g dJ10_hasNext_1 (fun v4 h => ?_)
  refine lv_aload_n hx hb dJ10_hasNext_4 rfl (lv_at hl 0 rfl) ?_
  refine xr_gN h hX hI xl_J10_1_16.g dJ10_hasNext_5 (fun v5 h => ?_)
  refine xr_gI h hX hI xl_J10_28_12.g dJ10_hasNext_8 (fun v6 h => ?_)
  refine lv_icmp_eq (tgt := 18) hx hb dJ10_hasNext_11 (by decide) (fun hc => ?_) (fun hc => ?_)
  · have h := xif_t h hc
    refine lv_iconst (v := (0 : Int32)) hx hb dJ10_hasNext_18 (by decide) ?_
    exact xr_zreturn h hX hI dJ10_hasNext_19
  · have h := xif_f h hc
    refine lv_iconst (v := (1 : Int32)) hx hb dJ10_hasNext_14 (by decide) ?_
    refine lv_goto (tgt := 19) hx hb dJ10_hasNext_15 (by decide) ?_
    exact xr_zreturn h hX hI dJ10_hasNext_19
/-! java/util/ArrayList$Itr.checkForComodification()V  -/
theorem o_J10_checkForComodification {a0 : Nat} {r : Unit} {σ σ9 : xS} (h : (f_J10_checkForComodification a0).1 σ = some (r, σ9)) : ∃ fs, σ.1 a0 = some (.inl (16, fs)) := xck_of h
theorem w_J10_checkForComodification {E : xE} {l : Launch} {a0 : Nat} {r : Unit} {σ σ9 : xS} (h : (f_J10_checkForComodification a0).1 σ = some (r, σ9)) : xMet E l yJ10_checkForComodification (ws_ yJ10_checkForComodification cJ10_checkForComodification 1 none) 0 0 [.ref a0] σ σ9 none := by
  refine xstart (by decide +kernel) ((f_J10_checkForComodification a0).2 _ _ _ h) (Nat.le_of_ble_eq_true rfl) ?_
  intro p e s m args below meth c H locs cells slots ls R hX hI hl
  have hx := hX.1.1
  have hb := hX.1.2.1
  have hl : lv_has ls 1 [(0, .ref a0)] := hl
  generalize hσ0 : σ = σ0 at hX hI ⊢
  have h : (f_J10_checkForComodification a0).1 σ0 = some (r, σ9) := by rw [← hσ0]; exact h
  clear hσ0
  delta f_J10_checkForComodification at h
  have h := (xck_bd h).2
  refine lv_aload_n hx hb dJ10_checkForComodification_0 rfl (lv_at hl 0 rfl) ?_
  refine xr_gN h hX hI xl_J10_1_16.g dJ10_checkForComodification_1 (fun v4 h => ?_)
  refine xr_gI h hX hI xl_J10_17_12.g dJ10_checkForComodification_4 (fun v5 h => ?_)
  refine lv_aload_n hx hb dJ10_checkForComodification_7 rfl (lv_at hl 0 rfl) ?_
  refine xr_gI h hX hI xl_J10_22_16.g dJ10_checkForComodification_8 (fun v6 h => ?_)
  refine lv_icmp_eq (tgt := 22) hx hb dJ10_checkForComodification_11 (by decide) (fun hc => ?_) (fun hc => ?_)
  · have h := xif_t h hc
    exact xr_return h hX hI dJ10_checkForComodification_22
  · have h := xif_f h hc
    exact xr_no h
/-! java/util/ArrayList$Itr.next()Ljava/lang/Object;  -/
theorem o_J10_next {a0 : Nat} {r : Nat} {σ σ9 : xS} (h : (f_J10_next a0).1 σ = some (r, σ9)) : ∃ fs, σ.1 a0 = some (.inl (16, fs)) := xck_of h
theorem w_J10_next {E : xE} {l : Launch} {a0 : Nat} {r : Nat} {σ σ9 : xS} (h : (f_J10_next a0).1 σ = some (r, σ9)) : xMet E l yJ10_next (ws_ yJ10_next cJ10_next 3 (some (.object "java/lang/Object"))) 1 20 [.ref a0] σ σ9 (some (.ref r)) := by
  refine xstart (by decide +kernel) ((f_J10_next a0).2 _ _ _ h) (Nat.le_of_ble_eq_true rfl) ?_
  intro p e s m args below meth c H locs cells slots ls R hX hI hl
  have hx := hX.1.1
  have hb := hX.1.2.1
  have hl : lv_has ls 3 [(0, .ref a0)] := hl
  generalize hσ0 : σ = σ0 at hX hI ⊢
  have h : (f_J10_next a0).1 σ0 = some (r, σ9) := by rw [← hσ0]; exact h
  clear hσ0
  delta f_J10_next at h
  have h := (xck_bd h).2
  refine lv_aload_n hx hb dJ10_next_0 rfl (lv_at hl 0 rfl) ?_
  refine xr_callV (iv := (fun _ => none)) (As := []) (rest := []) h hX hI (fun _ _ h => w_J10_checkForComodification h) (fun _ _ h => o_J10_checkForComodification h) rfl 0 (lw_V q833 q834 q835 q89 q838) ⟨rfl, xd_J10_checkForComodification⟩ ⟨rfl, rfl⟩ rfl hl.1 (Nat.le_of_ble_eq_true rfl) dJ10_next_1 (fun _ H locs σ cells slots h hI => ?_)
  refine lv_aload_n hx hb dJ10_next_4 rfl (lv_at hl 0 rfl) ?_
  refine xr_gI h hX hI xl_J10_25_16.g dJ10_next_5 (fun v8 h => ?_)
  refine lv_istore_n (lv' := [(1, .int v8), (0, .ref a0)]) hx hb dJ10_next_8 rfl hl (Nat.le_of_ble_eq_true rfl) rfl (fun ls hl => ?_)
  refine lv_iload_n hx hb dJ10_next_9 rfl (lv_at hl 0 rfl) ?_
  refine lv_aload_n hx hb dJ10_next_10 rfl (lv_at hl 1 rfl) ?_
  refine xr_gN h hX hI xl_J10_1_16.g dJ10_next_11 (fun v9 h => ?_)
  refine xr_gI h hX hI xl_J10_28_12.g dJ10_next_14 (fun v10 h => ?_)
  refine lv_icmp_lt (tgt := 28) hx hb dJ10_next_17 (by decide) (fun hc => ?_) (fun hc => ?_)
  · have h := xif_t h hc
    refine lv_aload_n hx hb dJ10_next_28 rfl (lv_at hl 1 rfl) ?_
    refine xr_gN h hX hI xl_J10_1_16.g dJ10_next_29 (fun v11 h => ?_)
    refine xr_gN h hX hI xl_J10_37_12.g dJ10_next_32 (fun v12 h => ?_)
    refine lv_astore_n (lv' := [(2, .ref v12), (1, .int v8), (0, .ref a0)]) hx hb dJ10_next_35 rfl hl (Nat.le_of_ble_eq_true rfl) rfl (fun ls hl => ?_)
    refine lv_iload_n hx hb dJ10_next_36 rfl (lv_at hl 1 rfl) ?_
    refine lv_aload_n hx hb dJ10_next_37 rfl (lv_at hl 0 rfl) ?_
    refine xr_ln h hX hI dJ10_next_38 (fun v13 h => ?_)
    refine lv_icmp_lt (tgt := 50) hx hb dJ10_next_39 (by decide) (fun hc => ?_) (fun hc => ?_)
    · have h := xif_t h hc
      refine lv_aload_n hx hb dJ10_next_50 rfl (lv_at hl 2 rfl) ?_
      refine lv_iload_n hx hb dJ10_next_51 rfl (lv_at hl 1 rfl) ?_
      refine lv_iconst (v := (1 : Int32)) hx hb dJ10_next_52 (by decide) ?_
      refine lv_iadd hx hb dJ10_next_53 ?_
      refine xr_pt h hX hI xl_J10_25_16 (Or.inl rfl) rfl rfl dJ10_next_54 (fun H locs σ h hI => ?_)
      refine lv_aload_n hx hb dJ10_next_57 rfl (lv_at hl 0 rfl) ?_
      refine lv_aload_n hx hb dJ10_next_58 rfl (lv_at hl 2 rfl) ?_
      refine lv_iload_n hx hb dJ10_next_59 rfl (lv_at hl 1 rfl) ?_
      refine lv_dup_x1 hx hb dJ10_next_60 rfl rfl ?_
      refine xr_pt h hX hI xl_J10_13_16 (Or.inl rfl) rfl rfl dJ10_next_61 (fun H locs σ h hI => ?_)
      refine xr_ldN h hX hI (by decide) dJ10_next_64 (fun v14 h => ?_)
      exact xr_areturn h hX hI (Or.inl ⟨_, rfl⟩) dJ10_next_65
    · have h := xif_f h hc
      exact xr_no h
  · have h := xif_f h hc
    exact xr_no h
/-! PayMatch$Supplier.<init>(IDDI)V  -/
theorem w_X7_init {E : xE} {l : Launch} {a0 : Nat} {a1 : Int32} {a2 : UInt64} {a4 : UInt64} {a6 : Int32} {r : Unit} {σ σ9 : xS} (h : (f_X7_init a0 a1 a2 a4 a6).1 σ = some (r, σ9)) : xMet E l yX7_init (ws_ yX7_init cX7_init 7 none) 1 60 [.ref a0, .int a1, .double a2, .double a4, .int a6] σ σ9 none := by
  refine xstart (by decide +kernel) ((f_X7_init a0 a1 a2 a4 a6).2 _ _ _ h) (Nat.le_of_ble_eq_true rfl) ?_
  intro p e s m args below meth c H locs cells slots ls R hX hI hl
  have hx := hX.1.1
  have hb := hX.1.2.1
  have hl : lv_has ls 7 [(0, .ref a0), (1, .int a1), (2, .double a2), (4, .double a4), (6, .int a6)] := hl
  generalize hσ0 : σ = σ0 at hX hI ⊢
  have h : (f_X7_init a0 a1 a2 a4 a6).1 σ0 = some (r, σ9) := by rw [← hσ0]; exact h
  clear hσ0
  delta f_X7_init at h
  refine lv_aload_n hx hb dX7_init_0 rfl (lv_at hl 0 rfl) ?_
  refine xr_objI hX q1054 q123 q124 hl.1 ⟨rfl, rfl⟩ dX7_init_1 ?_
  refine lv_aload_n hx hb dX7_init_4 rfl (lv_at hl 0 rfl) ?_
  refine lv_iload_n hx hb dX7_init_5 rfl (lv_at hl 1 rfl) ?_
  refine xr_pt h hX hI xl_X7_14_7 (Or.inr rfl) rfl rfl dX7_init_6 (fun H locs σ h hI => ?_)
  refine lv_aload_n hx hb dX7_init_9 rfl (lv_at hl 0 rfl) ?_
  refine lv_dload_n hx hb dX7_init_10 rfl (lv_at hl 2 rfl) ?_
  refine xr_pt h hX hI xl_X7_18_7 (Or.inl rfl) rfl rfl dX7_init_11 (fun H locs σ h hI => ?_)
  refine lv_aload_n hx hb dX7_init_14 rfl (lv_at hl 0 rfl) ?_
  refine lv_dload hx hb dX7_init_15 (lv_at hl 3 rfl) ?_
  refine xr_pt h hX hI xl_X7_22_7 (Or.inl rfl) rfl rfl dX7_init_17 (fun H locs σ h hI => ?_)
  refine lv_aload_n hx hb dX7_init_20 rfl (lv_at hl 0 rfl) ?_
  refine lv_iload hx hb dX7_init_21 (lv_at hl 4 rfl) ?_
  refine xr_pt h hX hI xl_X7_25_7 (Or.inl rfl) rfl rfl dX7_init_23 (fun H locs σ h hI => ?_)
  exact xr_return h hX hI dX7_init_26
/-! PayMatch$Supplier.copy()LPayMatch$Supplier;  -/
theorem o_X7_copy_2 {a0 : Nat} {r : Nat} {σ σ9 : xS} (h : (f_X7_copy_2 a0).1 σ = some (r, σ9)) : ∃ fs, σ.1 a0 = some (.inl (7, fs)) := xck_of h
theorem w_X7_copy_2 {E : xE} {l : Launch} {a0 : Nat} {r : Nat} {σ σ9 : xS} (h : (f_X7_copy_2 a0).1 σ = some (r, σ9)) : xMet E l yX7_copy_2 (ws_ yX7_copy_2 cX7_copy_2 2 (some (.object "PayMatch$Supplier"))) 2 86 [.ref a0] σ σ9 (some (.ref r)) := by
  refine xstart (by decide +kernel) ((f_X7_copy_2 a0).2 _ _ _ h) (Nat.le_of_ble_eq_true rfl) ?_
  intro p e s m args below meth c H locs cells slots ls R hX hI hl
  have hx := hX.1.1
  have hb := hX.1.2.1
  have hl : lv_has ls 2 [(0, .ref a0)] := hl
  generalize hσ0 : σ = σ0 at hX hI ⊢
  have h : (f_X7_copy_2 a0).1 σ0 = some (r, σ9) := by rw [← hσ0]; exact h
  clear hσ0
  delta f_X7_copy_2 at h
  have h := (xck_bd h).2
  refine xr_nw h hX hI xn_X7_4 dX7_copy_2_0 (fun v11 H σ cells slots h hI => ?_)
  refine lv_dup hx hb dX7_copy_2_3 rfl ?_
  refine lv_aload_n hx hb dX7_copy_2_4 rfl (lv_at hl 0 rfl) ?_
  refine xr_gI h hX hI xl_X7_14_7.g dX7_copy_2_5 (fun v12 h => ?_)
  refine lv_aload_n hx hb dX7_copy_2_8 rfl (lv_at hl 0 rfl) ?_
  refine xr_gD h hX hI xl_X7_18_7.g dX7_copy_2_9 (fun v13 h => ?_)
  refine lv_aload_n hx hb dX7_copy_2_12 rfl (lv_at hl 0 rfl) ?_
  refine xr_gD h hX hI xl_X7_22_7.g dX7_copy_2_13 (fun v14 h => ?_)
  refine lv_aload_n hx hb dX7_copy_2_16 rfl (lv_at hl 0 rfl) ?_
  refine xr_gI h hX hI xl_X7_25_7.g dX7_copy_2_17 (fun v15 h => ?_)
  refine xr_callI (As := [.int v12, .double v13, .double v14, .int v15]) (rest := [.ref v11]) h hX hI (fun _ _ h => w_X7_init h) 4 q1051 q1053 q108 q1052 rfl xd_X7_init ⟨rfl, rfl⟩ rfl hl.1 (Nat.le_of_ble_eq_true rfl) dX7_copy_2_20 (fun _ H locs σ cells slots h hI => ?_)
  refine lv_astore_n (lv' := [(1, .ref v11), (0, .ref a0)]) hx hb dX7_copy_2_23 rfl hl (Nat.le_of_ble_eq_true rfl) rfl (fun ls hl => ?_)
  refine lv_aload_n hx hb dX7_copy_2_24 rfl (lv_at hl 0 rfl) ?_
  refine lv_aload_n hx hb dX7_copy_2_25 rfl (lv_at hl 1 rfl) ?_
  refine xr_gI h hX hI xl_X7_28_7.g dX7_copy_2_26 (fun v16 h => ?_)
  refine xr_pt h hX hI xl_X7_28_7 (Or.inl rfl) rfl rfl dX7_copy_2_29 (fun H locs σ h hI => ?_)
  refine lv_aload_n hx hb dX7_copy_2_32 rfl (lv_at hl 0 rfl) ?_
  refine lv_aload_n hx hb dX7_copy_2_33 rfl (lv_at hl 1 rfl) ?_
  refine xr_gI h hX hI xl_X7_31_7.g dX7_copy_2_34 (fun v17 h => ?_)
  refine xr_pt h hX hI xl_X7_31_7 (Or.inl rfl) rfl rfl dX7_copy_2_37 (fun H locs σ h hI => ?_)
  refine lv_aload_n hx hb dX7_copy_2_40 rfl (lv_at hl 0 rfl) ?_
  refine lv_aload_n hx hb dX7_copy_2_41 rfl (lv_at hl 1 rfl) ?_
  refine xr_gI h hX hI xl_X7_34_7.g dX7_copy_2_42 (fun v18 h => ?_)
  refine xr_pt h hX hI xl_X7_34_7 (Or.inl rfl) rfl rfl dX7_copy_2_45 (fun H locs σ h hI => ?_)
  refine lv_aload_n hx hb dX7_copy_2_48 rfl (lv_at hl 0 rfl) ?_
  refine lv_aload_n hx hb dX7_copy_2_49 rfl (lv_at hl 1 rfl) ?_
  refine xr_gI h hX hI xl_X7_37_7.g dX7_copy_2_50 (fun v19 h => ?_)
  refine xr_pt h hX hI xl_X7_37_7 (Or.inl rfl) rfl rfl dX7_copy_2_53 (fun H locs σ h hI => ?_)
  refine lv_aload_n hx hb dX7_copy_2_56 rfl (lv_at hl 0 rfl) ?_
  refine lv_aload_n hx hb dX7_copy_2_57 rfl (lv_at hl 1 rfl) ?_
  refine xr_gI h hX hI xl_X7_40_7.g dX7_copy_2_58 (fun v20 h => ?_)
  refine xr_ptZ h hX hI xl_X7_40_7 (Or.inl rfl) dX7_copy_2_61 (fun H locs σ h hI => ?_)
  refine lv_aload_n hx hb dX7_copy_2_64 rfl (lv_at hl 0 rfl) ?_
  exact xr_areturn h hX hI (Or.inl ⟨_, rfl⟩) dX7_copy_2_65
/-! PayMatch$Supplier.copy()LPayMatch$Paper;  -/
theorem o_X7_copy {a0 : Nat} {r : Nat} {σ σ9 : xS} (h : (f_X7_copy a0).1 σ = some (r, σ9)) : ∃ fs, σ.1 a0 = some (.inl (7, fs)) := xck_of h
theorem w_X7_copy {E : xE} {l : Launch} {a0 : Nat} {r : Nat} {σ σ9 : xS} (h : (f_X7_copy a0).1 σ = some (r, σ9)) : xMet E l yX7_copy (ws_ yX7_copy cX7_copy 1 (some (.object "PayMatch$Paper"))) 3 107 [.ref a0] σ σ9 (some (.ref r)) := by
  refine xstart (by decide +kernel) ((f_X7_copy a0).2 _ _ _ h) (Nat.le_of_ble_eq_true rfl) ?_
  intro p e s m args below meth c H locs cells slots ls R hX hI hl
  have hx := hX.1.1
  have hb := hX.1.2.1
  have hl : lv_has ls 1 [(0, .ref a0)] := hl
  generalize hσ0 : σ = σ0 at hX hI ⊢
  have h : (f_X7_copy a0).1 σ0 = some (r, σ9) := by rw [← hσ0]; exact h
  clear hσ0
  delta f_X7_copy at h
  have h := (xck_bd h).2
  refine lv_aload_n hx hb dX7_copy_0 rfl (lv_at hl 0 rfl) ?_
  refine xr_callV (iv := (fun b => some (.ref b))) (As := []) (rest := []) h hX hI (fun _ _ h => w_X7_copy_2 h) (fun _ _ h => o_X7_copy_2 h) rfl 0 (lw_V q1045 q1046 q1047 q108 q1048) ⟨rfl, xd_X7_copy_2⟩ ⟨rfl, rfl⟩ rfl hl.1 (Nat.le_of_ble_eq_true rfl) dX7_copy_1 (fun v2 H locs σ cells slots h hI => ?_)
  refine W.eq (g2 := F0 m 4 ls [.ref v2]) rfl ?_
  exact xr_areturn h hX hI (Or.inl ⟨_, rfl⟩) dX7_copy_4
/-! java/lang/Math.max(II)I  -/
theorem w_J21_max {E : xE} {l : Launch} {a0 : Int32} {a1 : Int32} {r : Int32} {σ σ9 : xS} (h : (f_J21_max a0 a1).1 σ = some (r, σ9)) : xMet E l yJ21_max (ws_ yJ21_max cJ21_max 2 (some .int)) 0 0 [.int a0, .int a1] σ σ9 (some (.int r)) := by
  refine xstart (by decide +kernel) ((f_J21_max a0 a1).2 _ _ _ h) (Nat.le_of_ble_eq_true rfl) ?_
  intro p e s m args below meth c H locs cells slots ls R hX hI hl
  have hx := hX.1.1
  have hb := hX.1.2.1
  have hl : lv_has ls 2 [(0, .int a0), (1, .int a1)] := hl
  generalize hσ0 : σ = σ0 at hX hI ⊢
  have h : (f_J21_max a0 a1).1 σ0 = some (r, σ9) := by rw [← hσ0]; exact h
  clear hσ0
  delta f_J21_max at h
  refine lv_iload_n hx hb dJ21_max_0 rfl (lv_at hl 0 rfl) ?_
  refine lv_iload_n hx hb dJ21_max_1 rfl (lv_at hl 1 rfl) ?_
  refine lv_icmp_lt (tgt := 9) hx hb dJ21_max_2 (by decide) (fun hc => ?_) (fun hc => ?_)
  · have h := xif_t h hc
    refine lv_iload_n hx hb dJ21_max_9 rfl (lv_at hl 1 rfl) ?_
    exact xr_ireturn h hX hI dJ21_max_10
  · have h := xif_f h hc
    refine lv_iload_n hx hb dJ21_max_5 rfl (lv_at hl 0 rfl) ?_
    refine lv_goto (tgt := 10) hx hb dJ21_max_6 (by decide) ?_
    exact xr_ireturn h hX hI dJ21_max_10
/-! jdk/internal/util/ArraysSupport.newLength(III)I  -/
theorem w_J20_newLength {E : xE} {l : Launch} {a0 : Int32} {a1 : Int32} {a2 : Int32} {r : Int32} {σ σ9 : xS} (h : (f_J20_newLength a0 a1 a2).1 σ = some (r, σ9)) : xMet E l yJ20_newLength (ws_ yJ20_newLength cJ20_newLength 4 (some .int)) 1 21 [.int a0, .int a1, .int a2] σ σ9 (some (.int r)) := by
  refine xstart (by decide +kernel) ((f_J20_newLength a0 a1 a2).2 _ _ _ h) (Nat.le_of_ble_eq_true rfl) ?_
  intro p e s m args below meth c H locs cells slots ls R hX hI hl
  have hx := hX.1.1
  have hb := hX.1.2.1
  have hl : lv_has ls 4 [(0, .int a0), (1, .int a1), (2, .int a2)] := hl
  generalize hσ0 : σ = σ0 at hX hI ⊢
  have h : (f_J20_newLength a0 a1 a2).1 σ0 = some (r, σ9) := by rw [← hσ0]; exact h
  clear hσ0
  delta f_J20_newLength at h
  refine lv_iload_n hx hb dJ20_newLength_0 rfl (lv_at hl 0 rfl) ?_
  refine lv_iload_n hx hb dJ20_newLength_1 rfl (lv_at hl 1 rfl) ?_
  refine lv_iload_n hx hb dJ20_newLength_2 rfl (lv_at hl 2 rfl) ?_
  refine xr_callS (iv := (fun b => some (.int b))) (As := [.int a1, .int a2]) (rest := [.int a0]) h hX hI (fun _ _ h => w_J21_max h) 2 (lw_S q645 q646 q101 q647) xd_J21_max ⟨rfl, rfl⟩ rfl hl.1 (Nat.le_of_ble_eq_true rfl) dJ20_newLength_3 (fun v2 H locs σ cells slots h hI => ?_)
  refine W.eq (g2 := F0 m 6 ls [.int v2, .int a0]) rfl ?_
  refine lv_iadd hx hb dJ20_newLength_6 ?_
  refine lv_istore_n (lv' := [(3, .int (a0 + v2)), (0, .int a0), (1, .int a1), (2, .int a2)]) hx hb dJ20_newLength_7 rfl hl (Nat.le_of_ble_eq_true rfl) rfl (fun ls hl => ?_)
  refine lv_iconst (v := (0 : Int32)) hx hb dJ20_newLength_8 (by decide) ?_
  refine lv_iload_n hx hb dJ20_newLength_9 rfl (lv_at hl 0 rfl) ?_
  refine lv_icmp_ge (tgt := 21) hx hb dJ20_newLength_10 (by decide) (fun hc => ?_) (fun hc => ?_)
  · have h := xif_t h hc
    exact xr_no h
  · have h := xif_f h hc
    refine lv_iload_n hx hb dJ20_newLength_13 rfl (lv_at hl 0 rfl) ?_
    refine lv_ldc (v := (2147483639 : Int32)) hx hb hX.1.2.2.2.1 (hX.1.2.2.2.2 _ q648) dJ20_newLength_14 ?_
    refine lv_icmp_gt (tgt := 21) hx hb dJ20_newLength_16 (by decide) (fun hc => ?_) (fun hc => ?_)
    · have h := xif_t h hc
      exact xr_no h
    · have h := xif_f h hc
      refine lv_iload_n hx hb dJ20_newLength_19 rfl (lv_at hl 0 rfl) ?_
      exact xr_ireturn h hX hI dJ20_newLength_20
/-! java/lang/Math.min(II)I  -/
theorem w_J21_min {E : xE} {l : Launch} {a0 : Int32} {a1 : Int32} {r : Int32} {σ σ9 : xS} (h : (f_J21_min a0 a1).1 σ = some (r, σ9)) : xMet E l yJ21_min (ws_ yJ21_min cJ21_min 2 (some .int)) 0 0 [.int a0, .int a1] σ σ9 (some (.int r)) := by
  refine xstart (by decide +kernel) ((f_J21_min a0 a1).2 _ _ _ h) (Nat.le_of_ble_eq_true rfl) ?_
  intro p e s m args below meth c H locs cells slots ls R hX hI hl
  have hx := hX.1.1
  have hb := hX.1.2.1
  have hl : lv_has ls 2 [(0, .int a0), (1, .int a1)] := hl
  generalize hσ0 : σ = σ0 at hX hI ⊢
  have h : (f_J21_min a0 a1).1 σ0 = some (r, σ9) := by rw [← hσ0]; exact h
  clear hσ0
  delta f_J21_min at h
  refine lv_iload_n hx hb dJ21_min_0 rfl (lv_at hl 0 rfl) ?_
  refine lv_iload_n hx hb dJ21_min_1 rfl (lv_at hl 1 rfl) ?_
  refine lv_icmp_gt (tgt := 9) hx hb dJ21_min_2 (by decide) (fun hc => ?_) (fun hc => ?_)
  · have h := xif_t h hc
    refine lv_iload_n hx hb dJ21_min_9 rfl (lv_at hl 1 rfl) ?_
    exact xr_ireturn h hX hI dJ21_min_10
  · have h := xif_f h hc
    refine lv_iload_n hx hb dJ21_min_5 rfl (lv_at hl 0 rfl) ?_
    refine lv_goto (tgt := 10) hx hb dJ21_min_6 (by decide) ?_
    exact xr_ireturn h hX hI dJ21_min_10
/-! by hand: java/util/Arrays.copyOf -/
theorem w_J22_copyOf_3 {E : xE} {l : Launch} {a0 mi : Nat} {a1 : Int32} {r : Nat} {σ σ9 : xS} (h : (f_J22_copyOf_3 a0 a1).1 σ = some (r, σ9)) : Met l yJ22_copyOf_3 (ws_ yJ22_copyOf_3 cJ22_copyOf_3 4 (some (.array (.object "java/lang/Object")))) (xrm 2 120 σ σ9) (fun a U => xPc E σ [.ref a0, .int a1, .ref mi] a U ∧ va_Mi "[Ljava/lang/Object;" mi U) (xQ E σ9 (some (.ref r))) (σ9.2.1 - σ.2.1) (σ9.2.2.1 - σ.2.2.1) (xA E) := by
  refine xstart2 (X := va_Mi "[Ljava/lang/Object;" mi) (by decide +kernel) ((f_J22_copyOf_3 a0 a1).2 _ _ _ h) (Nat.le_of_ble_eq_true rfl) ?_
  intro p e s m args below meth c H locs cells slots ls R hMi hX hI hl
  have hx := hX.1.1
  have hb := hX.1.2.1
  have hl : lv_has ls 4 [(0, .ref a0), (1, .int a1), (2, .ref mi)] := hl
  generalize hσ0 : σ = σ0 at hX hI ⊢
  have h : (f_J22_copyOf_3 a0 a1).1 σ0 = some (r, σ9) := by rw [← hσ0]; exact h
  clear hσ0
  delta f_J22_copyOf_3 at h
  refine lv_aload_n hx hb dJ22_copyOf_3_0 rfl (lv_at hl 2 rfl) ?_
  refine va_ldcM hx hb hX.1.2.2.2.1 (hX.1.2.2.2.2 _ q1129) hMi dJ22_copyOf_3_1 ?_
  refine lv_acmp_ne (tgt := 13) (rx := some mi) (ry := some mi) hx hb dJ22_copyOf_3_3 (by decide) (fun q => absurd rfl q) (fun _ => ?_)
  refine lv_iload_n hx hb dJ22_copyOf_3_6 rfl (lv_at hl 1 rfl) ?_
  refine xr_nq h hX hI q1130 (by decide) dJ22_copyOf_3_7 (fun v1 H σ cells slots h hI => ?_)
  refine lv_goto (tgt := 24) hx hb dJ22_copyOf_3_10 (by decide) ?_
  refine lv_astore_n (lv' := [(3, .ref v1), (0, .ref a0), (1, .int a1), (2, .ref mi)]) hx hb dJ22_copyOf_3_24 rfl hl (Nat.le_of_ble_eq_true rfl) rfl (fun ls hl => ?_)
  refine lv_aload_n hx hb dJ22_copyOf_3_25 rfl (lv_at hl 1 rfl) ?_
  refine lv_iconst (v := (0 : Int32)) hx hb dJ22_copyOf_3_26 (by decide) ?_
  refine lv_aload_n hx hb dJ22_copyOf_3_27 rfl (lv_at hl 0 rfl) ?_
  refine lv_iconst (v := (0 : Int32)) hx hb dJ22_copyOf_3_28 (by decide) ?_
  refine lv_aload_n hx hb dJ22_copyOf_3_29 rfl (lv_at hl 1 rfl) ?_
  refine xr_ln h hX hI dJ22_copyOf_3_30 (fun v2 h => ?_)
  refine lv_iload_n hx hb dJ22_copyOf_3_31 rfl (lv_at hl 2 rfl) ?_
  refine xr_callS (iv := (fun b => some (.int b))) (As := [.int v2, .int a1]) (rest := [.int (0 : Int32), .ref v1, .int (0 : Int32), .ref a0]) h hX hI (fun _ _ h => w_J21_min h) 2 (lw_S q663 q664 q101 q665) xd_J21_min ⟨rfl, rfl⟩ rfl hl.1 (Nat.le_of_ble_eq_true rfl) dJ22_copyOf_3_32 (fun v3 H locs σ cells slots h hI => ?_)
  refine W.eq (g2 := F0 m 35 ls [.int v3, .int (0 : Int32), .ref v1, .int (0 : Int32), .ref a0]) rfl ?_
  refine xr_cpy h hX hI (by decide) q666 q668 q667 q103 hl.1 ⟨rfl, rfl⟩ dJ22_copyOf_3_35 (fun H locs σ h hI => ?_)
  refine lv_aload_n hx hb dJ22_copyOf_3_38 rfl (lv_at hl 0 rfl) ?_
  exact xr_areturn h hX hI (Or.inr ⟨_, rfl⟩) dJ22_copyOf_3_39
theorem w_J22_copyOf_2 {E : xE} {l : Launch} {a0 : Nat} {a1 : Int32} {r : Nat} {σ σ9 : xS} (h : (f_J22_copyOf_2 a0 a1).1 σ = some (r, σ9)) : xMet E l yJ22_copyOf_2 (ws_ yJ22_copyOf_2 cJ22_copyOf_2 2 (some (.array (.object "java/lang/Object")))) 3 200 [.ref a0, .int a1] σ σ9 (some (.ref r)) := by
  refine xstart (by decide +kernel) ((f_J22_copyOf_2 a0 a1).2 _ _ _ h) (Nat.le_of_ble_eq_true rfl) ?_
  intro p e s m args below meth c H locs cells slots ls R hX hI hl
  have hx := hX.1.1
  have hb := hX.1.2.1
  have hl : lv_has ls 2 [(0, .ref a0), (1, .int a1)] := hl
  generalize hσ0 : σ = σ0 at hX hI ⊢
  have h : (f_J22_copyOf_2 a0 a1).1 σ0 = some (r, σ9) := by rw [← hσ0]; exact h
  clear hσ0
  delta f_J22_copyOf_2 at h
  obtain ⟨⟨n0, f0, harr⟩, h⟩ := xckR_bd h
  refine lv_aload_n hx hb dJ22_copyOf_2_0 rfl (lv_at hl 0 rfl) ?_
  refine lv_iload_n hx hb dJ22_copyOf_2_1 rfl (lv_at hl 1 rfl) ?_
  refine lv_aload_n hx hb dJ22_copyOf_2_2 rfl (lv_at hl 0 rfl) ?_
  obtain ⟨mi, hMi⟩ := hX.2.1.2.2.2.2.1
  have hts := hX.1.2.2.2.2
  obtain ⟨hcell, -, -⟩ := xat_arr hI (t := 3) (by decide) harr
  have hRA := (hX.2.1.1.2 3 _ (xtys_at E (by decide))).2
  have hnm := va_nmO hRA (nm := "[Ljava/lang/Object;") rfl
  have hof : ∃ z, vp_cell (E.2.1 3) (n0, f0) = arrV (E.2.1 3) n0 z := by
    rcases f0 with f | f | f | f | f
    · exact ⟨_, vp_cell_i _ _ _⟩
    · exact ⟨_, vp_cell_l _ _ _⟩
    · exact ⟨_, vp_cell_f _ _ _⟩
    · exact ⟨_, vp_cell_d _ _ _⟩
    · exact ⟨_, vp_cell_q _ _ _⟩
  obtain ⟨z, hz⟩ := hof
  rw [hz] at hcell
  obtain ⟨-, -, -, ⟨-, -, r1, r2⟩, -⟩ := id hX
  refine va_getC (C := "[Ljava/lang/Object;") (mi := mi) hx hb (by rw [hX.1.2.2.1]; exact hl.1.symm) hX.1.2.2.2.1 (hts _ q1125) (va_Dc.use hX.2.1.2.2.2.2.2.1) (hts _ q2411) (hts _ q577) (hts _ q604) hMi ⟨_, hcell, rfl, hnm⟩ (Nat.le_trans (Nat.le_of_ble_eq_true rfl) r1) (Nat.le_trans (Nat.le_of_ble_eq_true rfl) r2) dJ22_copyOf_2_3 ?_
  have m1 := (f_J22_copyOf_3 a0 a1).2 _ _ _ h
  have hW : W p l e R s m args below meth c H locs cells slots (xMQ E below args s σ0 σ9 (some (.ref r))) (F0 m 6 ls [.ref mi, .int a1, .ref a0]) := by
    refine xgo (a := #[]) (σ1 := σ9) (v := some (.ref r)) (mc := σ9.2.1 - σ0.2.1) (ms := σ9.2.2.1 - σ0.2.2.1) (pcn := 9) (rest := []) hX hI m1 rfl rfl ?_ (fun H1 locs1 cells1 slots1 hI1 => ?_)
    · exact va_runS (As := [.ref a0, .int a1, .ref mi]) (rest := []) hX.1 (w_J22_copyOf_3 (E := E) (mi := mi) h) (va_cwS 3 hts (lw_S q1126 q1127 q102 q1128) rfl rfl rfl xd_J22_copyOf_3 (xhR hX ⟨rfl, rfl⟩)) ⟨fun a U g mk q => ⟨xPc_blind a U g mk q.1, q.2.moved (Vm.Alike.refl U.vm)⟩, fun U hU hW => ⟨xPc_at hX hI hU hW, hMi.moved hW.alike⟩⟩ rfl rfl hl.1 rfl (lv_room (Nat.le_of_ble_eq_true rfl)) dJ22_copyOf_2_6 (xfits hX hI m1 ⟨Nat.le_refl _, Nat.le_refl _, rfl⟩)
    · exact xr_areturn (v := r) (show (xrt r).1 σ9 = some (r, σ9) from rfl) hX hI1 (Or.inr ⟨_, rfl⟩) dJ22_copyOf_2_9
  exact hW
/-! java/util/ArrayList.grow(I)[Ljava/lang/Object;  -/
theorem w_J2_grow_2_b20 {a0 : Nat} {a1 : Int32} {a2 : Int32} {r : Nat} (hX : xX E R p m c cJ2_grow_2 4 s args RJ2 "grow" meth (some (.array (.object "java/lang/Object"))) 4 221 σ0 σ9)
    (h : (f_J2_grow_2_b20 a0 a1 a2).1 σ = some (r, σ9)) (hI : xI E σ0 σ s H locs cells slots) (hl : lv_has ls 4 [(0, .ref a0), (1, .int a1), (2, .int a2)]) : W p l e R s m args below meth c H locs cells slots (xMQ E below args s σ0 σ9 (some (.ref r))) (F0 m 20 ls []) := by
  have hx := hX.1.1
  have hb := hX.1.2.1
  delta f_J2_grow_2_b20 at h
  refine lv_iload_n hx hb dJ2_grow_2_20 rfl (lv_at hl 2 rfl) ?_
  refine lv_iload_n hx hb dJ2_grow_2_21 rfl (lv_at hl 1 rfl) ?_
  refine lv_iload_n hx hb dJ2_grow_2_22 rfl (lv_at hl 2 rfl) ?_
  refine lv_isub hx hb dJ2_grow_2_23 ?_
  refine lv_iload_n hx hb dJ2_grow_2_24 rfl (lv_at hl 2 rfl) ?_
  refine lv_iconst (v := (1 : Int32)) hx hb dJ2_grow_2_25 (by decide) ?_
  refine lv_ishr hx hb dJ2_grow_2_26 ?_
  refine xr_callS (iv := (fun b => some (.int b))) (As := [.int a2, .int (a1 - a2), .int (a2 >>> ((1 : Int32) &&& 31))]) (rest := []) h hX hI (fun _ _ h => w_J20_newLength h) 3 (lw_S q1121 q643 q100 q644) xd_J20_newLength ⟨rfl, rfl⟩ rfl hl.1 (Nat.le_of_ble_eq_true rfl) dJ2_grow_2_27 (fun v10 H locs σ cells slots h hI => ?_)
  refine W.eq (g2 := F0 m 30 ls [.int v10]) rfl ?_
  refine lv_istore_n (lv' := [(3, .int v10), (0, .ref a0), (1, .int a1), (2, .int a2)]) hx hb dJ2_grow_2_30 rfl hl (Nat.le_of_ble_eq_true rfl) rfl (fun ls hl => ?_)
  refine lv_aload_n hx hb dJ2_grow_2_31 rfl (lv_at hl 1 rfl) ?_
  refine lv_aload_n hx hb dJ2_grow_2_32 rfl (lv_at hl 1 rfl) ?_
  refine xr_gN h hX hI xl_J2_9_12.g dJ2_grow_2_33 (fun v11 h => ?_)
  refine lv_iload_n hx hb dJ2_grow_2_36 rfl (lv_at hl 0 rfl) ?_
  refine xr_callS (iv := (fun b => some (.ref b))) (As := [.ref v11, .int v10]) (rest := [.ref a0]) h hX hI (fun _ _ h => w_J22_copyOf_2 h) 2 (lw_S q1122 q1123 q102 q1124) xd_J22_copyOf_2 ⟨rfl, rfl⟩ rfl hl.1 (Nat.le_of_ble_eq_true rfl) dJ2_grow_2_37 (fun v12 H locs σ cells slots h hI => ?_)
  refine W.eq (g2 := F0 m 40 ls [.ref v12, .ref a0]) rfl ?_
  refine lv_dup_x1 hx hb dJ2_grow_2_40 rfl rfl ?_
  refine xr_pt h hX hI xl_J2_9_12 (Or.inl rfl) rfl rfl dJ2_grow_2_41 (fun H locs σ h hI => ?_)
  exact xr_areturn h hX hI (Or.inr ⟨_, rfl⟩) dJ2_grow_2_44
theorem o_J2_grow_2 {a0 : Nat} {a1 : Int32} {r : Nat} {σ σ9 : xS} (h : (f_J2_grow_2 a0 a1).1 σ = some (r, σ9)) : ∃ fs, σ.1 a0 = some (.inl (12, fs)) := xck_of h
theorem w_J2_grow_2 {E : xE} {l : Launch} {a0 : Nat} {a1 : Int32} {r : Nat} {σ σ9 : xS} (h : (f_J2_grow_2 a0 a1).1 σ = some (r, σ9)) : xMet E l yJ2_grow_2 (ws_ yJ2_grow_2 cJ2_grow_2 4 (some (.array (.object "java/lang/Object")))) 4 221 [.ref a0, .int a1] σ σ9 (some (.ref r)) := by
  refine xstart (by decide +kernel) ((f_J2_grow_2 a0 a1).2 _ _ _ h) (Nat.le_of_ble_eq_true rfl) ?_
  intro p e s m args below meth c H locs cells slots ls R hX hI hl
  have hx := hX.1.1
  have hb := hX.1.2.1
  have hl : lv_has ls 4 [(0, .ref a0), (1, .int a1)] := hl
  generalize hσ0 : σ = σ0 at hX hI ⊢
  have h : (f_J2_grow_2 a0 a1).1 σ0 = some (r, σ9) := by rw [← hσ0]; exact h
  clear hσ0
  delta f_J2_grow_2 at h
  have h := (xck_bd h).2
  refine lv_aload_n hx hb dJ2_grow_2_0 rfl (lv_at hl 0 rfl) ?_
  refine xr_gN h hX hI xl_J2_9_12.g dJ2_grow_2_1 (fun v13 h => ?_)
  refine xr_ln h hX hI dJ2_grow_2_4 (fun v14 h => ?_)
  refine lv_istore_n (lv' := [(2, .int v14), (0, .ref a0), (1, .int a1)]) hx hb dJ2_grow_2_5 rfl hl (Nat.le_of_ble_eq_true rfl) rfl (fun ls hl => ?_)
  refine lv_iload_n hx hb dJ2_grow_2_6 rfl (lv_at hl 0 rfl) ?_
  refine lv_if_gt (tgt := 20) hx hb dJ2_grow_2_7 (by decide) (fun hc => ?_) (fun hc => ?_)
  · have h := xif_t h hc
    exact w_J2_grow_2_b20 hX h hI (lv_sub hl [1, 2, 0] rfl)
  · have h := xif_f h hc
    refine lv_aload_n hx hb dJ2_grow_2_10 rfl (lv_at hl 1 rfl) ?_
    refine xr_gN h hX hI xl_J2_9_12.g dJ2_grow_2_11 (fun v15 h => ?_)
    refine xr_gse0 h hX hI q149 dJ2_grow_2_14 (fun v16 h => ?_)
    refine xr_acmp_eq (tgt := 45) h hx hb dJ2_grow_2_17 (by decide) (fun h => ?_) (fun h => ?_)
    · refine lv_aload_n hx hb dJ2_grow_2_45 rfl (lv_at hl 1 rfl) ?_
      refine lv_bipush (v := (10 : Int32)) hx hb dJ2_grow_2_46 (by decide) ?_
      refine lv_iload_n hx hb dJ2_grow_2_48 rfl (lv_at hl 2 rfl) ?_
      refine xr_callS (iv := (fun b => some (.int b))) (As := [.int (10 : Int32), .int a1]) (rest := [.ref a0]) h hX hI (fun _ _ h => w_J21_max h) 2 (lw_S q1131 q646 q101 q647) xd_J21_max ⟨rfl, rfl⟩ rfl hl.1 (Nat.le_of_ble_eq_true rfl) dJ2_grow_2_49 (fun v17 H locs σ cells slots h hI => ?_)
      refine W.eq (g2 := F0 m 52 ls [.int v17, .ref a0]) rfl ?_
      refine xr_nq h hX hI q1132 (by decide) dJ2_grow_2_52 (fun v18 H σ cells slots h hI => ?_)
      refine lv_dup_x1 hx hb dJ2_grow_2_55 rfl rfl ?_
      refine xr_pt h hX hI xl_J2_9_12 (Or.inl rfl) rfl rfl dJ2_grow_2_56 (fun H locs σ h hI => ?_)
      exact xr_areturn h hX hI (Or.inr ⟨_, rfl⟩) dJ2_grow_2_59
    · exact w_J2_grow_2_b20 hX h hI (lv_sub hl [1, 2, 0] rfl)
/-! java/util/ArrayList.grow()[Ljava/lang/Object;  -/
theorem o_J2_grow {a0 : Nat} {r : Nat} {σ σ9 : xS} (h : (f_J2_grow a0).1 σ = some (r, σ9)) : ∃ fs, σ.1 a0 = some (.inl (12, fs)) := xck_of h
theorem w_J2_grow {E : xE} {l : Launch} {a0 : Nat} {r : Nat} {σ σ9 : xS} (h : (f_J2_grow a0).1 σ = some (r, σ9)) : xMet E l yJ2_grow (ws_ yJ2_grow cJ2_grow 1 (some (.array (.object "java/lang/Object")))) 5 244 [.ref a0] σ σ9 (some (.ref r)) := by
  refine xstart (by decide +kernel) ((f_J2_grow a0).2 _ _ _ h) (Nat.le_of_ble_eq_true rfl) ?_
  intro p e s m args below meth c H locs cells slots ls R hX hI hl
  have hx := hX.1.1
  have hb := hX.1.2.1
  have hl : lv_has ls 1 [(0, .ref a0)] := hl
  generalize hσ0 : σ = σ0 at hX hI ⊢
  have h : (f_J2_grow a0).1 σ0 = some (r, σ9) := by rw [← hσ0]; exact h
  clear hσ0
  delta f_J2_grow at h
  have h := (xck_bd h).2
  refine lv_aload_n hx hb dJ2_grow_0 rfl (lv_at hl 0 rfl) ?_
  refine lv_aload_n hx hb dJ2_grow_1 rfl (lv_at hl 0 rfl) ?_
  refine xr_gI h hX hI xl_J2_48_12.g dJ2_grow_2 (fun v3 h => ?_)
  refine lv_iconst (v := (1 : Int32)) hx hb dJ2_grow_5 (by decide) ?_
  refine lv_iadd hx hb dJ2_grow_6 ?_
  refine xr_callV (iv := (fun b => some (.ref b))) (As := [.int (v3 + (1 : Int32))]) (rest := []) h hX hI (fun _ _ h => w_J2_grow_2 h) (fun _ _ h => o_J2_grow_2 h) rfl 1 (lw_V q1117 q1119 qs8 q79 q1120) ⟨rfl, xd_J2_grow_2⟩ ⟨rfl, rfl⟩ rfl hl.1 (Nat.le_of_ble_eq_true rfl) dJ2_grow_7 (fun v4 H locs σ cells slots h hI => ?_)
  refine W.eq (g2 := F0 m 10 ls [.ref v4]) rfl ?_
  exact xr_areturn h hX hI (Or.inr ⟨_, rfl⟩) dJ2_grow_10
/-! java/util/ArrayList.add(Ljava/lang/Object;[Ljava/lang/Object;I)V  -/
theorem w_J2_add_2_b11 {a0 : Nat} {a1 : Nat} {a2 : Nat} {a3 : Int32} {r : Unit} (hX : xX E R p m c cJ2_add_2 4 s args RJ2 "add" meth none 6 264 σ0 σ9)
    (h : (f_J2_add_2_b11 a0 a1 a2 a3).1 σ = some (r, σ9)) (hI : xI E σ0 σ s H locs cells slots) (hl : lv_has ls 4 [(0, .ref a0), (1, .ref a1), (2, .ref a2), (3, .int a3)]) : W p l e R s m args below meth c H locs cells slots (xMQ E below args s σ0 σ9 none) (F0 m 11 ls []) := by
  have hx := hX.1.1
  have hb := hX.1.2.1
  delta f_J2_add_2_b11 at h
  refine lv_aload_n hx hb dJ2_add_2_11 rfl (lv_at hl 2 rfl) ?_
  refine lv_iload_n hx hb dJ2_add_2_12 rfl (lv_at hl 3 rfl) ?_
  refine lv_aload_n hx hb dJ2_add_2_13 rfl (lv_at hl 1 rfl) ?_
  refine xr_stR h hX hI (by decide) dJ2_add_2_14 (fun H locs σ h hI => ?_)
  refine lv_aload_n hx hb dJ2_add_2_15 rfl (lv_at hl 0 rfl) ?_
  refine lv_iload_n hx hb dJ2_add_2_16 rfl (lv_at hl 3 rfl) ?_
  refine lv_iconst (v := (1 : Int32)) hx hb dJ2_add_2_17 (by decide) ?_
  refine lv_iadd hx hb dJ2_add_2_18 ?_
  refine xr_pt h hX hI xl_J2_48_12 (Or.inl rfl) rfl rfl dJ2_add_2_19 (fun H locs σ h hI => ?_)
  exact xr_return h hX hI dJ2_add_2_22
theorem o_J2_add_2 {a0 : Nat} {a1 : Nat} {a2 : Nat} {a3 : Int32} {r : Unit} {σ σ9 : xS} (h : (f_J2_add_2 a0 a1 a2 a3).1 σ = some (r, σ9)) : ∃ fs, σ.1 a0 = some (.inl (12, fs)) := xck_of h
theorem w_J2_add_2 {E : xE} {l : Launch} {a0 : Nat} {a1 : Nat} {a2 : Nat} {a3 : Int32} {r : Unit} {σ σ9 : xS} (h : (f_J2_add_2 a0 a1 a2 a3).1 σ = some (r, σ9)) : xMet E l yJ2_add_2 (ws_ yJ2_add_2 cJ2_add_2 4 none) 6 264 [.ref a0, .ref a1, .ref a2, .int a3] σ σ9 none := by
  refine xstart (by decide +kernel) ((f_J2_add_2 a0 a1 a2 a3).2 _ _ _ h) (Nat.le_of_ble_eq_true rfl) ?_
  intro p e s m args below meth c H locs cells slots ls R hX hI hl
  have hx := hX.1.1
  have hb := hX.1.2.1
  have hl : lv_has ls 4 [(0, .ref a0), (1, .ref a1), (2, .ref a2), (3, .int a3)] := hl
  generalize hσ0 : σ = σ0 at hX hI ⊢
  have h : (f_J2_add_2 a0 a1 a2 a3).1 σ0 = some (r, σ9) := by rw [← hσ0]; exact h
  clear hσ0
  delta f_J2_add_2 at h
  have h := (xck_bd h).2
  refine lv_iload_n hx hb dJ2_add_2_0 rfl (lv_at hl 3 rfl) ?_
  refine lv_aload_n hx hb dJ2_add_2_1 rfl (lv_at hl 2 rfl) ?_
  refine xr_ln h hX hI dJ2_add_2_2 (fun v3 h => ?_)
  refine lv_icmp_ne (tgt := 11) hx hb dJ2_add_2_3 (by decide) (fun hc => ?_) (fun hc => ?_)
  · have h := xif_f h hc
    exact w_J2_add_2_b11 hX h hI (lv_sub hl [0, 1, 2, 3] rfl)
  · have h := xif_t h hc
    refine lv_aload_n hx hb dJ2_add_2_6 rfl (lv_at hl 0 rfl) ?_
    refine xr_callV (iv := (fun b => some (.ref b))) (As := []) (rest := []) h hX hI (fun _ _ h => w_J2_grow h) (fun _ _ h => o_J2_grow h) rfl 0 (lw_V q1113 q1115 qs7 q79 q1116) ⟨rfl, xd_J2_grow⟩ ⟨rfl, rfl⟩ rfl hl.1 (Nat.le_of_ble_eq_true rfl) dJ2_add_2_7 (fun v4 H locs σ cells slots h hI => ?_)
    refine W.eq (g2 := F0 m 10 ls [.ref v4]) rfl ?_
    refine lv_astore_n (lv' := [(2, .ref v4), (0, .ref a0), (1, .ref a1), (3, .int a3)]) hx hb dJ2_add_2_10 rfl hl (Nat.le_of_ble_eq_true rfl) rfl (fun ls hl => ?_)
    exact w_J2_add_2_b11 hX h hI (lv_sub hl [1, 2, 0, 3] rfl)
/-! java/util/ArrayList.add(Ljava/lang/Object;)Z  -/
theorem o_J2_add {a0 : Nat} {a1 : Nat} {r : Int32} {σ σ9 : xS} (h : (f_J2_add a0 a1).1 σ = some (r, σ9)) : ∃ fs, σ.1 a0 = some (.inl (12, fs)) := xck_of h
theorem w_J2_add {E : xE} {l : Launch} {a0 : Nat} {a1 : Nat} {r : Int32} {σ σ9 : xS} (h : (f_J2_add a0 a1).1 σ = some (r, σ9)) : xMet E l yJ2_add (ws_ yJ2_add cJ2_add 2 (some .boolean)) 7 287 [.ref a0, .ref a1] σ σ9 (some (.int r)) := by
  refine xstart (by decide +kernel) ((f_J2_add a0 a1).2 _ _ _ h) (Nat.le_of_ble_eq_true rfl) ?_
  intro p e s m args below meth c H locs cells slots ls R hX hI hl
  have hx := hX.1.1
  have hb := hX.1.2.1
  have hl : lv_has ls 2 [(0, .ref a0), (1, .ref a1)] := hl
  generalize hσ0 : σ = σ0 at hX hI ⊢
  have h : (f_J2_add a0 a1).1 σ0 = some (r, σ9) := by rw [← hσ0]; exact h
  clear hσ0
  delta f_J2_add at h
  have h := (xck_bd h).2
  refine lv_aload_n hx hb dJ2_add_0 rfl (lv_at hl 0 rfl) ?_
  refine lv_dup hx hb dJ2_add_1 rfl ?_
  refine xr_gI h hX hI xl_J2_63_12.g dJ2_add_2 (fun v4 h => ?_)
  refine lv_iconst (v := (1 : Int32)) hx hb dJ2_add_5 (by decide) ?_
  refine lv_iadd hx hb dJ2_add_6 ?_
  refine xr_pt h hX hI xl_J2_63_12 (Or.inl rfl) rfl rfl dJ2_add_7 (fun H locs σ h hI => ?_)
  refine lv_aload_n hx hb dJ2_add_10 rfl (lv_at hl 0 rfl) ?_
  refine lv_aload_n hx hb dJ2_add_11 rfl (lv_at hl 1 rfl) ?_
  refine lv_aload_n hx hb dJ2_add_12 rfl (lv_at hl 0 rfl) ?_
  refine xr_gN h hX hI xl_J2_9_12.g dJ2_add_13 (fun v5 h => ?_)
  refine lv_aload_n hx hb dJ2_add_16 rfl (lv_at hl 0 rfl) ?_
  refine xr_gI h hX hI xl_J2_48_12.g dJ2_add_17 (fun v6 h => ?_)
  refine xr_callV (iv := (fun _ => none)) (As := [.ref a1, .ref v5, .int v6]) (rest := []) h hX hI (fun _ _ h => w_J2_add_2 h) (fun _ _ h => o_J2_add_2 h) rfl 3 (lw_V q1109 q1111 qs6 q79 q1112) ⟨rfl, xd_J2_add_2⟩ ⟨rfl, rfl⟩ rfl hl.1 (Nat.le_of_ble_eq_true rfl) dJ2_add_20 (fun _ H locs σ cells slots h hI => ?_)
  refine lv_iconst (v := (1 : Int32)) hx hb dJ2_add_23 (by decide) ?_
  exact xr_zreturn h hX hI dJ2_add_24
/-! PayMatch$Book.add(LPayMatch$Paper;)LPayMatch$Paper;  -/
theorem o_X2_add {a0 : Nat} {a1 : Nat} {r : Nat} {σ σ9 : xS} (h : (f_X2_add a0 a1).1 σ = some (r, σ9)) : ∃ fs, σ.1 a0 = some (.inl (2, fs)) := xck_of h
theorem w_X2_add {E : xE} {l : Launch} {a0 : Nat} {a1 : Nat} {r : Nat} {σ σ9 : xS} (h : (f_X2_add a0 a1).1 σ = some (r, σ9)) : xMet E l yX2_add (ws_ yX2_add cX2_add 2 (some (.object "PayMatch$Paper"))) 8 308 [.ref a0, .ref a1] σ σ9 (some (.ref r)) := by
  refine xstart (by decide +kernel) ((f_X2_add a0 a1).2 _ _ _ h) (Nat.le_of_ble_eq_true rfl) ?_
  intro p e s m args below meth c H locs cells slots ls R hX hI hl
  have hx := hX.1.1
  have hb := hX.1.2.1
  have hl : lv_has ls 2 [(0, .ref a0), (1, .ref a1)] := hl
  generalize hσ0 : σ = σ0 at hX hI ⊢
  have h : (f_X2_add a0 a1).1 σ0 = some (r, σ9) := by rw [← hσ0]; exact h
  clear hσ0
  delta f_X2_add at h
  have h := (xck_bd h).2
  refine lv_aload_n hx hb dX2_add_0 rfl (lv_at hl 0 rfl) ?_
  refine xr_gN h hX hI xl_X2_10_2.g dX2_add_1 (fun v3 h => ?_)
  refine lv_aload_n hx hb dX2_add_4 rfl (lv_at hl 1 rfl) ?_
  refine xr_callF (iv := (fun b => some (.int b))) (As := [.ref a1]) (rest := []) h hX hI (fun _ _ h => w_J2_add h) (fun _ _ h => o_J2_add h) rfl 1 xfw_12 q1101 q1104 q1106 q79 q1108 xdi_12 ⟨rfl, rfl⟩ rfl hl.1 (Nat.le_of_ble_eq_true rfl) dX2_add_5 (fun v4 H locs σ cells slots h hI => ?_)
  refine W.eq (g2 := F0 m 10 ls [.int v4]) rfl ?_
  refine lv_pop hx hb dX2_add_10 rfl ?_
  refine lv_aload_n hx hb dX2_add_11 rfl (lv_at hl 1 rfl) ?_
  exact xr_areturn h hX hI (Or.inl ⟨_, rfl⟩) dX2_add_12
/-! PayMatch$Book.copy()LPayMatch$Book; 7 -/
theorem w_X2_copy_7_b18 {rec18 : Nat → Nat → xM Nat} {a1 : Nat} {a2 : Nat} {r : Nat} (hX : xX E R p m c cX2_copy 4 s args RX2 "copy" meth (some (.object "PayMatch$Book")) 9 329 σ0 σ9) (hrec18 : ∀ (a1 : Nat) (a2 : Nat) (σ : xS) (H : Heap) (locs : List Loc) (cells slots : Nat) (ls : Array Slot), (rec18 a1 a2).1 σ = some (r, σ9) → xI E σ0 σ s H locs cells slots → lv_has ls 4 [(1, .ref a1), (2, .ref a2)] → W p l e R s m args below meth c H locs cells slots (xMQ E below args s σ0 σ9 (some (.ref r))) (F0 m 18 ls []))
    (h : (f_X2_copy_7_b18 rec18 a1 a2).1 σ = some (r, σ9)) (hI : xI E σ0 σ s H locs cells slots) (hl : lv_has ls 4 [(1, .ref a1), (2, .ref a2)]) : W p l e R s m args below meth c H locs cells slots (xMQ E below args s σ0 σ9 (some (.ref r))) (F0 m 18 ls []) := by
  have hx := hX.1.1
  have hb := hX.1.2.1
  delta f_X2_copy_7_b18 at h
  refine lv_aload_n hx hb dX2_copy_18 rfl (lv_at hl 1 rfl) ?_
  refine xr_callF (iv := (fun b => some (.int b))) (As := []) (rest := []) h hX hI (fun _ _ h => w_J10_hasNext h) (fun _ _ h => o_J10_hasNext h) rfl 0 xfw_4 q439 q460 q462 q89 q464 xdi_4 ⟨rfl, rfl⟩ rfl hl.1 (Nat.le_of_ble_eq_true rfl) dX2_copy_19 (fun v8 H locs σ cells slots h hI => ?_)
  refine W.eq (g2 := F0 m 24 ls [.int v8]) rfl ?_
  refine lv_if_eq (tgt := 51) hx hb dX2_copy_24 (by decide) (fun hc => ?_) (fun hc => ?_)
  · have h := xif_t h hc
    refine lv_aload_n hx hb dX2_copy_51 rfl (lv_at hl 0 rfl) ?_
    exact xr_areturn h hX hI (Or.inl ⟨_, rfl⟩) dX2_copy_52
  · have h := xif_f h hc
    refine lv_aload_n hx hb dX2_copy_27 rfl (lv_at hl 1 rfl) ?_
    refine xr_callF (iv := (fun b => some (.ref b))) (As := []) (rest := []) h hX hI (fun _ _ h => w_J10_next h) (fun _ _ h => o_J10_next h) rfl 0 xfw_6 q475 q828 q830 q89 q832 xdi_6 ⟨rfl, rfl⟩ rfl hl.1 (Nat.le_of_ble_eq_true rfl) dX2_copy_28 (fun v9 H locs σ cells slots h hI => ?_)
    refine W.eq (g2 := F0 m 33 ls [.ref v9]) rfl ?_
    refine xr_cks h hX hI xc_X2_26 dX2_copy_33 (fun h => ?_)
    refine lv_astore_n (lv' := [(3, .ref v9), (1, .ref a1), (2, .ref a2)]) hx hb dX2_copy_36 rfl hl (Nat.le_of_ble_eq_true rfl) rfl (fun ls hl => ?_)
    refine lv_aload_n hx hb dX2_copy_37 rfl (lv_at hl 1 rfl) ?_
    refine lv_aload_n hx hb dX2_copy_38 rfl (lv_at hl 0 rfl) ?_
    refine xr_callF (iv := (fun b => some (.ref b))) (As := []) (rest := [.ref a1]) h hX hI (fun _ _ h => w_X7_copy h) (fun _ _ h => o_X7_copy h) rfl 0 xfw_11 q853 q1040 q1042 q108 q1044 xdi_11 ⟨rfl, rfl⟩ rfl hl.1 (Nat.le_of_ble_eq_true rfl) dX2_copy_39 (fun v10 H locs σ cells slots h hI => ?_)
    refine W.eq (g2 := F0 m 44 ls [.ref v10, .ref a1]) rfl ?_
    refine xr_callV (iv := (fun b => some (.ref b))) (As := [.ref v10]) (rest := []) h hX hI (fun _ _ h => w_X2_add h) (fun _ _ h => o_X2_add h) rfl 1 (lw_V q1096 q1097 q1098 q76 q1099) ⟨rfl, xd_X2_add⟩ ⟨rfl, rfl⟩ rfl hl.1 (Nat.le_of_ble_eq_true rfl) dX2_copy_44 (fun v11 H locs σ cells slots h hI => ?_)
    refine W.eq (g2 := F0 m 47 ls [.ref v11]) rfl ?_
    refine lv_pop hx hb dX2_copy_47 rfl ?_
    refine lv_goto (tgt := 18) hx hb dX2_copy_48 (by decide) ?_
    exact hrec18 a1 a2 _ _ _ _ _ _ h hI (lv_sub hl [1, 2] rfl)
theorem w_X2_copy_7_L18 {r : Nat} (hX : xX E R p m c cX2_copy 4 s args RX2 "copy" meth (some (.object "PayMatch$Book")) 9 329 σ0 σ9) : ∀ (n : Nat) (a1 : Nat) (a2 : Nat) (σ : xS) (H : Heap) (locs : List Loc) (cells slots : Nat) (ls : Array Slot), (f_X2_copy_7_L18 n a1 a2).1 σ = some (r, σ9) → xI E σ0 σ s H locs cells slots → lv_has ls 4 [(1, .ref a1), (2, .ref a2)] → W p l e R s m args below meth c H locs cells slots (xMQ E below args s σ0 σ9 (some (.ref r))) (F0 m 18 ls []) := by
  intro n
  induction n with
  | zero =>
    intro a1 a2 σ H locs cells slots ls h
    exact xr_no h
  | succ n ih =>
    intro a1 a2 σ H locs cells slots ls h hI hl
    exact w_X2_copy_7_b18 hX ih h hI hl
theorem o_X2_copy_7 {a0 : Nat} {r : Nat} {σ σ9 : xS} (h : (f_X2_copy_7 a0).1 σ = some (r, σ9)) : ∃ fs, σ.1 a0 = some (.inl (2, fs)) := xck_of h
theorem w_X2_copy_7 {E : xE} {l : Launch} {a0 : Nat} {r : Nat} {σ σ9 : xS} (h : (f_X2_copy_7 a0).1 σ = some (r, σ9)) : xMet E l yX2_copy (ws_ yX2_copy cX2_copy 4 (some (.object "PayMatch$Book"))) 9 329 [.ref a0] σ σ9 (some (.ref r)) := by
  refine xstart (by decide +kernel) ((f_X2_copy_7 a0).2 _ _ _ h) (Nat.le_of_ble_eq_true rfl) ?_
  intro p e s m args below meth c H locs cells slots ls R hX hI hl
  have hx := hX.1.1
  have hb := hX.1.2.1
  have hl : lv_has ls 4 [(0, .ref a0)] := hl
  generalize hσ0 : σ = σ0 at hX hI ⊢
  have h : (f_X2_copy_7 a0).1 σ0 = some (r, σ9) := by rw [← hσ0]; exact h
  clear hσ0
  delta f_X2_copy_7 at h
  have h := (xck_bd h).2
  refine xr_nw h hX hI xn_X2_11 dX2_copy_0 (fun v12 H σ cells slots h hI => ?_)
  refine lv_dup hx hb dX2_copy_3 rfl ?_
  refine xr_callI (As := []) (rest := [.ref v12]) h hX hI (fun _ _ h => w_X2_init h) 0 q334 q135 q76 q134 rfl xd_X2_init ⟨rfl, rfl⟩ rfl hl.1 (Nat.le_of_ble_eq_true rfl) dX2_copy_4 (fun _ H locs σ cells slots h hI => ?_)
  refine lv_astore_n (lv' := [(1, .ref v12), (0, .ref a0)]) hx hb dX2_copy_7 rfl hl (Nat.le_of_ble_eq_true rfl) rfl (fun ls hl => ?_)
  refine lv_aload_n hx hb dX2_copy_8 rfl (lv_at hl 1 rfl) ?_
  refine xr_gN h hX hI xl_X2_10_2.g dX2_copy_9 (fun v13 h => ?_)
  refine xr_callF (iv := (fun b => some (.ref b))) (As := []) (rest := []) h hX hI (fun _ _ h => w_J2_iterator h) (fun _ _ h => o_J2_iterator h) rfl 0 xfw_2 q336 q339 q341 q79 q343 xdi_2 ⟨rfl, rfl⟩ rfl hl.1 (Nat.le_of_ble_eq_true rfl) dX2_copy_12 (fun v14 H locs σ cells slots h hI => ?_)
  refine W.eq (g2 := F0 m 17 ls [.ref v14]) rfl ?_
  refine lv_astore_n (lv' := [(2, .ref v14), (1, .ref v12), (0, .ref a0)]) hx hb dX2_copy_17 rfl hl (Nat.le_of_ble_eq_true rfl) rfl (fun ls hl => ?_)
  exact w_X2_copy_7_L18 hX xFU v12 v14 _ _ _ _ _ _ h hI (lv_sub hl [1, 0] rfl)
/-! PayMatch$Order.<init>(II)V  -/
theorem w_X6_init {E : xE} {l : Launch} {a0 : Nat} {a1 : Int32} {a2 : Int32} {r : Unit} {σ σ9 : xS} (h : (f_X6_init a0 a1 a2).1 σ = some (r, σ9)) : xMet E l yX6_init (ws_ yX6_init cX6_init 3 none) 5 140 [.ref a0, .int a1, .int a2] σ σ9 none := by
  refine xstart (by decide +kernel) ((f_X6_init a0 a1 a2).2 _ _ _ h) (Nat.le_of_ble_eq_true rfl) ?_
  intro p e s m args below meth c H locs cells slots ls R hX hI hl
  have hx := hX.1.1
  have hb := hX.1.2.1
  have hl : lv_has ls 3 [(0, .ref a0), (1, .int a1), (2, .int a2)] := hl
  generalize hσ0 : σ = σ0 at hX hI ⊢
  have h : (f_X6_init a0 a1 a2).1 σ0 = some (r, σ9) := by rw [← hσ0]; exact h
  clear hσ0
  delta f_X6_init at h
  refine lv_aload_n hx hb dX6_init_0 rfl (lv_at hl 0 rfl) ?_
  refine xr_objI hX q1012 q123 q124 hl.1 ⟨rfl, rfl⟩ dX6_init_1 ?_
  refine lv_aload_n hx hb dX6_init_4 rfl (lv_at hl 0 rfl) ?_
  refine xr_nw h hX hI xn_X6_9 dX6_init_5 (fun v2 H σ cells slots h hI => ?_)
  refine lv_dup hx hb dX6_init_8 rfl ?_
  refine xr_callIN (As := []) (rest := [.ref v2, .ref a0]) h hX hI (fun _ _ h => w_X2_init h) 0 q1014 q135 q76 q134 rfl xd_X2_init ⟨rfl, rfl⟩ rfl hl.1 (Nat.le_of_ble_eq_true rfl) dX6_init_9 (fun _ H locs σ cells slots h hI => ?_)
  refine xr_pt h hX hI xl_X6_12_6 (Or.inl rfl) rfl rfl dX6_init_12 (fun H locs σ h hI => ?_)
  refine lv_aload_n hx hb dX6_init_15 rfl (lv_at hl 0 rfl) ?_
  refine lv_iconst (v := (0 : Int32)) hx hb dX6_init_16 (by decide) ?_
  refine xr_pt h hX hI xl_X6_18_6 (Or.inl rfl) rfl rfl dX6_init_17 (fun H locs σ h hI => ?_)
  refine lv_aload_n hx hb dX6_init_20 rfl (lv_at hl 0 rfl) ?_
  refine lv_iload_n hx hb dX6_init_21 rfl (lv_at hl 1 rfl) ?_
  refine xr_pt h hX hI xl_X6_22_6 (Or.inr rfl) rfl rfl dX6_init_22 (fun H locs σ h hI => ?_)
  refine lv_aload_n hx hb dX6_init_25 rfl (lv_at hl 0 rfl) ?_
  refine lv_iload_n hx hb dX6_init_26 rfl (lv_at hl 2 rfl) ?_
  refine xr_pt h hX hI xl_X6_25_6 (Or.inr rfl) rfl rfl dX6_init_27 (fun H locs σ h hI => ?_)
  exact xr_return h hX hI dX6_init_30
/-! PayMatch$Line.<init>(IIII)V  -/
theorem w_X5_init {E : xE} {l : Launch} {a0 : Nat} {a1 : Int32} {a2 : Int32} {a3 : Int32} {a4 : Int32} {r : Unit} {σ σ9 : xS} (h : (f_X5_init a0 a1 a2 a3 a4).1 σ = some (r, σ9)) : xMet E l yX5_init (ws_ yX5_init cX5_init 5 none) 1 60 [.ref a0, .int a1, .int a2, .int a3, .int a4] σ σ9 none := by
  refine xstart (by decide +kernel) ((f_X5_init a0 a1 a2 a3 a4).2 _ _ _ h) (Nat.le_of_ble_eq_true rfl) ?_
  intro p e s m args below meth c H locs cells slots ls R hX hI hl
  have hx := hX.1.1
  have hb := hX.1.2.1
  have hl : lv_has ls 5 [(0, .ref a0), (1, .int a1), (2, .int a2), (3, .int a3), (4, .int a4)] := hl
  generalize hσ0 : σ = σ0 at hX hI ⊢
  have h : (f_X5_init a0 a1 a2 a3 a4).1 σ0 = some (r, σ9) := by rw [← hσ0]; exact h
  clear hσ0
  delta f_X5_init at h
  refine lv_aload_n hx hb dX5_init_0 rfl (lv_at hl 0 rfl) ?_
  refine xr_objI hX q953 q123 q124 hl.1 ⟨rfl, rfl⟩ dX5_init_1 ?_
  refine lv_aload_n hx hb dX5_init_4 rfl (lv_at hl 0 rfl) ?_
  refine lv_iload_n hx hb dX5_init_5 rfl (lv_at hl 1 rfl) ?_
  refine xr_pt h hX hI xl_X5_7_5 (Or.inr rfl) rfl rfl dX5_init_6 (fun H locs σ h hI => ?_)
  refine lv_aload_n hx hb dX5_init_9 rfl (lv_at hl 0 rfl) ?_
  refine lv_iload_n hx hb dX5_init_10 rfl (lv_at hl 2 rfl) ?_
  refine xr_pt h hX hI xl_X5_13_5 (Or.inr rfl) rfl rfl dX5_init_11 (fun H locs σ h hI => ?_)
  refine lv_aload_n hx hb dX5_init_14 rfl (lv_at hl 0 rfl) ?_
  refine lv_iload_n hx hb dX5_init_15 rfl (lv_at hl 3 rfl) ?_
  refine xr_pt h hX hI xl_X5_16_5 (Or.inl rfl) rfl rfl dX5_init_16 (fun H locs σ h hI => ?_)
  refine lv_aload_n hx hb dX5_init_19 rfl (lv_at hl 0 rfl) ?_
  refine lv_iload hx hb dX5_init_20 (lv_at hl 4 rfl) ?_
  refine xr_pt h hX hI xl_X5_19_5 (Or.inl rfl) rfl rfl dX5_init_22 (fun H locs σ h hI => ?_)
  exact xr_return h hX hI dX5_init_25
/-! PayMatch$Line.copy()LPayMatch$Line;  -/
theorem o_X5_copy_2 {a0 : Nat} {r : Nat} {σ σ9 : xS} (h : (f_X5_copy_2 a0).1 σ = some (r, σ9)) : ∃ fs, σ.1 a0 = some (.inl (5, fs)) := xck_of h
theorem w_X5_copy_2 {E : xE} {l : Launch} {a0 : Nat} {r : Nat} {σ σ9 : xS} (h : (f_X5_copy_2 a0).1 σ = some (r, σ9)) : xMet E l yX5_copy_2 (ws_ yX5_copy_2 cX5_copy_2 2 (some (.object "PayMatch$Line"))) 2 84 [.ref a0] σ σ9 (some (.ref r)) := by
  refine xstart (by decide +kernel) ((f_X5_copy_2 a0).2 _ _ _ h) (Nat.le_of_ble_eq_true rfl) ?_
  intro p e s m args below meth c H locs cells slots ls R hX hI hl
  have hx := hX.1.1
  have hb := hX.1.2.1
  have hl : lv_has ls 2 [(0, .ref a0)] := hl
  generalize hσ0 : σ = σ0 at hX hI ⊢
  have h : (f_X5_copy_2 a0).1 σ0 = some (r, σ9) := by rw [← hσ0]; exact h
  clear hσ0
  delta f_X5_copy_2 at h
  have h := (xck_bd h).2
  refine xr_nw h hX hI xn_X5_8 dX5_copy_2_0 (fun v11 H σ cells slots h hI => ?_)
  refine lv_dup hx hb dX5_copy_2_3 rfl ?_
  refine lv_aload_n hx hb dX5_copy_2_4 rfl (lv_at hl 0 rfl) ?_
  refine xr_gI h hX hI xl_X5_7_5.g dX5_copy_2_5 (fun v12 h => ?_)
  refine lv_aload_n hx hb dX5_copy_2_8 rfl (lv_at hl 0 rfl) ?_
  refine xr_gI h hX hI xl_X5_13_5.g dX5_copy_2_9 (fun v13 h => ?_)
  refine lv_aload_n hx hb dX5_copy_2_12 rfl (lv_at hl 0 rfl) ?_
  refine xr_gI h hX hI xl_X5_16_5.g dX5_copy_2_13 (fun v14 h => ?_)
  refine lv_aload_n hx hb dX5_copy_2_16 rfl (lv_at hl 0 rfl) ?_
  refine xr_gI h hX hI xl_X5_19_5.g dX5_copy_2_17 (fun v15 h => ?_)
  refine xr_callI (As := [.int v12, .int v13, .int v14, .int v15]) (rest := [.ref v11]) h hX hI (fun _ _ h => w_X5_init h) 4 q950 q952 q106 q951 rfl xd_X5_init ⟨rfl, rfl⟩ rfl hl.1 (Nat.le_of_ble_eq_true rfl) dX5_copy_2_20 (fun _ H locs σ cells slots h hI => ?_)
  refine lv_astore_n (lv' := [(1, .ref v11), (0, .ref a0)]) hx hb dX5_copy_2_23 rfl hl (Nat.le_of_ble_eq_true rfl) rfl (fun ls hl => ?_)
  refine lv_aload_n hx hb dX5_copy_2_24 rfl (lv_at hl 0 rfl) ?_
  refine lv_aload_n hx hb dX5_copy_2_25 rfl (lv_at hl 1 rfl) ?_
  refine xr_gI h hX hI xl_X5_25_5.g dX5_copy_2_26 (fun v16 h => ?_)
  refine xr_pt h hX hI xl_X5_25_5 (Or.inl rfl) rfl rfl dX5_copy_2_29 (fun H locs σ h hI => ?_)
  refine lv_aload_n hx hb dX5_copy_2_32 rfl (lv_at hl 0 rfl) ?_
  refine lv_aload_n hx hb dX5_copy_2_33 rfl (lv_at hl 1 rfl) ?_
  refine xr_gI h hX hI xl_X5_28_5.g dX5_copy_2_34 (fun v17 h => ?_)
  refine xr_pt h hX hI xl_X5_28_5 (Or.inl rfl) rfl rfl dX5_copy_2_37 (fun H locs σ h hI => ?_)
  refine lv_aload_n hx hb dX5_copy_2_40 rfl (lv_at hl 0 rfl) ?_
  refine lv_aload_n hx hb dX5_copy_2_41 rfl (lv_at hl 1 rfl) ?_
  refine xr_gI h hX hI xl_X5_31_5.g dX5_copy_2_42 (fun v18 h => ?_)
  refine xr_pt h hX hI xl_X5_31_5 (Or.inl rfl) rfl rfl dX5_copy_2_45 (fun H locs σ h hI => ?_)
  refine lv_aload_n hx hb dX5_copy_2_48 rfl (lv_at hl 0 rfl) ?_
  refine lv_aload_n hx hb dX5_copy_2_49 rfl (lv_at hl 1 rfl) ?_
  refine xr_gI h hX hI xl_X5_34_5.g dX5_copy_2_50 (fun v19 h => ?_)
  refine xr_pt h hX hI xl_X5_34_5 (Or.inl rfl) rfl rfl dX5_copy_2_53 (fun H locs σ h hI => ?_)
  refine lv_aload_n hx hb dX5_copy_2_56 rfl (lv_at hl 0 rfl) ?_
  refine lv_aload_n hx hb dX5_copy_2_57 rfl (lv_at hl 1 rfl) ?_
  refine xr_gI h hX hI xl_X5_37_5.g dX5_copy_2_58 (fun v20 h => ?_)
  refine xr_pt h hX hI xl_X5_37_5 (Or.inl rfl) rfl rfl dX5_copy_2_61 (fun H locs σ h hI => ?_)
  refine lv_aload_n hx hb dX5_copy_2_64 rfl (lv_at hl 0 rfl) ?_
  exact xr_areturn h hX hI (Or.inl ⟨_, rfl⟩) dX5_copy_2_65
/-! PayMatch$Line.copy()LPayMatch$Paper;  -/
theorem o_X5_copy {a0 : Nat} {r : Nat} {σ σ9 : xS} (h : (f_X5_copy a0).1 σ = some (r, σ9)) : ∃ fs, σ.1 a0 = some (.inl (5, fs)) := xck_of h
theorem w_X5_copy {E : xE} {l : Launch} {a0 : Nat} {r : Nat} {σ σ9 : xS} (h : (f_X5_copy a0).1 σ = some (r, σ9)) : xMet E l yX5_copy (ws_ yX5_copy cX5_copy 1 (some (.object "PayMatch$Paper"))) 3 105 [.ref a0] σ σ9 (some (.ref r)) := by
  refine xstart (by decide +kernel) ((f_X5_copy a0).2 _ _ _ h) (Nat.le_of_ble_eq_true rfl) ?_
  intro p e s m args below meth c H locs cells slots ls R hX hI hl
  have hx := hX.1.1
  have hb := hX.1.2.1
  have hl : lv_has ls 1 [(0, .ref a0)] := hl
  generalize hσ0 : σ = σ0 at hX hI ⊢
  have h : (f_X5_copy a0).1 σ0 = some (r, σ9) := by rw [← hσ0]; exact h
  clear hσ0
  delta f_X5_copy at h
  have h := (xck_bd h).2
  refine lv_aload_n hx hb dX5_copy_0 rfl (lv_at hl 0 rfl) ?_
  refine xr_callV (iv := (fun b => some (.ref b))) (As := []) (rest := []) h hX hI (fun _ _ h => w_X5_copy_2 h) (fun _ _ h => o_X5_copy_2 h) rfl 0 (lw_V q944 q945 q946 q106 q947) ⟨rfl, xd_X5_copy_2⟩ ⟨rfl, rfl⟩ rfl hl.1 (Nat.le_of_ble_eq_true rfl) dX5_copy_1 (fun v2 H locs σ cells slots h hI => ?_)
  refine W.eq (g2 := F0 m 4 ls [.ref v2]) rfl ?_
  exact xr_areturn h hX hI (Or.inl ⟨_, rfl⟩) dX5_copy_4
/-! PayMatch$Book.copy()LPayMatch$Book; 5 -/
theorem w_X2_copy_5_b18 {rec18 : Nat → Nat → xM Nat} {a1 : Nat} {a2 : Nat} {r : Nat} (hX : xX E R p m c cX2_copy 4 s args RX2 "copy" meth (some (.object "PayMatch$Book")) 9 329 σ0 σ9) (hrec18 : ∀ (a1 : Nat) (a2 : Nat) (σ : xS) (H : Heap) (locs : List Loc) (cells slots : Nat) (ls : Array Slot), (rec18 a1 a2).1 σ = some (r, σ9) → xI E σ0 σ s H locs cells slots → lv_has ls 4 [(1, .ref a1), (2, .ref a2)] → W p l e R s m args below meth c H locs cells slots (xMQ E below args s σ0 σ9 (some (.ref r))) (F0 m 18 ls []))
    (h : (f_X2_copy_5_b18 rec18 a1 a2).1 σ = some (r, σ9)) (hI : xI E σ0 σ s H locs cells slots) (hl : lv_has ls 4 [(1, .ref a1), (2, .ref a2)]) : W p l e R s m args below meth c H locs cells slots (xMQ E below args s σ0 σ9 (some (.ref r))) (F0 m 18 ls []) := by
  have hx := hX.1.1
  have hb := hX.1.2.1
  delta f_X2_copy_5_b18 at h
  refine lv_aload_n hx hb dX2_copy_18 rfl (lv_at hl 1 rfl) ?_
  refine xr_callF (iv := (fun b => some (.int b))) (As := []) (rest := []) h hX hI (fun _ _ h => w_J10_hasNext h) (fun _ _ h => o_J10_hasNext h) rfl 0 xfw_4 q439 q460 q462 q89 q464 xdi_4 ⟨rfl, rfl⟩ rfl hl.1 (Nat.le_of_ble_eq_true rfl) dX2_copy_19 (fun v8 H locs σ cells slots h hI => ?_)
  refine W.eq (g2 := F0 m 24 ls [.int v8]) rfl ?_
  refine lv_if_eq (tgt := 51) hx hb dX2_copy_24 (by decide) (fun hc => ?_) (fun hc => ?_)
  · have h := xif_t h hc
    refine lv_aload_n hx hb dX2_copy_51 rfl (lv_at hl 0 rfl) ?_
    exact xr_areturn h hX hI (Or.inl ⟨_, rfl⟩) dX2_copy_52
  · have h := xif_f h hc
    refine lv_aload_n hx hb dX2_copy_27 rfl (lv_at hl 1 rfl) ?_
    refine xr_callF (iv := (fun b => some (.ref b))) (As := []) (rest := []) h hX hI (fun _ _ h => w_J10_next h) (fun _ _ h => o_J10_next h) rfl 0 xfw_6 q475 q828 q830 q89 q832 xdi_6 ⟨rfl, rfl⟩ rfl hl.1 (Nat.le_of_ble_eq_true rfl) dX2_copy_28 (fun v9 H locs σ cells slots h hI => ?_)
    refine W.eq (g2 := F0 m 33 ls [.ref v9]) rfl ?_
    refine xr_cks h hX hI xc_X2_26 dX2_copy_33 (fun h => ?_)
    refine lv_astore_n (lv' := [(3, .ref v9), (1, .ref a1), (2, .ref a2)]) hx hb dX2_copy_36 rfl hl (Nat.le_of_ble_eq_true rfl) rfl (fun ls hl => ?_)
    refine lv_aload_n hx hb dX2_copy_37 rfl (lv_at hl 1 rfl) ?_
    refine lv_aload_n hx hb dX2_copy_38 rfl (lv_at hl 0 rfl) ?_
    refine xr_callF (iv := (fun b => some (.ref b))) (As := []) (rest := [.ref a1]) h hX hI (fun _ _ h => w_X5_copy h) (fun _ _ h => o_X5_copy h) rfl 0 xfw_9 q853 q939 q941 q106 q943 xdi_9 ⟨rfl, rfl⟩ rfl hl.1 (Nat.le_of_ble_eq_true rfl) dX2_copy_39 (fun v10 H locs σ cells slots h hI => ?_)
    refine W.eq (g2 := F0 m 44 ls [.ref v10, .ref a1]) rfl ?_
    refine xr_callV (iv := (fun b => some (.ref b))) (As := [.ref v10]) (rest := []) h hX hI (fun _ _ h => w_X2_add h) (fun _ _ h => o_X2_add h) rfl 1 (lw_V q1096 q1097 q1098 q76 q1099) ⟨rfl, xd_X2_add⟩ ⟨rfl, rfl⟩ rfl hl.1 (Nat.le_of_ble_eq_true rfl) dX2_copy_44 (fun v11 H locs σ cells slots h hI => ?_)
    refine W.eq (g2 := F0 m 47 ls [.ref v11]) rfl ?_
    refine lv_pop hx hb dX2_copy_47 rfl ?_
    refine lv_goto (tgt := 18) hx hb dX2_copy_48 (by decide) ?_
    exact hrec18 a1 a2 _ _ _ _ _ _ h hI (lv_sub hl [1, 2] rfl)
theorem w_X2_copy_5_L18 {r : Nat} (hX : xX E R p m c cX2_copy 4 s args RX2 "copy" meth (some (.object "PayMatch$Book")) 9 329 σ0 σ9) : ∀ (n : Nat) (a1 : Nat) (a2 : Nat) (σ : xS) (H : Heap) (locs : List Loc) (cells slots : Nat) (ls : Array Slot), (f_X2_copy_5_L18 n a1 a2).1 σ = some (r, σ9) → xI E σ0 σ s H locs cells slots → lv_has ls 4 [(1, .ref a1), (2, .ref a2)] → W p l e R s m args below meth c H locs cells slots (xMQ E below args s σ0 σ9 (some (.ref r))) (F0 m 18 ls []) := by
  intro n
  induction n with
  | zero =>
    intro a1 a2 σ H locs cells slots ls h
    exact xr_no h
  | succ n ih =>
    intro a1 a2 σ H locs cells slots ls h hI hl
    exact w_X2_copy_5_b18 hX ih h hI hl
theorem o_X2_copy_5 {a0 : Nat} {r : Nat} {σ σ9 : xS} (h : (f_X2_copy_5 a0).1 σ = some (r, σ9)) : ∃ fs, σ.1 a0 = some (.inl (2, fs)) := xck_of h
theorem w_X2_copy_5 {E : xE} {l : Launch} {a0 : Nat} {r : Nat} {σ σ9 : xS} (h : (f_X2_copy_5 a0).1 σ = some (r, σ9)) : xMet E l yX2_copy (ws_ yX2_copy cX2_copy 4 (some (.object "PayMatch$Book"))) 9 329 [.ref a0] σ σ9 (some (.ref r)) := by
  refine xstart (by decide +kernel) ((f_X2_copy_5 a0).2 _ _ _ h) (Nat.le_of_ble_eq_true rfl) ?_
  intro p e s m args below meth c H locs cells slots ls R hX hI hl
  have hx := hX.1.1
  have hb := hX.1.2.1
  have hl : lv_has ls 4 [(0, .ref a0)] := hl
  generalize hσ0 : σ = σ0 at hX hI ⊢
  have h : (f_X2_copy_5 a0).1 σ0 = some (r, σ9) := by rw [← hσ0]; exact h
  clear hσ0
  delta f_X2_copy_5 at h
  have h := (xck_bd h).2
  refine xr_nw h hX hI xn_X2_11 dX2_copy_0 (fun v12 H σ cells slots h hI => ?_)
  refine lv_dup hx hb dX2_copy_3 rfl ?_
  refine xr_callI (As := []) (rest := [.ref v12]) h hX hI (fun _ _ h => w_X2_init h) 0 q334 q135 q76 q134 rfl xd_X2_init ⟨rfl, rfl⟩ rfl hl.1 (Nat.le_of_ble_eq_true rfl) dX2_copy_4 (fun _ H locs σ cells slots h hI => ?_)
  refine lv_astore_n (lv' := [(1, .ref v12), (0, .ref a0)]) hx hb dX2_copy_7 rfl hl (Nat.le_of_ble_eq_true rfl) rfl (fun ls hl => ?_)
  refine lv_aload_n hx hb dX2_copy_8 rfl (lv_at hl 1 rfl) ?_
  refine xr_gN h hX hI xl_X2_10_2.g dX2_copy_9 (fun v13 h => ?_)
  refine xr_callF (iv := (fun b => some (.ref b))) (As := []) (rest := []) h hX hI (fun _ _ h => w_J2_iterator h) (fun _ _ h => o_J2_iterator h) rfl 0 xfw_2 q336 q339 q341 q79 q343 xdi_2 ⟨rfl, rfl⟩ rfl hl.1 (Nat.le_of_ble_eq_true rfl) dX2_copy_12 (fun v14 H locs σ cells slots h hI => ?_)
  refine W.eq (g2 := F0 m 17 ls [.ref v14]) rfl ?_
  refine lv_astore_n (lv' := [(2, .ref v14), (1, .ref v12), (0, .ref a0)]) hx hb dX2_copy_17 rfl hl (Nat.le_of_ble_eq_true rfl) rfl (fun ls hl => ?_)
  exact w_X2_copy_5_L18 hX xFU v12 v14 _ _ _ _ _ _ h hI (lv_sub hl [1, 0] rfl)
/-! PayMatch$Order.copy()LPayMatch$Order;  -/
theorem o_X6_copy_2 {a0 : Nat} {r : Nat} {σ σ9 : xS} (h : (f_X6_copy_2 a0).1 σ = some (r, σ9)) : ∃ fs, σ.1 a0 = some (.inl (6, fs)) := xck_of h
theorem w_X6_copy_2 {E : xE} {l : Launch} {a0 : Nat} {r : Nat} {σ σ9 : xS} (h : (f_X6_copy_2 a0).1 σ = some (r, σ9)) : xMet E l yX6_copy_2 (ws_ yX6_copy_2 cX6_copy_2 2 (some (.object "PayMatch$Order"))) 10 352 [.ref a0] σ σ9 (some (.ref r)) := by
  refine xstart (by decide +kernel) ((f_X6_copy_2 a0).2 _ _ _ h) (Nat.le_of_ble_eq_true rfl) ?_
  intro p e s m args below meth c H locs cells slots ls R hX hI hl
  have hx := hX.1.1
  have hb := hX.1.2.1
  have hl : lv_has ls 2 [(0, .ref a0)] := hl
  generalize hσ0 : σ = σ0 at hX hI ⊢
  have h : (f_X6_copy_2 a0).1 σ0 = some (r, σ9) := by rw [← hσ0]; exact h
  clear hσ0
  delta f_X6_copy_2 at h
  have h := (xck_bd h).2
  refine xr_nw h hX hI xn_X6_13 dX6_copy_2_0 (fun v8 H σ cells slots h hI => ?_)
  refine lv_dup hx hb dX6_copy_2_3 rfl ?_
  refine lv_aload_n hx hb dX6_copy_2_4 rfl (lv_at hl 0 rfl) ?_
  refine xr_gI h hX hI xl_X6_22_6.g dX6_copy_2_5 (fun v9 h => ?_)
  refine lv_aload_n hx hb dX6_copy_2_8 rfl (lv_at hl 0 rfl) ?_
  refine xr_gI h hX hI xl_X6_25_6.g dX6_copy_2_9 (fun v10 h => ?_)
  refine xr_callI (As := [.int v9, .int v10]) (rest := [.ref v8]) h hX hI (fun _ _ h => w_X6_init h) 2 q1009 q1011 q107 q1010 rfl xd_X6_init ⟨rfl, rfl⟩ rfl hl.1 (Nat.le_of_ble_eq_true rfl) dX6_copy_2_12 (fun _ H locs σ cells slots h hI => ?_)
  refine lv_astore_n (lv' := [(1, .ref v8), (0, .ref a0)]) hx hb dX6_copy_2_15 rfl hl (Nat.le_of_ble_eq_true rfl) rfl (fun ls hl => ?_)
  refine lv_aload_n hx hb dX6_copy_2_16 rfl (lv_at hl 0 rfl) ?_
  refine lv_aload_n hx hb dX6_copy_2_17 rfl (lv_at hl 1 rfl) ?_
  refine xr_gN h hX hI xl_X6_12_6.g dX6_copy_2_18 (fun v11 h => ?_)
  refine xr_callV (iv := (fun b => some (.ref b))) (As := []) (rest := [.ref v8]) h hX hI (fun _ _ h => w_X2_copy_5 h) (fun _ _ h => o_X2_copy_5 h) rfl 0 (lw_V q1038 q330 q331 q76 q332) ⟨rfl, xd_X2_copy⟩ ⟨rfl, rfl⟩ rfl hl.1 (Nat.le_of_ble_eq_true rfl) dX6_copy_2_21 (fun v12 H locs σ cells slots h hI => ?_)
  refine W.eq (g2 := F0 m 24 ls [.ref v12, .ref v8]) rfl ?_
  refine xr_pt h hX hI xl_X6_12_6 (Or.inl rfl) rfl rfl dX6_copy_2_24 (fun H locs σ h hI => ?_)
  refine lv_aload_n hx hb dX6_copy_2_27 rfl (lv_at hl 0 rfl) ?_
  refine lv_aload_n hx hb dX6_copy_2_28 rfl (lv_at hl 1 rfl) ?_
  refine xr_gI h hX hI xl_X6_18_6.g dX6_copy_2_29 (fun v13 h => ?_)
  refine xr_pt h hX hI xl_X6_18_6 (Or.inl rfl) rfl rfl dX6_copy_2_32 (fun H locs σ h hI => ?_)
  refine lv_aload_n hx hb dX6_copy_2_35 rfl (lv_at hl 0 rfl) ?_
  refine lv_aload_n hx hb dX6_copy_2_36 rfl (lv_at hl 1 rfl) ?_
  refine xr_gI h hX hI xl_X6_35_6.g dX6_copy_2_37 (fun v14 h => ?_)
  refine xr_pt h hX hI xl_X6_35_6 (Or.inl rfl) rfl rfl dX6_copy_2_40 (fun H locs σ h hI => ?_)
  refine lv_aload_n hx hb dX6_copy_2_43 rfl (lv_at hl 0 rfl) ?_
  exact xr_areturn h hX hI (Or.inl ⟨_, rfl⟩) dX6_copy_2_44
/-! PayMatch$Order.copy()LPayMatch$Paper;  -/
theorem o_X6_copy {a0 : Nat} {r : Nat} {σ σ9 : xS} (h : (f_X6_copy a0).1 σ = some (r, σ9)) : ∃ fs, σ.1 a0 = some (.inl (6, fs)) := xck_of h
theorem w_X6_copy {E : xE} {l : Launch} {a0 : Nat} {r : Nat} {σ σ9 : xS} (h : (f_X6_copy a0).1 σ = some (r, σ9)) : xMet E l yX6_copy (ws_ yX6_copy cX6_copy 1 (some (.object "PayMatch$Paper"))) 11 373 [.ref a0] σ σ9 (some (.ref r)) := by
  refine xstart (by decide +kernel) ((f_X6_copy a0).2 _ _ _ h) (Nat.le_of_ble_eq_true rfl) ?_
  intro p e s m args below meth c H locs cells slots ls R hX hI hl
  have hx := hX.1.1
  have hb := hX.1.2.1
  have hl : lv_has ls 1 [(0, .ref a0)] := hl
  generalize hσ0 : σ = σ0 at hX hI ⊢
  have h : (f_X6_copy a0).1 σ0 = some (r, σ9) := by rw [← hσ0]; exact h
  clear hσ0
  delta f_X6_copy at h
  have h := (xck_bd h).2
  refine lv_aload_n hx hb dX6_copy_0 rfl (lv_at hl 0 rfl) ?_
  refine xr_callV (iv := (fun b => some (.ref b))) (As := []) (rest := []) h hX hI (fun _ _ h => w_X6_copy_2 h) (fun _ _ h => o_X6_copy_2 h) rfl 0 (lw_V q1003 q1004 q1005 q107 q1006) ⟨rfl, xd_X6_copy_2⟩ ⟨rfl, rfl⟩ rfl hl.1 (Nat.le_of_ble_eq_true rfl) dX6_copy_1 (fun v2 H locs σ cells slots h hI => ?_)
  refine W.eq (g2 := F0 m 4 ls [.ref v2]) rfl ?_
  exact xr_areturn h hX hI (Or.inl ⟨_, rfl⟩) dX6_copy_4
/-! PayMatch$Book.copy()LPayMatch$Book; 6 -/
theorem w_X2_copy_6_b18 {rec18 : Nat → Nat → xM Nat} {a1 : Nat} {a2 : Nat} {r : Nat} (hX : xX E R p m c cX2_copy 4 s args RX2 "copy" meth (some (.object "PayMatch$Book")) 12 393 σ0 σ9) (hrec18 : ∀ (a1 : Nat) (a2 : Nat) (σ : xS) (H : Heap) (locs : List Loc) (cells slots : Nat) (ls : Array Slot), (rec18 a1 a2).1 σ = some (r, σ9) → xI E σ0 σ s H locs cells slots → lv_has ls 4 [(1, .ref a1), (2, .ref a2)] → W p l e R s m args below meth c H locs cells slots (xMQ E below args s σ0 σ9 (some (.ref r))) (F0 m 18 ls []))
    (h : (f_X2_copy_6_b18 rec18 a1 a2).1 σ = some (r, σ9)) (hI : xI E σ0 σ s H locs cells slots) (hl : lv_has ls 4 [(1, .ref a1), (2, .ref a2)]) : W p l e R s m args below meth c H locs cells slots (xMQ E below args s σ0 σ9 (some (.ref r))) (F0 m 18 ls []) := by
  have hx := hX.1.1
  have hb := hX.1.2.1
  delta f_X2_copy_6_b18 at h
  refine lv_aload_n hx hb dX2_copy_18 rfl (lv_at hl 1 rfl) ?_
  refine xr_callF (iv := (fun b => some (.int b))) (As := []) (rest := []) h hX hI (fun _ _ h => w_J10_hasNext h) (fun _ _ h => o_J10_hasNext h) rfl 0 xfw_4 q439 q460 q462 q89 q464 xdi_4 ⟨rfl, rfl⟩ rfl hl.1 (Nat.le_of_ble_eq_true rfl) dX2_copy_19 (fun v8 H locs σ cells slots h hI => ?_)
  refine W.eq (g2 := F0 m 24 ls [.int v8]) rfl ?_
  refine lv_if_eq (tgt := 51) hx hb dX2_copy_24 (by decide) (fun hc => ?_) (fun hc => ?_)
  · have h := xif_t h hc
    refine lv_aload_n hx hb dX2_copy_51 rfl (lv_at hl 0 rfl) ?_
    exact xr_areturn h hX hI (Or.inl ⟨_, rfl⟩) dX2_copy_52
  · have h := xif_f h hc
    refine lv_aload_n hx hb dX2_copy_27 rfl (lv_at hl 1 rfl) ?_
    refine xr_callF (iv := (fun b => some (.ref b))) (As := []) (rest := []) h hX hI (fun _ _ h => w_J10_next h) (fun _ _ h => o_J10_next h) rfl 0 xfw_6 q475 q828 q830 q89 q832 xdi_6 ⟨rfl, rfl⟩ rfl hl.1 (Nat.le_of_ble_eq_true rfl) dX2_copy_28 (fun v9 H locs σ cells slots h hI => ?_)
    refine W.eq (g2 := F0 m 33 ls [.ref v9]) rfl ?_
    refine xr_cks h hX hI xc_X2_26 dX2_copy_33 (fun h => ?_)
    refine lv_astore_n (lv' := [(3, .ref v9), (1, .ref a1), (2, .ref a2)]) hx hb dX2_copy_36 rfl hl (Nat.le_of_ble_eq_true rfl) rfl (fun ls hl => ?_)
    refine lv_aload_n hx hb dX2_copy_37 rfl (lv_at hl 1 rfl) ?_
    refine lv_aload_n hx hb dX2_copy_38 rfl (lv_at hl 0 rfl) ?_
    refine xr_callF (iv := (fun b => some (.ref b))) (As := []) (rest := [.ref a1]) h hX hI (fun _ _ h => w_X6_copy h) (fun _ _ h => o_X6_copy h) rfl 0 xfw_10 q853 q998 q1000 q107 q1002 xdi_10 ⟨rfl, rfl⟩ rfl hl.1 (Nat.le_of_ble_eq_true rfl) dX2_copy_39 (fun v10 H locs σ cells slots h hI => ?_)
    refine W.eq (g2 := F0 m 44 ls [.ref v10, .ref a1]) rfl ?_
    refine xr_callV (iv := (fun b => some (.ref b))) (As := [.ref v10]) (rest := []) h hX hI (fun _ _ h => w_X2_add h) (fun _ _ h => o_X2_add h) rfl 1 (lw_V q1096 q1097 q1098 q76 q1099) ⟨rfl, xd_X2_add⟩ ⟨rfl, rfl⟩ rfl hl.1 (Nat.le_of_ble_eq_true rfl) dX2_copy_44 (fun v11 H locs σ cells slots h hI => ?_)
    refine W.eq (g2 := F0 m 47 ls [.ref v11]) rfl ?_
    refine lv_pop hx hb dX2_copy_47 rfl ?_
    refine lv_goto (tgt := 18) hx hb dX2_copy_48 (by decide) ?_
    exact hrec18 a1 a2 _ _ _ _ _ _ h hI (lv_sub hl [1, 2] rfl)
theorem w_X2_copy_6_L18 {r : Nat} (hX : xX E R p m c cX2_copy 4 s args RX2 "copy" meth (some (.object "PayMatch$Book")) 12 393 σ0 σ9) : ∀ (n : Nat) (a1 : Nat) (a2 : Nat) (σ : xS) (H : Heap) (locs : List Loc) (cells slots : Nat) (ls : Array Slot), (f_X2_copy_6_L18 n a1 a2).1 σ = some (r, σ9) → xI E σ0 σ s H locs cells slots → lv_has ls 4 [(1, .ref a1), (2, .ref a2)] → W p l e R s m args below meth c H locs cells slots (xMQ E below args s σ0 σ9 (some (.ref r))) (F0 m 18 ls []) := by
  intro n
  induction n with
  | zero =>
    intro a1 a2 σ H locs cells slots ls h
    exact xr_no h
  | succ n ih =>
    intro a1 a2 σ H locs cells slots ls h hI hl
    exact w_X2_copy_6_b18 hX ih h hI hl
theorem o_X2_copy_6 {a0 : Nat} {r : Nat} {σ σ9 : xS} (h : (f_X2_copy_6 a0).1 σ = some (r, σ9)) : ∃ fs, σ.1 a0 = some (.inl (2, fs)) := xck_of h
theorem w_X2_copy_6 {E : xE} {l : Launch} {a0 : Nat} {r : Nat} {σ σ9 : xS} (h : (f_X2_copy_6 a0).1 σ = some (r, σ9)) : xMet E l yX2_copy (ws_ yX2_copy cX2_copy 4 (some (.object "PayMatch$Book"))) 12 393 [.ref a0] σ σ9 (some (.ref r)) := by
  refine xstart (by decide +kernel) ((f_X2_copy_6 a0).2 _ _ _ h) (Nat.le_of_ble_eq_true rfl) ?_
  intro p e s m args below meth c H locs cells slots ls R hX hI hl
  have hx := hX.1.1
  have hb := hX.1.2.1
  have hl : lv_has ls 4 [(0, .ref a0)] := hl
  generalize hσ0 : σ = σ0 at hX hI ⊢
  have h : (f_X2_copy_6 a0).1 σ0 = some (r, σ9) := by rw [← hσ0]; exact h
  clear hσ0
  delta f_X2_copy_6 at h
  have h := (xck_bd h).2
  refine xr_nw h hX hI xn_X2_11 dX2_copy_0 (fun v12 H σ cells slots h hI => ?_)
  refine lv_dup hx hb dX2_copy_3 rfl ?_
  refine xr_callI (As := []) (rest := [.ref v12]) h hX hI (fun _ _ h => w_X2_init h) 0 q334 q135 q76 q134 rfl xd_X2_init ⟨rfl, rfl⟩ rfl hl.1 (Nat.le_of_ble_eq_true rfl) dX2_copy_4 (fun _ H locs σ cells slots h hI => ?_)
  refine lv_astore_n (lv' := [(1, .ref v12), (0, .ref a0)]) hx hb dX2_copy_7 rfl hl (Nat.le_of_ble_eq_true rfl) rfl (fun ls hl => ?_)
  refine lv_aload_n hx hb dX2_copy_8 rfl (lv_at hl 1 rfl) ?_
  refine xr_gN h hX hI xl_X2_10_2.g dX2_copy_9 (fun v13 h => ?_)
  refine xr_callF (iv := (fun b => some (.ref b))) (As := []) (rest := []) h hX hI (fun _ _ h => w_J2_iterator h) (fun _ _ h => o_J2_iterator h) rfl 0 xfw_2 q336 q339 q341 q79 q343 xdi_2 ⟨rfl, rfl⟩ rfl hl.1 (Nat.le_of_ble_eq_true rfl) dX2_copy_12 (fun v14 H locs σ cells slots h hI => ?_)
  refine W.eq (g2 := F0 m 17 ls [.ref v14]) rfl ?_
  refine lv_astore_n (lv' := [(2, .ref v14), (1, .ref v12), (0, .ref a0)]) hx hb dX2_copy_17 rfl hl (Nat.le_of_ble_eq_true rfl) rfl (fun ls hl => ?_)
  exact w_X2_copy_6_L18 hX xFU v12 v14 _ _ _ _ _ _ h hI (lv_sub hl [1, 0] rfl)
/-! PayMatch$Invoice.<init>(IIII[LPayMatch$Entry;)V  -/
theorem w_X4_init {E : xE} {l : Launch} {a0 : Nat} {a1 : Int32} {a2 : Int32} {a3 : Int32} {a4 : Int32} {a5 : Nat} {r : Unit} {σ σ9 : xS} (h : (f_X4_init a0 a1 a2 a3 a4 a5).1 σ = some (r, σ9)) : xMet E l yX4_init (ws_ yX4_init cX4_init 6 none) 1 60 [.ref a0, .int a1, .int a2, .int a3, .int a4, .ref a5] σ σ9 none := by
  refine xstart (by decide +kernel) ((f_X4_init a0 a1 a2 a3 a4 a5).2 _ _ _ h) (Nat.le_of_ble_eq_true rfl) ?_
  intro p e s m args below meth c H locs cells slots ls R hX hI hl
  have hx := hX.1.1
  have hb := hX.1.2.1
  have hl : lv_has ls 6 [(0, .ref a0), (1, .int a1), (2, .int a2), (3, .int a3), (4, .int a4), (5, .ref a5)] := hl
  generalize hσ0 : σ = σ0 at hX hI ⊢
  have h : (f_X4_init a0 a1 a2 a3 a4 a5).1 σ0 = some (r, σ9) := by rw [← hσ0]; exact h
  clear hσ0
  delta f_X4_init at h
  refine lv_aload_n hx hb dX4_init_0 rfl (lv_at hl 0 rfl) ?_
  refine xr_objI hX q874 q123 q124 hl.1 ⟨rfl, rfl⟩ dX4_init_1 ?_
  refine lv_aload_n hx hb dX4_init_4 rfl (lv_at hl 0 rfl) ?_
  refine lv_iconst (v := (0 : Int32)) hx hb dX4_init_5 (by decide) ?_
  refine xr_pt h hX hI xl_X4_9_4 (Or.inl rfl) rfl rfl dX4_init_6 (fun H locs σ h hI => ?_)
  refine lv_aload_n hx hb dX4_init_9 rfl (lv_at hl 0 rfl) ?_
  refine lv_bipush (v := (-5 : Int32)) hx hb dX4_init_10 (by decide) ?_
  refine xr_pt h hX hI xl_X4_15_4 (Or.inl rfl) rfl rfl dX4_init_12 (fun H locs σ h hI => ?_)
  refine lv_aload_n hx hb dX4_init_15 rfl (lv_at hl 0 rfl) ?_
  refine lv_bipush (v := (-5 : Int32)) hx hb dX4_init_16 (by decide) ?_
  refine xr_pt h hX hI xl_X4_18_4 (Or.inl rfl) rfl rfl dX4_init_18 (fun H locs σ h hI => ?_)
  refine lv_aload_n hx hb dX4_init_21 rfl (lv_at hl 0 rfl) ?_
  refine lv_bipush (v := (-5 : Int32)) hx hb dX4_init_22 (by decide) ?_
  refine xr_pt h hX hI xl_X4_21_4 (Or.inl rfl) rfl rfl dX4_init_24 (fun H locs σ h hI => ?_)
  refine lv_aload_n hx hb dX4_init_27 rfl (lv_at hl 0 rfl) ?_
  refine lv_bipush (v := (-5 : Int32)) hx hb dX4_init_28 (by decide) ?_
  refine xr_pt h hX hI xl_X4_24_4 (Or.inl rfl) rfl rfl dX4_init_30 (fun H locs σ h hI => ?_)
  refine lv_aload_n hx hb dX4_init_33 rfl (lv_at hl 0 rfl) ?_
  refine lv_iload_n hx hb dX4_init_34 rfl (lv_at hl 1 rfl) ?_
  refine xr_pt h hX hI xl_X4_27_4 (Or.inr rfl) rfl rfl dX4_init_35 (fun H locs σ h hI => ?_)
  refine lv_aload_n hx hb dX4_init_38 rfl (lv_at hl 0 rfl) ?_
  refine lv_iload_n hx hb dX4_init_39 rfl (lv_at hl 2 rfl) ?_
  refine xr_pt h hX hI xl_X4_30_4 (Or.inr rfl) rfl rfl dX4_init_40 (fun H locs σ h hI => ?_)
  refine lv_aload_n hx hb dX4_init_43 rfl (lv_at hl 0 rfl) ?_
  refine lv_iload_n hx hb dX4_init_44 rfl (lv_at hl 3 rfl) ?_
  refine xr_pt h hX hI xl_X4_33_4 (Or.inr rfl) rfl rfl dX4_init_45 (fun H locs σ h hI => ?_)
  refine lv_aload_n hx hb dX4_init_48 rfl (lv_at hl 0 rfl) ?_
  refine lv_iload hx hb dX4_init_49 (lv_at hl 4 rfl) ?_
  refine xr_pt h hX hI xl_X4_36_4 (Or.inr rfl) rfl rfl dX4_init_51 (fun H locs σ h hI => ?_)
  refine lv_aload_n hx hb dX4_init_54 rfl (lv_at hl 0 rfl) ?_
  refine lv_aload hx hb dX4_init_55 (lv_at hl 5 rfl) ?_
  refine xr_pt h hX hI xl_X4_39_4 (Or.inl rfl) rfl rfl dX4_init_57 (fun H locs σ h hI => ?_)
  exact xr_return h hX hI dX4_init_60
/-! PayMatch$Invoice.copy()LPayMatch$Invoice;  -/
theorem o_X4_copy_2 {a0 : Nat} {r : Nat} {σ σ9 : xS} (h : (f_X4_copy_2 a0).1 σ = some (r, σ9)) : ∃ fs, σ.1 a0 = some (.inl (4, fs)) := xck_of h
theorem w_X4_copy_2 {E : xE} {l : Launch} {a0 : Nat} {r : Nat} {σ σ9 : xS} (h : (f_X4_copy_2 a0).1 σ = some (r, σ9)) : xMet E l yX4_copy_2 (ws_ yX4_copy_2 cX4_copy_2 3 (some (.object "PayMatch$Invoice"))) 2 85 [.ref a0] σ σ9 (some (.ref r)) := by
  refine xstart (by decide +kernel) ((f_X4_copy_2 a0).2 _ _ _ h) (Nat.le_of_ble_eq_true rfl) ?_
  intro p e s m args below meth c H locs cells slots ls R hX hI hl
  have hx := hX.1.1
  have hb := hX.1.2.1
  have hl : lv_has ls 3 [(0, .ref a0)] := hl
  generalize hσ0 : σ = σ0 at hX hI ⊢
  have h : (f_X4_copy_2 a0).1 σ0 = some (r, σ9) := by rw [← hσ0]; exact h
  clear hσ0
  delta f_X4_copy_2 at h
  have h := (xck_bd h).2
  refine lv_aload_n hx hb dX4_copy_2_0 rfl (lv_at hl 0 rfl) ?_
  refine xr_gN h hX hI xl_X4_39_4.g dX4_copy_2_1 (fun v19 h => ?_)
  refine xr_ln h hX hI dX4_copy_2_4 (fun v20 h => ?_)
  refine xr_nq h hX hI q866 (by decide) dX4_copy_2_5 (fun v21 H σ cells slots h hI => ?_)
  refine lv_astore_n (lv' := [(1, .ref v21), (0, .ref a0)]) hx hb dX4_copy_2_8 rfl hl (Nat.le_of_ble_eq_true rfl) rfl (fun ls hl => ?_)
  refine lv_aload_n hx hb dX4_copy_2_9 rfl (lv_at hl 1 rfl) ?_
  refine xr_gN h hX hI xl_X4_39_4.g dX4_copy_2_10 (fun v22 h => ?_)
  refine lv_iconst (v := (0 : Int32)) hx hb dX4_copy_2_13 (by decide) ?_
  refine lv_aload_n hx hb dX4_copy_2_14 rfl (lv_at hl 0 rfl) ?_
  refine lv_iconst (v := (0 : Int32)) hx hb dX4_copy_2_15 (by decide) ?_
  refine lv_aload_n hx hb dX4_copy_2_16 rfl (lv_at hl 0 rfl) ?_
  refine xr_ln h hX hI dX4_copy_2_17 (fun v23 h => ?_)
  refine xr_cpy h hX hI (by decide) q868 q668 q667 q103 hl.1 ⟨rfl, rfl⟩ dX4_copy_2_18 (fun H locs σ h hI => ?_)
  refine xr_nw h hX hI xn_X4_10 dX4_copy_2_21 (fun v24 H σ cells slots h hI => ?_)
  refine lv_dup hx hb dX4_copy_2_24 rfl ?_
  refine lv_aload_n hx hb dX4_copy_2_25 rfl (lv_at hl 1 rfl) ?_
  refine xr_gI h hX hI xl_X4_27_4.g dX4_copy_2_26 (fun v25 h => ?_)
  refine lv_aload_n hx hb dX4_copy_2_29 rfl (lv_at hl 1 rfl) ?_
  refine xr_gI h hX hI xl_X4_30_4.g dX4_copy_2_30 (fun v26 h => ?_)
  refine lv_aload_n hx hb dX4_copy_2_33 rfl (lv_at hl 1 rfl) ?_
  refine xr_gI h hX hI xl_X4_33_4.g dX4_copy_2_34 (fun v27 h => ?_)
  refine lv_aload_n hx hb dX4_copy_2_37 rfl (lv_at hl 1 rfl) ?_
  refine xr_gI h hX hI xl_X4_36_4.g dX4_copy_2_38 (fun v28 h => ?_)
  refine lv_aload_n hx hb dX4_copy_2_41 rfl (lv_at hl 0 rfl) ?_
  refine xr_callI (As := [.int v25, .int v26, .int v27, .int v28, .ref v21]) (rest := [.ref v24]) h hX hI (fun _ _ h => w_X4_init h) 5 q871 q873 q105 q872 rfl xd_X4_init ⟨rfl, rfl⟩ rfl hl.1 (Nat.le_of_ble_eq_true rfl) dX4_copy_2_42 (fun _ H locs σ cells slots h hI => ?_)
  refine lv_astore_n (lv' := [(2, .ref v24), (1, .ref v21), (0, .ref a0)]) hx hb dX4_copy_2_45 rfl hl (Nat.le_of_ble_eq_true rfl) rfl (fun ls hl => ?_)
  refine lv_aload_n hx hb dX4_copy_2_46 rfl (lv_at hl 0 rfl) ?_
  refine lv_aload_n hx hb dX4_copy_2_47 rfl (lv_at hl 2 rfl) ?_
  refine xr_gI h hX hI xl_X4_9_4.g dX4_copy_2_48 (fun v29 h => ?_)
  refine xr_pt h hX hI xl_X4_9_4 (Or.inl rfl) rfl rfl dX4_copy_2_51 (fun H locs σ h hI => ?_)
  refine lv_aload_n hx hb dX4_copy_2_54 rfl (lv_at hl 0 rfl) ?_
  refine lv_aload_n hx hb dX4_copy_2_55 rfl (lv_at hl 2 rfl) ?_
  refine xr_gI h hX hI xl_X4_54_4.g dX4_copy_2_56 (fun v30 h => ?_)
  refine xr_pt h hX hI xl_X4_54_4 (Or.inl rfl) rfl rfl dX4_copy_2_59 (fun H locs σ h hI => ?_)
  refine lv_aload_n hx hb dX4_copy_2_62 rfl (lv_at hl 0 rfl) ?_
  refine lv_aload_n hx hb dX4_copy_2_63 rfl (lv_at hl 2 rfl) ?_
  refine xr_gI h hX hI xl_X4_15_4.g dX4_copy_2_64 (fun v31 h => ?_)
  refine xr_pt h hX hI xl_X4_15_4 (Or.inl rfl) rfl rfl dX4_copy_2_67 (fun H locs σ h hI => ?_)
  refine lv_aload_n hx hb dX4_copy_2_70 rfl (lv_at hl 0 rfl) ?_
  refine lv_aload_n hx hb dX4_copy_2_71 rfl (lv_at hl 2 rfl) ?_
  refine xr_gI h hX hI xl_X4_18_4.g dX4_copy_2_72 (fun v32 h => ?_)
  refine xr_pt h hX hI xl_X4_18_4 (Or.inl rfl) rfl rfl dX4_copy_2_75 (fun H locs σ h hI => ?_)
  refine lv_aload_n hx hb dX4_copy_2_78 rfl (lv_at hl 0 rfl) ?_
  refine lv_aload_n hx hb dX4_copy_2_79 rfl (lv_at hl 2 rfl) ?_
  refine xr_gI h hX hI xl_X4_21_4.g dX4_copy_2_80 (fun v33 h => ?_)
  refine xr_pt h hX hI xl_X4_21_4 (Or.inl rfl) rfl rfl dX4_copy_2_83 (fun H locs σ h hI => ?_)
  refine lv_aload_n hx hb dX4_copy_2_86 rfl (lv_at hl 0 rfl) ?_
  refine lv_aload_n hx hb dX4_copy_2_87 rfl (lv_at hl 2 rfl) ?_
  refine xr_gI h hX hI xl_X4_24_4.g dX4_copy_2_88 (fun v34 h => ?_)
  refine xr_pt h hX hI xl_X4_24_4 (Or.inl rfl) rfl rfl dX4_copy_2_91 (fun H locs σ h hI => ?_)
  refine lv_aload_n hx hb dX4_copy_2_94 rfl (lv_at hl 0 rfl) ?_
  refine lv_aload_n hx hb dX4_copy_2_95 rfl (lv_at hl 2 rfl) ?_
  refine xr_gI h hX hI xl_X4_57_4.g dX4_copy_2_96 (fun v35 h => ?_)
  refine xr_ptZ h hX hI xl_X4_57_4 (Or.inl rfl) dX4_copy_2_99 (fun H locs σ h hI => ?_)
  refine lv_aload_n hx hb dX4_copy_2_102 rfl (lv_at hl 0 rfl) ?_
  refine lv_aload_n hx hb dX4_copy_2_103 rfl (lv_at hl 2 rfl) ?_
  refine xr_gI h hX hI xl_X4_61_4.g dX4_copy_2_104 (fun v36 h => ?_)
  refine xr_ptZ h hX hI xl_X4_61_4 (Or.inl rfl) dX4_copy_2_107 (fun H locs σ h hI => ?_)
  refine lv_aload_n hx hb dX4_copy_2_110 rfl (lv_at hl 0 rfl) ?_
  exact xr_areturn h hX hI (Or.inl ⟨_, rfl⟩) dX4_copy_2_111
/-! PayMatch$Invoice.copy()LPayMatch$Paper;  -/
theorem o_X4_copy {a0 : Nat} {r : Nat} {σ σ9 : xS} (h : (f_X4_copy a0).1 σ = some (r, σ9)) : ∃ fs, σ.1 a0 = some (.inl (4, fs)) := xck_of h
theorem w_X4_copy {E : xE} {l : Launch} {a0 : Nat} {r : Nat} {σ σ9 : xS} (h : (f_X4_copy a0).1 σ = some (r, σ9)) : xMet E l yX4_copy (ws_ yX4_copy cX4_copy 1 (some (.object "PayMatch$Paper"))) 3 107 [.ref a0] σ σ9 (some (.ref r)) := by
  refine xstart (by decide +kernel) ((f_X4_copy a0).2 _ _ _ h) (Nat.le_of_ble_eq_true rfl) ?_
  intro p e s m args below meth c H locs cells slots ls R hX hI hl
  have hx := hX.1.1
  have hb := hX.1.2.1
  have hl : lv_has ls 1 [(0, .ref a0)] := hl
  generalize hσ0 : σ = σ0 at hX hI ⊢
  have h : (f_X4_copy a0).1 σ0 = some (r, σ9) := by rw [← hσ0]; exact h
  clear hσ0
  delta f_X4_copy at h
  have h := (xck_bd h).2
  refine lv_aload_n hx hb dX4_copy_0 rfl (lv_at hl 0 rfl) ?_
  refine xr_callV (iv := (fun b => some (.ref b))) (As := []) (rest := []) h hX hI (fun _ _ h => w_X4_copy_2 h) (fun _ _ h => o_X4_copy_2 h) rfl 0 (lw_V q862 q863 q864 q105 q865) ⟨rfl, xd_X4_copy_2⟩ ⟨rfl, rfl⟩ rfl hl.1 (Nat.le_of_ble_eq_true rfl) dX4_copy_1 (fun v2 H locs σ cells slots h hI => ?_)
  refine W.eq (g2 := F0 m 4 ls [.ref v2]) rfl ?_
  exact xr_areturn h hX hI (Or.inl ⟨_, rfl⟩) dX4_copy_4
/-! PayMatch$Book.copy()LPayMatch$Book; 4 -/
theorem w_X2_copy_4_b18 {rec18 : Nat → Nat → xM Nat} {a1 : Nat} {a2 : Nat} {r : Nat} (hX : xX E R p m c cX2_copy 4 s args RX2 "copy" meth (some (.object "PayMatch$Book")) 9 329 σ0 σ9) (hrec18 : ∀ (a1 : Nat) (a2 : Nat) (σ : xS) (H : Heap) (locs : List Loc) (cells slots : Nat) (ls : Array Slot), (rec18 a1 a2).1 σ = some (r, σ9) → xI E σ0 σ s H locs cells slots → lv_has ls 4 [(1, .ref a1), (2, .ref a2)] → W p l e R s m args below meth c H locs cells slots (xMQ E below args s σ0 σ9 (some (.ref r))) (F0 m 18 ls []))
    (h : (f_X2_copy_4_b18 rec18 a1 a2).1 σ = some (r, σ9)) (hI : xI E σ0 σ s H locs cells slots) (hl : lv_has ls 4 [(1, .ref a1), (2, .ref a2)]) : W p l e R s m args below meth c H locs cells slots (xMQ E below args s σ0 σ9 (some (.ref r))) (F0 m 18 ls []) := by
  have hx := hX.1.1
  have hb := hX.1.2.1
  delta f_X2_copy_4_b18 at h
  refine lv_aload_n hx hb dX2_copy_18 rfl (lv_at hl 1 rfl) ?_
  refine xr_callF (iv := (fun b => some (.int b))) (As := []) (rest := []) h hX hI (fun _ _ h => w_J10_hasNext h) (fun _ _ h => o_J10_hasNext h) rfl 0 xfw_4 q439 q460 q462 q89 q464 xdi_4 ⟨rfl, rfl⟩ rfl hl.1 (Nat.le_of_ble_eq_true rfl) dX2_copy_19 (fun v8 H locs σ cells slots h hI => ?_)
  refine W.eq (g2 := F0 m 24 ls [.int v8]) rfl ?_
  refine lv_if_eq (tgt := 51) hx hb dX2_copy_24 (by decide) (fun hc => ?_) (fun hc => ?_)
  · have h := xif_t h hc
    refine lv_aload_n hx hb dX2_copy_51 rfl (lv_at hl 0 rfl) ?_
    exact xr_areturn h hX hI (Or.inl ⟨_, rfl⟩) dX2_copy_52
  · have h := xif_f h hc
    refine lv_aload_n hx hb dX2_copy_27 rfl (lv_at hl 1 rfl) ?_
    refine xr_callF (iv := (fun b => some (.ref b))) (As := []) (rest := []) h hX hI (fun _ _ h => w_J10_next h) (fun _ _ h => o_J10_next h) rfl 0 xfw_6 q475 q828 q830 q89 q832 xdi_6 ⟨rfl, rfl⟩ rfl hl.1 (Nat.le_of_ble_eq_true rfl) dX2_copy_28 (fun v9 H locs σ cells slots h hI => ?_)
    refine W.eq (g2 := F0 m 33 ls [.ref v9]) rfl ?_
    refine xr_cks h hX hI xc_X2_26 dX2_copy_33 (fun h => ?_)
    refine lv_astore_n (lv' := [(3, .ref v9), (1, .ref a1), (2, .ref a2)]) hx hb dX2_copy_36 rfl hl (Nat.le_of_ble_eq_true rfl) rfl (fun ls hl => ?_)
    refine lv_aload_n hx hb dX2_copy_37 rfl (lv_at hl 1 rfl) ?_
    refine lv_aload_n hx hb dX2_copy_38 rfl (lv_at hl 0 rfl) ?_
    refine xr_callF (iv := (fun b => some (.ref b))) (As := []) (rest := [.ref a1]) h hX hI (fun _ _ h => w_X4_copy h) (fun _ _ h => o_X4_copy h) rfl 0 xfw_8 q853 q857 q859 q105 q861 xdi_8 ⟨rfl, rfl⟩ rfl hl.1 (Nat.le_of_ble_eq_true rfl) dX2_copy_39 (fun v10 H locs σ cells slots h hI => ?_)
    refine W.eq (g2 := F0 m 44 ls [.ref v10, .ref a1]) rfl ?_
    refine xr_callV (iv := (fun b => some (.ref b))) (As := [.ref v10]) (rest := []) h hX hI (fun _ _ h => w_X2_add h) (fun _ _ h => o_X2_add h) rfl 1 (lw_V q1096 q1097 q1098 q76 q1099) ⟨rfl, xd_X2_add⟩ ⟨rfl, rfl⟩ rfl hl.1 (Nat.le_of_ble_eq_true rfl) dX2_copy_44 (fun v11 H locs σ cells slots h hI => ?_)
    refine W.eq (g2 := F0 m 47 ls [.ref v11]) rfl ?_
    refine lv_pop hx hb dX2_copy_47 rfl ?_
    refine lv_goto (tgt := 18) hx hb dX2_copy_48 (by decide) ?_
    exact hrec18 a1 a2 _ _ _ _ _ _ h hI (lv_sub hl [1, 2] rfl)
theorem w_X2_copy_4_L18 {r : Nat} (hX : xX E R p m c cX2_copy 4 s args RX2 "copy" meth (some (.object "PayMatch$Book")) 9 329 σ0 σ9) : ∀ (n : Nat) (a1 : Nat) (a2 : Nat) (σ : xS) (H : Heap) (locs : List Loc) (cells slots : Nat) (ls : Array Slot), (f_X2_copy_4_L18 n a1 a2).1 σ = some (r, σ9) → xI E σ0 σ s H locs cells slots → lv_has ls 4 [(1, .ref a1), (2, .ref a2)] → W p l e R s m args below meth c H locs cells slots (xMQ E below args s σ0 σ9 (some (.ref r))) (F0 m 18 ls []) := by
  intro n
  induction n with
  | zero =>
    intro a1 a2 σ H locs cells slots ls h
    exact xr_no h
  | succ n ih =>
    intro a1 a2 σ H locs cells slots ls h hI hl
    exact w_X2_copy_4_b18 hX ih h hI hl
theorem o_X2_copy_4 {a0 : Nat} {r : Nat} {σ σ9 : xS} (h : (f_X2_copy_4 a0).1 σ = some (r, σ9)) : ∃ fs, σ.1 a0 = some (.inl (2, fs)) := xck_of h
theorem w_X2_copy_4 {E : xE} {l : Launch} {a0 : Nat} {r : Nat} {σ σ9 : xS} (h : (f_X2_copy_4 a0).1 σ = some (r, σ9)) : xMet E l yX2_copy (ws_ yX2_copy cX2_copy 4 (some (.object "PayMatch$Book"))) 9 329 [.ref a0] σ σ9 (some (.ref r)) := by
  refine xstart (by decide +kernel) ((f_X2_copy_4 a0).2 _ _ _ h) (Nat.le_of_ble_eq_true rfl) ?_
  intro p e s m args below meth c H locs cells slots ls R hX hI hl
  have hx := hX.1.1
  have hb := hX.1.2.1
  have hl : lv_has ls 4 [(0, .ref a0)] := hl
  generalize hσ0 : σ = σ0 at hX hI ⊢
  have h : (f_X2_copy_4 a0).1 σ0 = some (r, σ9) := by rw [← hσ0]; exact h
  clear hσ0
  delta f_X2_copy_4 at h
  have h := (xck_bd h).2
  refine xr_nw h hX hI xn_X2_11 dX2_copy_0 (fun v12 H σ cells slots h hI => ?_)
  refine lv_dup hx hb dX2_copy_3 rfl ?_
  refine xr_callI (As := []) (rest := [.ref v12]) h hX hI (fun _ _ h => w_X2_init h) 0 q334 q135 q76 q134 rfl xd_X2_init ⟨rfl, rfl⟩ rfl hl.1 (Nat.le_of_ble_eq_true rfl) dX2_copy_4 (fun _ H locs σ cells slots h hI => ?_)
  refine lv_astore_n (lv' := [(1, .ref v12), (0, .ref a0)]) hx hb dX2_copy_7 rfl hl (Nat.le_of_ble_eq_true rfl) rfl (fun ls hl => ?_)
  refine lv_aload_n hx hb dX2_copy_8 rfl (lv_at hl 1 rfl) ?_
  refine xr_gN h hX hI xl_X2_10_2.g dX2_copy_9 (fun v13 h => ?_)
  refine xr_callF (iv := (fun b => some (.ref b))) (As := []) (rest := []) h hX hI (fun _ _ h => w_J2_iterator h) (fun _ _ h => o_J2_iterator h) rfl 0 xfw_2 q336 q339 q341 q79 q343 xdi_2 ⟨rfl, rfl⟩ rfl hl.1 (Nat.le_of_ble_eq_true rfl) dX2_copy_12 (fun v14 H locs σ cells slots h hI => ?_)
  refine W.eq (g2 := F0 m 17 ls [.ref v14]) rfl ?_
  refine lv_astore_n (lv' := [(2, .ref v14), (1, .ref v12), (0, .ref a0)]) hx hb dX2_copy_17 rfl hl (Nat.le_of_ble_eq_true rfl) rfl (fun ls hl => ?_)
  exact w_X2_copy_4_L18 hX xFU v12 v14 _ _ _ _ _ _ h hI (lv_sub hl [1, 0] rfl)
/-! java/util/LinkedList.isPositionIndex(I)Z  -/
theorem o_J4_isPositionIndex {a0 : Nat} {a1 : Int32} {r : Int32} {σ σ9 : xS} (h : (f_J4_isPositionIndex a0 a1).1 σ = some (r, σ9)) : ∃ fs, σ.1 a0 = some (.inl (13, fs)) := xck_of h
theorem w_J4_isPositionIndex {E : xE} {l : Launch} {a0 : Nat} {a1 : Int32} {r : Int32} {σ σ9 : xS} (h : (f_J4_isPositionIndex a0 a1).1 σ = some (r, σ9)) : xMet E l yJ4_isPositionIndex (ws_ yJ4_isPositionIndex cJ4_isPositionIndex 2 (some .boolean)) 0 0 [.ref a0, .int a1] σ σ9 (some (.int r)) := by
  refine xstart (by decide +kernel) ((f_J4_isPositionIndex a0 a1).2 _ _ _ h) (Nat.le_of_ble_eq_true rfl) ?_
  intro p e s m args below meth c H locs cells slots ls R hX hI hl
  have hx := hX.1.1
  have hb := hX.1.2.1
  have hl : lv_has ls 2 [(0, .ref a0), (1, .int a1)] := hl
  generalize hσ0 : σ = σ0 at hX hI ⊢
  have h : (f_J4_isPositionIndex a0 a1).1 σ0 = some (r, σ9) := by rw [← hσ0]; exact h
  clear hσ0
  delta f_J4_isPositionIndex at h
  have h := (xck_bd h).2
  refine lv_iload_n hx hb dJ4_isPositionIndex_0 rfl (lv_at hl 1 rfl) ?_
  refine lv_if_lt (tgt := 16) hx hb dJ4_isPositionIndex_1 (by decide) (fun hc => ?_) (fun hc => ?_)
  · have h := xif_t h hc
    refine lv_iconst (v := (0 : Int32)) hx hb dJ4_isPositionIndex_16 (by decide) ?_
    exact xr_zreturn h hX hI dJ4_isPositionIndex_17
  · have h := xif_f h hc
    refine lv_iload_n hx hb dJ4_isPositionIndex_4 rfl (lv_at hl 1 rfl) ?_
    refine lv_aload_n hx hb dJ4_isPositionIndex_5 rfl (lv_at hl 0 rfl) ?_
    refine xr_gI h hX hI xl_J4_7_13.g dJ4_isPositionIndex_6 (fun v2 h => ?_)
    refine lv_icmp_gt (tgt := 16) hx hb dJ4_isPositionIndex_9 (by decide) (fun hc => ?_) (fun hc => ?_)
    · have h := xif_t h hc
      refine lv_iconst (v := (0 : Int32)) hx hb dJ4_isPositionIndex_16 (by decide) ?_
      exact xr_zreturn h hX hI dJ4_isPositionIndex_17
    · have h := xif_f h hc
      refine lv_iconst (v := (1 : Int32)) hx hb dJ4_isPositionIndex_12 (by decide) ?_
      refine lv_goto (tgt := 17) hx hb dJ4_isPositionIndex_13 (by decide) ?_
      exact xr_zreturn h hX hI dJ4_isPositionIndex_17
/-! java/util/LinkedList.checkPositionIndex(I)V  -/
theorem o_J4_checkPositionIndex {a0 : Nat} {a1 : Int32} {r : Unit} {σ σ9 : xS} (h : (f_J4_checkPositionIndex a0 a1).1 σ = some (r, σ9)) : ∃ fs, σ.1 a0 = some (.inl (13, fs)) := xck_of h
theorem w_J4_checkPositionIndex {E : xE} {l : Launch} {a0 : Nat} {a1 : Int32} {r : Unit} {σ σ9 : xS} (h : (f_J4_checkPositionIndex a0 a1).1 σ = some (r, σ9)) : xMet E l yJ4_checkPositionIndex (ws_ yJ4_checkPositionIndex cJ4_checkPositionIndex 2 none) 1 21 [.ref a0, .int a1] σ σ9 none := by
  refine xstart (by decide +kernel) ((f_J4_checkPositionIndex a0 a1).2 _ _ _ h) (Nat.le_of_ble_eq_true rfl) ?_
  intro p e s m args below meth c H locs cells slots ls R hX hI hl
  have hx := hX.1.1
  have hb := hX.1.2.1
  have hl : lv_has ls 2 [(0, .ref a0), (1, .int a1)] := hl
  generalize hσ0 : σ = σ0 at hX hI ⊢
  have h : (f_J4_checkPositionIndex a0 a1).1 σ0 = some (r, σ9) := by rw [← hσ0]; exact h
  clear hσ0
  delta f_J4_checkPositionIndex at h
  have h := (xck_bd h).2
  refine lv_aload_n hx hb dJ4_checkPositionIndex_0 rfl (lv_at hl 0 rfl) ?_
  refine lv_iload_n hx hb dJ4_checkPositionIndex_1 rfl (lv_at hl 1 rfl) ?_
  refine xr_callV (iv := (fun b => some (.int b))) (As := [.int a1]) (rest := []) h hX hI (fun _ _ h => w_J4_isPositionIndex h) (fun _ _ h => o_J4_isPositionIndex h) rfl 1 (lw_V q407 q409 qs2 q81 q410) ⟨rfl, xd_J4_isPositionIndex⟩ ⟨rfl, rfl⟩ rfl hl.1 (Nat.le_of_ble_eq_true rfl) dJ4_checkPositionIndex_2 (fun v2 H locs σ cells slots h hI => ?_)
  refine W.eq (g2 := F0 m 5 ls [.int v2]) rfl ?_
  refine lv_if_ne (tgt := 21) hx hb dJ4_checkPositionIndex_5 (by decide) (fun hc => ?_) (fun hc => ?_)
  · have h := xif_f h hc
    exact xr_return h hX hI dJ4_checkPositionIndex_21
  · have h := xif_t h hc
    exact xr_no h
/-! java/util/LinkedList.node(I)Ljava/util/LinkedList$Node;  -/
theorem w_J4_node_b17 {rec17 : Int32 → Nat → Int32 → xM Nat} {a1 : Int32} {a2 : Nat} {a3 : Int32} {r : Nat} (hX : xX E R p m c cJ4_node 4 s args RJ4 "node" meth (some (.object "java/util/LinkedList$Node")) 0 0 σ0 σ9) (hrec17 : ∀ (a1 : Int32) (a2 : Nat) (a3 : Int32) (σ : xS) (H : Heap) (locs : List Loc) (cells slots : Nat) (ls : Array Slot), (rec17 a1 a2 a3).1 σ = some (r, σ9) → xI E σ0 σ s H locs cells slots → lv_has ls 4 [(1, .int a1), (2, .ref a2), (3, .int a3)] → W p l e R s m args below meth c H locs cells slots (xMQ E below args s σ0 σ9 (some (.ref r))) (F0 m 17 ls []))
    (h : (f_J4_node_b17 rec17 a1 a2 a3).1 σ = some (r, σ9)) (hI : xI E σ0 σ s H locs cells slots) (hl : lv_has ls 4 [(1, .int a1), (2, .ref a2), (3, .int a3)]) : W p l e R s m args below meth c H locs cells slots (xMQ E below args s σ0 σ9 (some (.ref r))) (F0 m 17 ls []) := by
  have hx := hX.1.1
  have hb := hX.1.2.1
  delta f_J4_node_b17 at h
  refine lv_iload_n hx hb dJ4_node_17 rfl (lv_at hl 2 rfl) ?_
  refine lv_iload_n hx hb dJ4_node_18 rfl (lv_at hl 0 rfl) ?_
  refine lv_icmp_ge (tgt := 33) hx hb dJ4_node_19 (by decide) (fun hc => ?_) (fun hc => ?_)
  · have h := xif_t h hc
    refine lv_aload_n hx hb dJ4_node_33 rfl (lv_at hl 1 rfl) ?_
    exact xr_areturn h hX hI (Or.inl ⟨_, rfl⟩) dJ4_node_34
  · have h := xif_f h hc
    refine lv_aload_n hx hb dJ4_node_22 rfl (lv_at hl 1 rfl) ?_
    refine xr_gN h hX hI xl_J4_36_18.g dJ4_node_23 (fun v8 h => ?_)
    refine lv_astore_n (lv' := [(2, .ref v8), (1, .int a1), (3, .int a3)]) hx hb dJ4_node_26 rfl hl (Nat.le_of_ble_eq_true rfl) rfl (fun ls hl => ?_)
    refine lv_iinc (k := 2) (lv' := [(3, .int (a3 + (1 : Int32))), (2, .ref v8), (1, .int a1)]) hx hb dJ4_node_27 hl rfl (xiinc (by decide)) (Nat.le_of_ble_eq_true rfl) rfl (fun ls hl => ?_)
    refine lv_goto (tgt := 17) hx hb dJ4_node_30 (by decide) ?_
    exact hrec17 a1 v8 (a3 + (1 : Int32)) _ _ _ _ _ _ h hI (lv_sub hl [2, 1, 0] rfl)
theorem w_J4_node_L17 {r : Nat} (hX : xX E R p m c cJ4_node 4 s args RJ4 "node" meth (some (.object "java/util/LinkedList$Node")) 0 0 σ0 σ9) : ∀ (n : Nat) (a1 : Int32) (a2 : Nat) (a3 : Int32) (σ : xS) (H : Heap) (locs : List Loc) (cells slots : Nat) (ls : Array Slot), (f_J4_node_L17 n a1 a2 a3).1 σ = some (r, σ9) → xI E σ0 σ s H locs cells slots → lv_has ls 4 [(1, .int a1), (2, .ref a2), (3, .int a3)] → W p l e R s m args below meth c H locs cells slots (xMQ E below args s σ0 σ9 (some (.ref r))) (F0 m 17 ls []) := by
  intro n
  induction n with
  | zero =>
    intro a1 a2 a3 σ H locs cells slots ls h
    exact xr_no h
  | succ n ih =>
    intro a1 a2 a3 σ H locs cells slots ls h hI hl
    exact w_J4_node_b17 hX ih h hI hl
theorem w_J4_node_b47 {rec47 : Int32 → Nat → Int32 → xM Nat} {a1 : Int32} {a2 : Nat} {a3 : Int32} {r : Nat} (hX : xX E R p m c cJ4_node 4 s args RJ4 "node" meth (some (.object "java/util/LinkedList$Node")) 0 0 σ0 σ9) (hrec47 : ∀ (a1 : Int32) (a2 : Nat) (a3 : Int32) (σ : xS) (H : Heap) (locs : List Loc) (cells slots : Nat) (ls : Array Slot), (rec47 a1 a2 a3).1 σ = some (r, σ9) → xI E σ0 σ s H locs cells slots → lv_has ls 4 [(1, .int a1), (2, .ref a2), (3, .int a3)] → W p l e R s m args below meth c H locs cells slots (xMQ E below args s σ0 σ9 (some (.ref r))) (F0 m 47 ls []))
    (h : (f_J4_node_b47 rec47 a1 a2 a3).1 σ = some (r, σ9)) (hI : xI E σ0 σ s H locs cells slots) (hl : lv_has ls 4 [(1, .int a1), (2, .ref a2), (3, .int a3)]) : W p l e R s m args below meth c H locs cells slots (xMQ E below args s σ0 σ9 (some (.ref r))) (F0 m 47 ls []) := by
  have hx := hX.1.1
  have hb := hX.1.2.1
  delta f_J4_node_b47 at h
  refine lv_iload_n hx hb dJ4_node_47 rfl (lv_at hl 2 rfl) ?_
  refine lv_iload_n hx hb dJ4_node_48 rfl (lv_at hl 0 rfl) ?_
  refine lv_icmp_le (tgt := 63) hx hb dJ4_node_49 (by decide) (fun hc => ?_) (fun hc => ?_)
  · have h := xif_t h hc
    refine lv_aload_n hx hb dJ4_node_63 rfl (lv_at hl 1 rfl) ?_
    exact xr_areturn h hX hI (Or.inl ⟨_, rfl⟩) dJ4_node_64
  · have h := xif_f h hc
    refine lv_aload_n hx hb dJ4_node_52 rfl (lv_at hl 1 rfl) ?_
    refine xr_gN h hX hI xl_J4_30_18.g dJ4_node_53 (fun v7 h => ?_)
    refine lv_astore_n (lv' := [(2, .ref v7), (1, .int a1), (3, .int a3)]) hx hb dJ4_node_56 rfl hl (Nat.le_of_ble_eq_true rfl) rfl (fun ls hl => ?_)
    refine lv_iinc (k := 2) (lv' := [(3, .int (a3 - (1 : Int32))), (2, .ref v7), (1, .int a1)]) hx hb dJ4_node_57 hl rfl (xidec (by decide)) (Nat.le_of_ble_eq_true rfl) rfl (fun ls hl => ?_)
    refine lv_goto (tgt := 47) hx hb dJ4_node_60 (by decide) ?_
    exact hrec47 a1 v7 (a3 - (1 : Int32)) _ _ _ _ _ _ h hI (lv_sub hl [2, 1, 0] rfl)
theorem w_J4_node_L47 {r : Nat} (hX : xX E R p m c cJ4_node 4 s args RJ4 "node" meth (some (.object "java/util/LinkedList$Node")) 0 0 σ0 σ9) : ∀ (n : Nat) (a1 : Int32) (a2 : Nat) (a3 : Int32) (σ : xS) (H : Heap) (locs : List Loc) (cells slots : Nat) (ls : Array Slot), (f_J4_node_L47 n a1 a2 a3).1 σ = some (r, σ9) → xI E σ0 σ s H locs cells slots → lv_has ls 4 [(1, .int a1), (2, .ref a2), (3, .int a3)] → W p l e R s m args below meth c H locs cells slots (xMQ E below args s σ0 σ9 (some (.ref r))) (F0 m 47 ls []) := by
  intro n
  induction n with
  | zero =>
    intro a1 a2 a3 σ H locs cells slots ls h
    exact xr_no h
  | succ n ih =>
    intro a1 a2 a3 σ H locs cells slots ls h hI hl
    exact w_J4_node_b47 hX ih h hI hl
theorem o_J4_node {a0 : Nat} {a1 : Int32} {r : Nat} {σ σ9 : xS} (h : (f_J4_node a0 a1).1 σ = some (r, σ9)) : ∃ fs, σ.1 a0 = some (.inl (13, fs)) := xck_of h
theorem w_J4_node {E : xE} {l : Launch} {a0 : Nat} {a1 : Int32} {r : Nat} {σ σ9 : xS} (h : (f_J4_node a0 a1).1 σ = some (r, σ9)) : xMet E l yJ4_node (ws_ yJ4_node cJ4_node 4 (some (.object "java/util/LinkedList$Node"))) 0 0 [.ref a0, .int a1] σ σ9 (some (.ref r)) := by
  refine xstart (by decide +kernel) ((f_J4_node a0 a1).2 _ _ _ h) (Nat.le_of_ble_eq_true rfl) ?_
  intro p e s m args below meth c H locs cells slots ls R hX hI hl
  have hx := hX.1.1
  have hb := hX.1.2.1
  have hl : lv_has ls 4 [(0, .ref a0), (1, .int a1)] := hl
  generalize hσ0 : σ = σ0 at hX hI ⊢
  have h : (f_J4_node a0 a1).1 σ0 = some (r, σ9) := by rw [← hσ0]; exact h
  clear hσ0
  delta f_J4_node at h
  have h := (xck_bd h).2
  refine lv_iload_n hx hb dJ4_node_0 rfl (lv_at hl 1 rfl) ?_
  refine lv_aload_n hx hb dJ4_node_1 rfl (lv_at hl 0 rfl) ?_
  refine xr_gI h hX hI xl_J4_7_13.g dJ4_node_2 (fun v9 h => ?_)
  refine lv_iconst (v := (1 : Int32)) hx hb dJ4_node_5 (by decide) ?_
  refine lv_ishr hx hb dJ4_node_6 ?_
  refine lv_icmp_ge (tgt := 35) hx hb dJ4_node_7 (by decide) (fun hc => ?_) (fun hc => ?_)
  · have h := xif_t h hc
    refine lv_aload_n hx hb dJ4_node_35 rfl (lv_at hl 0 rfl) ?_
    refine xr_gN h hX hI xl_J4_27_13.g dJ4_node_36 (fun v10 h => ?_)
    refine lv_astore_n (lv' := [(2, .ref v10), (0, .ref a0), (1, .int a1)]) hx hb dJ4_node_39 rfl hl (Nat.le_of_ble_eq_true rfl) rfl (fun ls hl => ?_)
    refine lv_aload_n hx hb dJ4_node_40 rfl (lv_at hl 1 rfl) ?_
    refine xr_gI h hX hI xl_J4_7_13.g dJ4_node_41 (fun v11 h => ?_)
    refine lv_iconst (v := (1 : Int32)) hx hb dJ4_node_44 (by decide) ?_
    refine lv_isub hx hb dJ4_node_45 ?_
    refine lv_istore_n (lv' := [(3, .int (v11 - (1 : Int32))), (2, .ref v10), (0, .ref a0), (1, .int a1)]) hx hb dJ4_node_46 rfl hl (Nat.le_of_ble_eq_true rfl) rfl (fun ls hl => ?_)
    exact w_J4_node_L47 hX xFU a1 v10 (v11 - (1 : Int32)) _ _ _ _ _ _ h hI (lv_sub hl [3, 1, 0] rfl)
  · have h := xif_f h hc
    refine lv_aload_n hx hb dJ4_node_10 rfl (lv_at hl 0 rfl) ?_
    refine xr_gN h hX hI xl_J4_18_13.g dJ4_node_11 (fun v12 h => ?_)
    refine lv_astore_n (lv' := [(2, .ref v12), (0, .ref a0), (1, .int a1)]) hx hb dJ4_node_14 rfl hl (Nat.le_of_ble_eq_true rfl) rfl (fun ls hl => ?_)
    refine lv_iconst (v := (0 : Int32)) hx hb dJ4_node_15 (by decide) ?_
    refine lv_istore_n (lv' := [(3, .int (0 : Int32)), (2, .ref v12), (0, .ref a0), (1, .int a1)]) hx hb dJ4_node_16 rfl hl (Nat.le_of_ble_eq_true rfl) rfl (fun ls hl => ?_)
    exact w_J4_node_L17 hX xFU a1 v12 (0 : Int32) _ _ _ _ _ _ h hI (lv_sub hl [3, 1, 0] rfl)
/-! java/util/LinkedList$ListItr.<init>(Ljava/util/LinkedList;I)V  -/
theorem w_J13_init_b38 {t0 : Nat} {t1 : (Option Nat)} {a0 : Nat} {a2 : Int32} {r : Unit} (hX : xX E R p m c cJ13_init 3 s args RJ13 "<init>" meth none 1 60 σ0 σ9)
    (h : (f_J13_init_b38 t0 t1 a0 a2).1 σ = some (r, σ9)) (hI : xI E σ0 σ s H locs cells slots) (hl : lv_has ls 3 [(0, .ref a0), (2, .int a2)]) : W p l e R s m args below meth c H locs cells slots (xMQ E below args s σ0 σ9 none) (F0 m 38 ls [va_rf t1, .ref t0]) := by
  have hx := hX.1.1
  have hb := hX.1.2.1
  delta f_J13_init_b38 at h
  cases t1 with
  | none =>
    have hl : lv_has ls 3 [(0, .ref a0), (2, .int a2)] := hl
    refine W.eq (g2 := F0 m 38 ls [.null, .ref t0]) rfl ?_
    refine xr_pt h hX hI xl_J13_29_17 (Or.inl rfl) rfl rfl dJ13_init_38 (fun H locs σ h hI => ?_)
    refine lv_aload_n hx hb dJ13_init_41 rfl (lv_at hl 0 rfl) ?_
    refine lv_iload_n hx hb dJ13_init_42 rfl (lv_at hl 1 rfl) ?_
    refine xr_pt h hX hI xl_J13_33_17 (Or.inl rfl) rfl rfl dJ13_init_43 (fun H locs σ h hI => ?_)
    exact xr_return h hX hI dJ13_init_46
  | some bt1 =>
    have hl : lv_has ls 3 [(0, .ref a0), (2, .int a2)] := hl
    refine W.eq (g2 := F0 m 38 ls [.ref bt1, .ref t0]) rfl ?_
    refine xr_pt h hX hI xl_J13_29_17 (Or.inl rfl) rfl rfl dJ13_init_38 (fun H locs σ h hI => ?_)
    refine lv_aload_n hx hb dJ13_init_41 rfl (lv_at hl 0 rfl) ?_
    refine lv_iload_n hx hb dJ13_init_42 rfl (lv_at hl 1 rfl) ?_
    refine xr_pt h hX hI xl_J13_33_17 (Or.inl rfl) rfl rfl dJ13_init_43 (fun H locs σ h hI => ?_)
    exact xr_return h hX hI dJ13_init_46
theorem w_J13_init {E : xE} {l : Launch} {a0 : Nat} {a1 : Nat} {a2 : Int32} {r : Unit} {σ σ9 : xS} (h : (f_J13_init a0 a1 a2).1 σ = some (r, σ9)) : xMet E l yJ13_init (ws_ yJ13_init cJ13_init 3 none) 1 60 [.ref a0, .ref a1, .int a2] σ σ9 none := by
  refine xstart (by decide +kernel) ((f_J13_init a0 a1 a2).2 _ _ _ h) (Nat.le_of_ble_eq_true rfl) ?_
  intro p e s m args below meth c H locs cells slots ls R hX hI hl
  have hx := hX.1.1
  have hb := hX.1.2.1
  have hl : lv_has ls 3 [(0, .ref a0), (1, .ref a1), (2, .int a2)] := hl
  generalize hσ0 : σ = σ0 at hX hI ⊢
  have h : (f_J13_init a0 a1 a2).1 σ0 = some (r, σ9) := by rw [← hσ0]; exact h
  clear hσ0
  delta f_J13_init at h
  refine lv_aload_n hx hb dJ13_init_0 rfl (lv_at hl 0 rfl) ?_
  refine lv_aload_n hx hb dJ13_init_1 rfl (lv_at hl 1 rfl) ?_
  refine xr_pt h hX hI xl_J13_1_17 (Or.inr rfl) rfl rfl dJ13_init_2 (fun H locs σ h hI => ?_)
  refine lv_aload_n hx hb dJ13_init_5 rfl (lv_at hl 0 rfl) ?_
  refine xr_objI hX q416 q123 q124 hl.1 ⟨rfl, rfl⟩ dJ13_init_6 ?_
  refine lv_aload_n hx hb dJ13_init_9 rfl (lv_at hl 0 rfl) ?_
  refine lv_aload_n hx hb dJ13_init_10 rfl (lv_at hl 0 rfl) ?_
  refine xr_gN h hX hI xl_J13_1_17.g dJ13_init_11 (fun v5 h => ?_)
  refine xr_gI h hX hI xl_J13_13_13.g dJ13_init_14 (fun v6 h => ?_)
  refine xr_pt h hX hI xl_J13_19_17 (Or.inl rfl) rfl rfl dJ13_init_17 (fun H locs σ h hI => ?_)
  refine lv_aload_n hx hb dJ13_init_20 rfl (lv_at hl 0 rfl) ?_
  refine lv_iload_n hx hb dJ13_init_21 rfl (lv_at hl 2 rfl) ?_
  refine lv_aload_n hx hb dJ13_init_22 rfl (lv_at hl 1 rfl) ?_
  refine xr_gI h hX hI xl_J13_22_13.g dJ13_init_23 (fun v7 h => ?_)
  refine lv_icmp_ne (tgt := 33) hx hb dJ13_init_26 (by decide) (fun hc => ?_) (fun hc => ?_)
  · have h := xif_f h hc
    refine lv_aload_n hx hb dJ13_init_33 rfl (lv_at hl 1 rfl) ?_
    refine lv_iload_n hx hb dJ13_init_34 rfl (lv_at hl 2 rfl) ?_
    refine xr_callV (iv := (fun b => some (.ref b))) (As := [.int a2]) (rest := [.ref a0]) h hX hI (fun _ _ h => w_J4_node h) (fun _ _ h => o_J4_node h) rfl 1 (lw_V q417 q418 q419 q81 q420) ⟨rfl, xd_J4_node⟩ ⟨rfl, rfl⟩ rfl hl.1 (Nat.le_of_ble_eq_true rfl) dJ13_init_35 (fun v8 H locs σ cells slots h hI => ?_)
    refine W.eq (g2 := F0 m 38 ls [.ref v8, .ref a0]) rfl ?_
    exact w_J13_init_b38 hX h hI (lv_sub hl [0, 2] rfl)
  · have h := xif_t h hc
    refine lv_null hx hb dJ13_init_29 ?_
    refine lv_goto (tgt := 38) hx hb dJ13_init_30 (by decide) ?_
    exact w_J13_init_b38 hX h hI (lv_sub hl [0, 2] rfl)
/-! java/util/LinkedList.listIterator(I)Ljava/util/ListIterator;  -/
theorem o_J4_listIterator {a0 : Nat} {a1 : Int32} {r : Nat} {σ σ9 : xS} (h : (f_J4_listIterator a0 a1).1 σ = some (r, σ9)) : ∃ fs, σ.1 a0 = some (.inl (13, fs)) := xck_of h
theorem w_J4_listIterator {E : xE} {l : Launch} {a0 : Nat} {a1 : Int32} {r : Nat} {σ σ9 : xS} (h : (f_J4_listIterator a0 a1).1 σ = some (r, σ9)) : xMet E l yJ4_listIterator (ws_ yJ4_listIterator cJ4_listIterator 2 (some (.object "java/util/ListIterator"))) 2 82 [.ref a0, .int a1] σ σ9 (some (.ref r)) := by
  refine xstart (by decide +kernel) ((f_J4_listIterator a0 a1).2 _ _ _ h) (Nat.le_of_ble_eq_true rfl) ?_
  intro p e s m args below meth c H locs cells slots ls R hX hI hl
  have hx := hX.1.1
  have hb := hX.1.2.1
  have hl : lv_has ls 2 [(0, .ref a0), (1, .int a1)] := hl
  generalize hσ0 : σ = σ0 at hX hI ⊢
  have h : (f_J4_listIterator a0 a1).1 σ0 = some (r, σ9) := by rw [← hσ0]; exact h
  clear hσ0
  delta f_J4_listIterator at h
  have h := (xck_bd h).2
  refine lv_aload_n hx hb dJ4_listIterator_0 rfl (lv_at hl 0 rfl) ?_
  refine lv_iload_n hx hb dJ4_listIterator_1 rfl (lv_at hl 1 rfl) ?_
  refine xr_callV (iv := (fun _ => none)) (As := [.int a1]) (rest := []) h hX hI (fun _ _ h => w_J4_checkPositionIndex h) (fun _ _ h => o_J4_checkPositionIndex h) rfl 1 (lw_V q403 q405 qs1 q81 q406) ⟨rfl, xd_J4_checkPositionIndex⟩ ⟨rfl, rfl⟩ rfl hl.1 (Nat.le_of_ble_eq_true rfl) dJ4_listIterator_2 (fun _ H locs σ cells slots h hI => ?_)
  refine xr_nw h hX hI xn_J4_150 dJ4_listIterator_5 (fun v2 H σ cells slots h hI => ?_)
  refine lv_dup hx hb dJ4_listIterator_8 rfl ?_
  refine lv_aload_n hx hb dJ4_listIterator_9 rfl (lv_at hl 0 rfl) ?_
  refine lv_iload_n hx hb dJ4_listIterator_10 rfl (lv_at hl 1 rfl) ?_
  refine xr_callI (As := [.ref a0, .int a1]) (rest := [.ref v2]) h hX hI (fun _ _ h => w_J13_init h) 2 q413 q415 q93 q414 rfl xd_J13_init ⟨rfl, rfl⟩ rfl hl.1 (Nat.le_of_ble_eq_true rfl) dJ4_listIterator_11 (fun _ H locs σ cells slots h hI => ?_)
  exact xr_areturn h hX hI (Or.inl ⟨_, rfl⟩) dJ4_listIterator_14
/-! java/util/AbstractList.listIterator()Ljava/util/ListIterator; c13 -/
theorem o_J1_listIterator_c13 {a0 : Nat} {r : Nat} {σ σ9 : xS} (h : (f_J1_listIterator_c13 a0).1 σ = some (r, σ9)) : ∃ fs, σ.1 a0 = some (.inl (13, fs)) := xck_of h
theorem w_J1_listIterator_c13 {E : xE} {l : Launch} {a0 : Nat} {r : Nat} {σ σ9 : xS} (h : (f_J1_listIterator_c13 a0).1 σ = some (r, σ9)) : xMet E l yJ1_listIterator (ws_ yJ1_listIterator cJ1_listIterator 1 (some (.object "java/util/ListIterator"))) 3 103 [.ref a0] σ σ9 (some (.ref r)) := by
  refine xstart (by decide +kernel) ((f_J1_listIterator_c13 a0).2 _ _ _ h) (Nat.le_of_ble_eq_true rfl) ?_
  intro p e s m args below meth c H locs cells slots ls R hX hI hl
  have hx := hX.1.1
  have hb := hX.1.2.1
  have hl : lv_has ls 1 [(0, .ref a0)] := hl
  generalize hσ0 : σ = σ0 at hX hI ⊢
  have h : (f_J1_listIterator_c13 a0).1 σ0 = some (r, σ9) := by rw [← hσ0]; exact h
  clear hσ0
  delta f_J1_listIterator_c13 at h
  have h := (xck_bd h).2
  refine lv_aload_n hx hb dJ1_listIterator_0 rfl (lv_at hl 0 rfl) ?_
  refine lv_iconst (v := (0 : Int32)) hx hb dJ1_listIterator_1 (by decide) ?_
  refine xr_callU (iv := (fun b => some (.ref b))) (As := [.int (0 : Int32)]) (rest := []) h hX hI (fun _ _ h => w_J4_listIterator h) (fun _ _ h => o_J4_listIterator h) rfl 1 (fun h1 h2 h3 => va_cwA (owner := "java/util/AbstractList") 1 hX.1.2.2.2.2 (xlwU q376 q378 q400 q401 q81 q402) rfl h1 h2 (hX.2.1.2.1 _ q437 rfl) (by decide +kernel) h3) ⟨rfl, rfl⟩ rfl hl.1 (Nat.le_of_ble_eq_true rfl) dJ1_listIterator_2 (fun v2 H locs σ cells slots h hI => ?_)
  refine W.eq (g2 := F0 m 5 ls [.ref v2]) rfl ?_
  exact xr_areturn h hX hI (Or.inl ⟨_, rfl⟩) dJ1_listIterator_5
/-! java/util/AbstractSequentialList.iterator()Ljava/util/Iterator; c13 -/
theorem o_J3_iterator_c13 {a0 : Nat} {r : Nat} {σ σ9 : xS} (h : (f_J3_iterator_c13 a0).1 σ = some (r, σ9)) : ∃ fs, σ.1 a0 = some (.inl (13, fs)) := xck_of h
theorem w_J3_iterator_c13 {E : xE} {l : Launch} {a0 : Nat} {r : Nat} {σ σ9 : xS} (h : (f_J3_iterator_c13 a0).1 σ = some (r, σ9)) : xMet E l yJ3_iterator (ws_ yJ3_iterator cJ3_iterator 1 (some (.object "java/util/Iterator"))) 4 123 [.ref a0] σ σ9 (some (.ref r)) := by
  refine xstart (by decide +kernel) ((f_J3_iterator_c13 a0).2 _ _ _ h) (Nat.le_of_ble_eq_true rfl) ?_
  intro p e s m args below meth c H locs cells slots ls R hX hI hl
  have hx := hX.1.1
  have hb := hX.1.2.1
  have hl : lv_has ls 1 [(0, .ref a0)] := hl
  generalize hσ0 : σ = σ0 at hX hI ⊢
  have h : (f_J3_iterator_c13 a0).1 σ0 = some (r, σ9) := by rw [← hσ0]; exact h
  clear hσ0
  delta f_J3_iterator_c13 at h
  have h := (xck_bd h).2
  refine lv_aload_n hx hb dJ3_iterator_0 rfl (lv_at hl 0 rfl) ?_
  refine xr_callU (iv := (fun b => some (.ref b))) (As := []) (rest := []) h hX hI (fun _ _ h => w_J1_listIterator_c13 h) (fun _ _ h => o_J1_listIterator_c13 h) rfl 0 (fun h1 h2 h3 => va_cwU (owner := "java/util/AbstractList") 0 hX.1.2.2.2.2 (xlwU q370 q371 q373 q374 q78 q375) rfl h1 h2 rfl (by decide +kernel) h3) ⟨rfl, rfl⟩ rfl hl.1 (Nat.le_of_ble_eq_true rfl) dJ3_iterator_1 (fun v2 H locs σ cells slots h hI => ?_)
  refine W.eq (g2 := F0 m 4 ls [.ref v2]) rfl ?_
  exact xr_areturn h hX hI (Or.inl ⟨_, rfl⟩) dJ3_iterator_4
/-! java/util/LinkedList$ListItr.hasNext()Z  -/
theorem o_J13_hasNext {a0 : Nat} {r : Int32} {σ σ9 : xS} (h : (f_J13_hasNext a0).1 σ = some (r, σ9)) : ∃ fs, σ.1 a0 = some (.inl (17, fs)) := xck_of h
theorem w_J13_hasNext {E : xE} {l : Launch} {a0 : Nat} {r : Int32} {σ σ9 : xS} (h : (f_J13_hasNext a0).1 σ = some (r, σ9)) : xMet E l yJ13_hasNext (ws_ yJ13_hasNext cJ13_hasNext 1 (some .boolean)) 0 0 [.ref a0] σ σ9 (some (.int r)) := by
  refine xstart (by decide +kernel) ((f_J13_hasNext a0).2 _ _ _ h) (Nat.le_of_ble_eq_true rfl) ?_
  intro p e s m args below meth c H locs cells slots ls R hX hI hl
  have hx := hX.1.1
  have hb := hX.1.2.1
  have hl : lv_has ls 1 [(0, .ref a0)] := hl
  generalize hσ0 : σ = σ0 at hX hI ⊢
  have h : (f_J13_hasNext a0).1 σ0 = some (r, σ9) := by rw [← hσ0]; exact h
  clear hσ0
  delta f_J13_hasNext at h
  have h := (xck_bd h).2
  refine lv_aload_n hx hb dJ13_hasNext_0 rfl (lv_at hl 0 rfl) ?_
  refine xr_gI h hX hI xl_J13_33_17.g dJ13_hasNext_1 (fun v4 h => ?_)
  refine lv_aload_n hx hb dJ13_hasNext_4 rfl (lv_at hl 0 rfl) ?_
  refine xr_gN h hX hI xl_J13_1_17.g dJ13_hasNext_5 (fun v5 h => ?_)
  refine xr_gI h hX hI xl_J13_22_13.g dJ13_hasNext_8 (fun v6 h => ?_)
  refine lv_icmp_ge (tgt := 18) hx hb dJ13_hasNext_11 (by decide) (fun hc => ?_) (fun hc => ?_)
  · have h := xif_t h hc
    refine lv_iconst (v := (0 : Int32)) hx hb dJ13_hasNext_18 (by decide) ?_
    exact xr_zreturn h hX hI dJ13_hasNext_19
  · have h := xif_f h hc
    refine lv_iconst (v := (1 : Int32)) hx hb dJ13_hasNext_14 (by decide) ?_
    refine lv_goto (tgt := 19) hx hb dJ13_hasNext_15 (by decide) ?_
    exact xr_zreturn h hX hI dJ13_hasNext_19
/-! java/util/LinkedList$ListItr.checkForComodification()V  -/
theorem o_J13_checkForComodification {a0 : Nat} {r : Unit} {σ σ9 : xS} (h : (f_J13_checkForComodification a0).1 σ = some (r, σ9)) : ∃ fs, σ.1 a0 = some (.inl (17, fs)) := xck_of h
theorem w_J13_checkForComodification {E : xE} {l : Launch} {a0 : Nat} {r : Unit} {σ σ9 : xS} (h : (f_J13_checkForComodification a0).1 σ = some (r, σ9)) : xMet E l yJ13_checkForComodification (ws_ yJ13_checkForComodification cJ13_checkForComodification 1 none) 0 0 [.ref a0] σ σ9 none := by
  refine xstart (by decide +kernel) ((f_J13_checkForComodification a0).2 _ _ _ h) (Nat.le_of_ble_eq_true rfl) ?_
  intro p e s m args below meth c H locs cells slots ls R hX hI hl
  have hx := hX.1.1
  have hb := hX.1.2.1
  have hl : lv_has ls 1 [(0, .ref a0)] := hl
  generalize hσ0 : σ = σ0 at hX hI ⊢
  have h : (f_J13_checkForComodification a0).1 σ0 = some (r, σ9) := by rw [← hσ0]; exact h
  clear hσ0
  delta f_J13_checkForComodification at h
  have h := (xck_bd h).2
  refine lv_aload_n hx hb dJ13_checkForComodification_0 rfl (lv_at hl 0 rfl) ?_
  refine xr_gN h hX hI xl_J13_1_17.g dJ13_checkForComodification_1 (fun v4 h => ?_)
  refine xr_gI h hX hI xl_J13_13_13.g dJ13_checkForComodification_4 (fun v5 h => ?_)
  refine lv_aload_n hx hb dJ13_checkForComodification_7 rfl (lv_at hl 0 rfl) ?_
  refine xr_gI h hX hI xl_J13_19_17.g dJ13_checkForComodification_8 (fun v6 h => ?_)
  refine lv_icmp_eq (tgt := 22) hx hb dJ13_checkForComodification_11 (by decide) (fun hc => ?_) (fun hc => ?_)
  · have h := xif_t h hc
    exact xr_return h hX hI dJ13_checkForComodification_22
  · have h := xif_f h hc
    exact xr_no h
end
