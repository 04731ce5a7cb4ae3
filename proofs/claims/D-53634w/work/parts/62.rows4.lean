/-! rows: members that the machine has itself; static fields; locals -/
set_option maxRecDepth 100000
section XR4
variable {E : xE} {p : Program} {l : Launch} {e : Env} {R : Room} {s : State} {m : MethodId} {args : Array Value} {below : List Frame} {meth : Method} {c : Code} {H : Heap} {locs : List Loc} {cells slots : Nat} {Q : State → Prop}
variable {cc : ByteArray} {pc nL fr lc : Nat} {ls : Array Slot} {rest : List Value} {own nm : String} {ret : Option FieldType} {σ0 σ σ9 : xS} {α β : Type} {r : α}
theorem xI_store2 {a : Nat} {d : xC} {H1 : Heap} {L : List Loc} (hI : xI E σ0 σ s H locs cells slots) (ha : E.2.2 ≤ a) (hd : ∀ w, d = .inr w → w.1 < 7) (he : va_at E.1 xcl (a, xcv E d) H1) (z : H1.size = H.size) (oq : ∀ q : Nat, q ≠ a → H1[q]? = H[q]?) (hL : ∀ q ∈ L, q.base = a) : xI E σ0 (xset σ a d) s H1 (locs ++ L) cells slots := by
  obtain ⟨⟨hz, hR⟩, hS, h1, h2, h3, h4, h5⟩ := hI
  refine ⟨⟨z.trans hz, fun q d' hq => ?_⟩, ⟨by rw [z]; exact hS.1, fun q g1 g2 => ?_, fun q hq => ?_⟩, h1, h2, h3, h4, h5⟩
  · by_cases hqa : q = a
    · subst hqa
      simp [xset, xup] at hq
      subst hq
      exact Or.inr ⟨he, ha, hd⟩
    · simp [xset, xup, hqa] at hq
      rcases hR q d' hq with h | ⟨h6, h7, h8⟩
      · exact Or.inl h
      · exact Or.inr ⟨h6.kept (oq q hqa), h7, h8⟩
  · rw [oq q (fun e => g2 (by rw [e]; exact ha))]
    exact hS.2.1 q g1 g2
  · rcases List.mem_append.mp hq with h | h
    · exact hS.2.2 q h
    · show E.2.2 ≤ q.base
      rw [hL q h]
      exact ha
theorem xr_cpy {t a0 a idx : Nat} {sp dp n : Int32} {kont : Unit → xM α} (h : (xbd (xcpy t a0 sp a dp n) kont).1 σ = some (r, σ9)) (hX : xX E R p m c cc nL s args own nm meth ret fr lc σ0 σ9) (hI : xI E σ0 σ s H locs cells slots) (ht : t = 3 ∨ t = 4 ∨ t = 5 ∨ t = 6) (hlink : Cond.methodLink own idx arraycopyName ∈ lw_all) (hnat : Cond.native arraycopyName ∈ lw_all) (hstat : Cond.static arraycopyName ∈ lw_all) (hini : Cond.initialized "java/lang/System" ∈ lw_all) (hsz : ls.size = nL) (hR : Nat.ble 1 fr = true ∧ Nat.ble ((rest.map fun v => v.category).sum + (nativeFrameWords "java/lang/System" "arraycopy" 5 + 11)) lc = true) (hdg : decode cc pc = .ok (.invokestatic idx, 3))
    (kk : ∀ (H1 : Heap) (locs1 : List Loc) (σ1 : xS), (kont ()).1 σ1 = some (r, σ9) → xI E σ0 σ1 s H1 locs1 cells slots → W p l e R s m args below meth c H1 locs1 cells slots Q (F0 m (pc + 3) ls rest)) : W p l e R s m args below meth c H locs cells slots Q (F0 m pc ls (.int n :: .int dp :: .ref a :: .int sp :: .ref a0 :: rest)) := by
  obtain ⟨q, h1, h2⟩ := xwr_bd h
  cases h3 : xarr σ t a0 with
  | none => rw [h3] at h1; cases h1
  | some w =>
  cases h4 : xarr σ t a with
  | none => rw [h3, h4] at h1; obtain ⟨n0, f⟩ := w; rcases f with f | f | f | f | f <;> cases h1
  | some w' =>
  obtain ⟨n0, f⟩ := w
  obtain ⟨n1, g⟩ := w'
  rw [h3, h4] at h1
  rcases f with f | f | f | f | f <;> try (cases h1; done)
  rcases g with g | g | g | g | g <;> try (cases h1; done)
  simp only at h1
  split at h1
  · rename_i hcond
    cases h1
    simp only [Bool.and_eq_true, Bool.not_eq_true', decide_eq_false_iff_not, decide_eq_true_eq, List.all_eq_true, List.mem_range] at hcond
    obtain ⟨⟨⟨⟨⟨k1, k2⟩, k3⟩, k4⟩, k5⟩, k6⟩ := hcond
    obtain ⟨e1, e2⟩ := xtyR ht
    obtain ⟨hc0, -, -⟩ := xat_arr hI e2 h3
    obtain ⟨hc1, hba, -⟩ := xat_arr hI e2 h4
    have hel : ∀ i : Nat, i < n.toNatClampNeg → ∀ y : Nat, f (sp.toNatClampNeg + i) = some y → va_Any (xtyn t) s H y := fun i hi y hy => by
      have hh := k6 i hi
      rw [hy] at hh
      exact xobj_any hX hI hh
    have hX0 := hX
    obtain ⟨⟨hx, hb, hml, hown, hts⟩, ⟨hK, hN⟩, -, ⟨-, -, r1, r2⟩, -⟩ := hX
    have nn : ∀ z : Int32, ¬ z < 0 → z.toInt = (z.toNatClampNeg : Int) := by
      intro z hz
      have hz0 : (0 : Int) ≤ z.toInt := by
        have := Int32.not_lt.mp hz
        simpa using Int32.le_iff_toInt_le.mp this
      show z.toInt = ((z.toInt.toNat : Nat) : Int)
      omega
    have hfr : 1 ≤ R.frames := Nat.le_trans (Nat.le_of_ble_eq_true hR.1) r1
    have hlo : (rest.map fun v => v.category).sum + (nativeFrameWords "java/lang/System" "arraycopy" 5 + 11) ≤ R.locals := Nat.le_trans (Nat.le_of_ble_eq_true hR.2) r2
    intro T hT X
    obtain ⟨-, k0, hk0, cm0, hkk0⟩ := xarrOf hX0 (t := t) e2 n0 (fun j => va_rf (f j))
    obtain ⟨-, k1', hk1, cm1, hkk1⟩ := xarrOf hX0 (t := t) e2 n1 (fun j => va_rf (g j))
    have hRA := (hK.2 t _ (xtys_at E e2)).2
    rw [e1] at hRA hkk0 hkk1
    obtain ⟨vm', X', step⟩ := X.arraycopy hx hown (hts _ hlink) (hts _ hnat) (hts _ hstat) (hts _ hini) (src := a0) (dst := a) (cs := vp_cell (E.2.1 t) (n0, .inr (.inr (.inr (.inr f))))) (cd := vp_cell (E.2.1 t) (n1, .inr (.inr (.inr (.inr g))))) (srcPos := sp) (destPos := dp) (n := n) (by rw [hT]; exact hc0) (by rw [hT]; exact hc1)
      (fun _ h => by cases h) (fun _ h => by cases h) (fun h => by cases h) (fun h => by cases h) hk0 hk1 hkk0 hkk1 rfl k1 k2 k3
      (by rw [nn sp k1, nn n k3]; show ¬ _ > ((arrV (E.2.1 t) n0 (fun j => va_rf (f j))).slots.size : Int); rw [arrV_size]; omega)
      (by rw [nn dp k2, nn n k3]; show ¬ _ > ((arrV (E.2.1 t) n1 (fun j => va_rf (g j))).slots.size : Int); rw [arrV_size]; omega)
      (fun vm₁ hal i hi => by
        have e : (vp_cell (E.2.1 t) (n0, .inr (.inr (.inr (.inr f))))).slots.getD (sp.toNatClampNeg + i) .null = va_rf (f (sp.toNatClampNeg + i)) := by
          show (arrV (E.2.1 t) n0 (fun j => va_rf (f j))).slots.getD _ _ = _
          rw [Array.getD_eq_getD_getElem?, arrV_read _ _ (by omega)]
          rfl
        rw [e]
        cases hy : f (sp.toNatClampNeg + i) with
        | none => exact ⟨rfl, trivial⟩
        | some y =>
          obtain ⟨cellV, g1, g2, ⟨kC, hkC⟩, hasg⟩ := hel i hi y hy
          obtain ⟨kA, comp, r1, r2, r3, -⟩ := hRA
          cases hk1.symm.trans r1
          cases hkk1.symm.trans r2
          obtain ⟨kE, hkE, -⟩ := Vm.findClass_spec r3
          obtain ⟨kC', hkC', -⟩ := hal.2.2 _ _ hkC
          obtain ⟨kE', hkE', -⟩ := hal.2.2 _ _ hkE
          refine ⟨rfl, cellV, (show T.heap[y]? = some cellV by rw [hT]; exact g1), (fun q h => by rw [h] at g2; cases g2), ⟨kC', hkC'⟩, ?_, ?_⟩
          · exact ⟨kE', hkE'⟩
          · show vm₁.assignable _ _ = true
            rw [hal.assignable]
            exact hasg _ r3)
      (g := F0 m pc ls (.int n :: .int dp :: .ref a :: .int sp :: .ref a0 :: rest)) rfl (by rw [hml]; exact hsz) (rest := rest) rfl (by rw [hb]; exact hdg) hfr (by show 2 * 0 + _ + _ ≤ _; omega)
    have e1 : copied (vp_cell (E.2.1 t) (n0, .inr (.inr (.inr (.inr f))))) (vp_cell (E.2.1 t) (n1, .inr (.inr (.inr (.inr g))))) sp dp n = vp_cell (E.2.1 t) (n1, .inr (.inr (.inr (.inr (va_cpy f g sp.toNatClampNeg dp.toNatClampNeg n.toNatClampNeg))))) := by
      rw [vp_cell_q, vp_cell_q, vp_cell_q]
      exact va_copied (fun z => va_rf z) (E.2.1 t) (E.2.1 t) f g k4
    rw [e1] at X' step
    have hl : a < H.size := (Array.getElem?_eq_some_iff.mp hc1).1
    have hheap : ((T.setVm vm').setCell a (vp_cell (E.2.1 t) (n1, .inr (.inr (.inr (.inr (va_cpy f g sp.toNatClampNeg dp.toNatClampNeg n.toNatClampNeg))))))).heap = H.setIfInBounds a (vp_cell (E.2.1 t) (n1, .inr (.inr (.inr (.inr (va_cpy f g sp.toNatClampNeg dp.toNatClampNeg n.toNatClampNeg)))))) := by rw [← hT]; rfl
    have oq : ∀ q : Nat, q ≠ a → (H.setIfInBounds a (vp_cell (E.2.1 t) (n1, .inr (.inr (.inr (.inr (va_cpy f g sp.toNatClampNeg dp.toNatClampNeg n.toNatClampNeg)))))))[q]? = H[q]? := fun q hq => by simp [Array.getElem?_setIfInBounds, Ne.symm hq]
    obtain ⟨t, a1, b1⟩ := kk _ _ _ h2 (xI_store2 hI hba (fun w hw => by cases hw; exact e2) (show (H.setIfInBounds a _)[a]? = some _ by simp [Array.getElem?_setIfInBounds, hl]) (by simp) oq (fun q hq => by
        obtain ⟨z, -, hz⟩ := List.mem_map.mp hq
        rw [← hz])) _ hheap X'
    exact ⟨t, step t a1, b1⟩
  · cases h1
/-- Double.longBitsToDouble -/
theorem xr_l2d {idx : Nat} {b : Int64} {kont : UInt64 → xM α} (h : (xbd (xl2d b) kont).1 σ = some (r, σ9)) (hX : xX E R p m c cc nL s args own nm meth ret fr lc σ0 σ9) (hlink : Cond.methodLink own idx ⟨"java/lang/Double", "longBitsToDouble", "(J)D"⟩ ∈ lw_all) (hnat : Cond.native ⟨"java/lang/Double", "longBitsToDouble", "(J)D"⟩ ∈ lw_all) (hstat : Cond.static ⟨"java/lang/Double", "longBitsToDouble", "(J)D"⟩ ∈ lw_all) (hini : Cond.initialized "java/lang/Double" ∈ lw_all) (hsz : ls.size = nL) (hR : Nat.ble 1 fr = true ∧ Nat.ble ((rest.map fun v => v.category).sum + 15) lc = true) (hdg : decode cc pc = .ok (.invokestatic idx, 3))
    (kk : (kont b.toUInt64).1 σ = some (r, σ9) → W p l e R s m args below meth c H locs cells slots Q (F0 m (pc + 3) ls (.double b.toUInt64 :: rest))) : W p l e R s m args below meth c H locs cells slots Q (F0 m pc ls (.long b :: rest)) := by
  obtain ⟨v, h1, h2⟩ := xrd_bd h
  obtain ⟨⟨hx, hb, hml, hown, hts⟩, -, -, ⟨-, -, r1, r2⟩, -⟩ := hX
  by_cases hv : vn_snl2d b = false
  · simp [hv] at h1
    subst h1
    exact vn_l2d hx hb (by rw [hml]; exact hsz.symm) hown (hts _ hlink) (hts _ hnat) (hts _ hstat) (hts _ hini) hv (Nat.le_trans (Nat.le_of_ble_eq_true hR.1) r1) (Nat.le_trans (Nat.le_of_ble_eq_true hR.2) r2) hdg (kk h2)
  · simp [hv] at h1
theorem xr_d2l {idx : Nat} {b : UInt64} (hX : xX E R p m c cc nL s args own nm meth ret fr lc σ0 σ9) (hlink : Cond.methodLink own idx ⟨"java/lang/Double", "doubleToRawLongBits", "(D)J"⟩ ∈ lw_all) (hnat : Cond.native ⟨"java/lang/Double", "doubleToRawLongBits", "(D)J"⟩ ∈ lw_all) (hstat : Cond.static ⟨"java/lang/Double", "doubleToRawLongBits", "(D)J"⟩ ∈ lw_all) (hini : Cond.initialized "java/lang/Double" ∈ lw_all) (hsz : ls.size = nL) (hR : Nat.ble 1 fr = true ∧ Nat.ble ((rest.map fun v => v.category).sum + 15) lc = true) (hdg : decode cc pc = .ok (.invokestatic idx, 3))
    (kk : W p l e R s m args below meth c H locs cells slots Q (F0 m (pc + 3) ls (.long b.toInt64 :: rest))) : W p l e R s m args below meth c H locs cells slots Q (F0 m pc ls (.double b :: rest)) := by
  obtain ⟨⟨hx, hb, hml, hown, hts⟩, -, -, ⟨-, -, r1, r2⟩, -⟩ := hX
  exact vn_d2l hx hb (by rw [hml]; exact hsz.symm) hown (hts _ hlink) (hts _ hnat) (hts _ hstat) (hts _ hini) (Nat.le_trans (Nat.le_of_ble_eq_true hR.1) r1) (Nat.le_trans (Nat.le_of_ble_eq_true hR.2) r2) hdg kk
/-- doubles -/
theorem xdb_bd {x : UInt64} {kont : UInt64 → xM α} (h : (xbd (xdb x) kont).1 σ = some (r, σ9)) : vf_n64 x ∧ (kont x).1 σ = some (r, σ9) := by
  obtain ⟨v, h1, h2⟩ := xrd_bd h
  by_cases hv : x &&& 0x7fffffffffffffff ≤ 0x7ff0000000000000
  · simp [hv] at h1
    subst h1
    exact ⟨hv, h2⟩
  · simp [hv] at h1
theorem xr_dadd {x y : UInt64} {kont : UInt64 → xM α} (h : (xbd (xdb (FP.dadd x y)) kont).1 σ = some (r, σ9)) (hx : p.tables.exec = Jvm.exec) (hb : c.code = cc) (hdg : decode cc pc = .ok (.dadd, 1))
    (kk : (kont (FP.dadd x y)).1 σ = some (r, σ9) → W p l e R s m args below meth c H locs cells slots Q (F0 m (pc + 1) ls (.double (FP.dadd x y) :: rest))) : W p l e R s m args below meth c H locs cells slots Q (F0 m pc ls (.double y :: .double x :: rest)) := by
  obtain ⟨h1, h2⟩ := xdb_bd h
  exact lv_dadd hx hb hdg h1 (kk h2)
theorem xr_dmul {x y : UInt64} {kont : UInt64 → xM α} (h : (xbd (xdb (FP.dmul x y)) kont).1 σ = some (r, σ9)) (hx : p.tables.exec = Jvm.exec) (hb : c.code = cc) (hdg : decode cc pc = .ok (.dmul, 1))
    (kk : (kont (FP.dmul x y)).1 σ = some (r, σ9) → W p l e R s m args below meth c H locs cells slots Q (F0 m (pc + 1) ls (.double (FP.dmul x y) :: rest))) : W p l e R s m args below meth c H locs cells slots Q (F0 m pc ls (.double y :: .double x :: rest)) := by
  obtain ⟨h1, h2⟩ := xdb_bd h
  exact lv_dmul hx hb hdg h1 (kk h2)
theorem xr_ddiv {x y : UInt64} {kont : UInt64 → xM α} (h : (xbd (xdb (FP.ddiv x y)) kont).1 σ = some (r, σ9)) (hx : p.tables.exec = Jvm.exec) (hb : c.code = cc) (hdg : decode cc pc = .ok (.ddiv, 1))
    (kk : (kont (FP.ddiv x y)).1 σ = some (r, σ9) → W p l e R s m args below meth c H locs cells slots Q (F0 m (pc + 1) ls (.double (FP.ddiv x y) :: rest))) : W p l e R s m args below meth c H locs cells slots Q (F0 m pc ls (.double y :: .double x :: rest)) := by
  obtain ⟨h1, h2⟩ := xdb_bd h
  exact lv_ddiv hx hb hdg h1 (kk h2)
/-- static fields that nobody writes -/
theorem xr_gse0 {idx : Nat} {kont : Nat → xM α} (h : (xbd xe0 kont).1 σ = some (r, σ9)) (hX : xX E R p m c cc nL s args own nm meth ret fr lc σ0 σ9) (hI : xI E σ0 σ s H locs cells slots) (hlink : Cond.fieldLink own idx "java/util/ArrayList" "DEFAULTCAPACITY_EMPTY_ELEMENTDATA" "[Ljava/lang/Object;" ∈ lw_all) (hdg : decode cc pc = .ok (.getstatic idx, 3))
    (kk : ∀ v : Nat, (kont v).1 σ = some (r, σ9) → W p l e R s m args below meth c H locs cells slots Q (F0 m (pc + 3) ls (.ref v :: rest))) : W p l e R s m args below meth c H locs cells slots Q (F0 m pc ls rest) := by
  obtain ⟨v, h1, h2⟩ := xrd_bd h
  cases h1
  obtain ⟨⟨hx, hb, hml, hown, hts⟩, -, ⟨hZ, -⟩, -⟩ := hX
  have h3 := kk _ h2
  rw [hI.2.2.2.2.2.2] at h3
  exact va_gets hx hb hZ.1 hI.2.1 hown (hts _ hlink) (fun _ h => h) hdg h3
theorem xr_gsI {idx : Nat} {C n d : String} {v : Int32} (hX : xX E R p m c cc nL s args own nm meth ret fr lc σ0 σ9) (hI : xI E σ0 σ s H locs cells slots) (hZ : va_Z C n d (.int v) (xA E) s s.heap) (hlink : Cond.fieldLink own idx C n d ∈ lw_all) (hdg : decode cc pc = .ok (.getstatic idx, 3))
    (kk : W p l e R s m args below meth c H locs cells slots Q (F0 m (pc + 3) ls (.int v :: rest))) : W p l e R s m args below meth c H locs cells slots Q (F0 m pc ls rest) := by
  obtain ⟨⟨hx, hb, hml, hown, hts⟩, -⟩ := hX
  exact va_gets hx hb hZ hI.2.1 hown (hts _ hlink) (fun _ h => h) hdg kk
theorem xZsf (hX : xX E R p m c cc nL s args own nm meth ret fr lc σ0 σ9) : ∃ v : Option Nat, va_Z "jdk/internal/util/Preconditions" "SIOOBE_FORMATTER" "Ljava/util/function/BiFunction;" (va_rf v) (xA E) s s.heap := by
  rcases hX.2.2.1.2.1 with h | ⟨t, h⟩
  · exact ⟨none, h⟩
  · exact ⟨some t, h⟩
theorem xr_gsX {idx : Nat} {C n d : String} {v : Option Nat} (hX : xX E R p m c cc nL s args own nm meth ret fr lc σ0 σ9) (hI : xI E σ0 σ s H locs cells slots) (hZ : va_Z C n d (va_rf v) (xA E) s s.heap) (hlink : Cond.fieldLink own idx C n d ∈ lw_all) (hdg : decode cc pc = .ok (.getstatic idx, 3))
    (kk : W p l e R s m args below meth c H locs cells slots Q (F0 m (pc + 3) ls (va_rf v :: rest))) : W p l e R s m args below meth c H locs cells slots Q (F0 m pc ls rest) := by
  obtain ⟨⟨hx, hb, hml, hown, hts⟩, -⟩ := hX
  exact va_gets hx hb hZ hI.2.1 hown (hts _ hlink) (fun _ h => h) hdg kk
theorem xZcs (hX : xX E R p m c cc nL s args own nm meth ret fr lc σ0 σ9) : va_Z "java/lang/String" "COMPACT_STRINGS" "Z" (.int 1) (xA E) s s.heap := hX.2.2.1.1.2.2.1
theorem xZhi (hX : xX E R p m c cc nL s args own nm meth ret fr lc σ0 σ9) : va_Z "java/lang/StringUTF16" "HI_BYTE_SHIFT" "I" (.int 0) (xA E) s s.heap := hX.2.2.1.1.2.2.2.1
theorem xZlo (hX : xX E R p m c cc nL s args own nm meth ret fr lc σ0 σ9) : va_Z "java/lang/StringUTF16" "LO_BYTE_SHIFT" "I" (.int 8) (xA E) s s.heap := hX.2.2.1.1.2.2.2.2.1
theorem xZas (hX : xX E R p m c cc nL s args own nm meth ret fr lc σ0 σ9) : va_Z "java/lang/StringUTF16" "$assertionsDisabled" "Z" (.int 1) (xA E) s s.heap := hX.2.2.1.1.2.2.2.2.2
/-- references compared -/
theorem xr_acmp_eq {a b : Nat} {A B : xM α} {off : Int} {tgt : Nat} (h : (if a = b then A else B).1 σ = some (r, σ9)) (hx : p.tables.exec = Jvm.exec) (hb : c.code = cc) (hdg : decode cc pc = .ok (.if_acmp .eq off, 3)) (ht : (pc : Int) + off = (tgt : Int))
    (kt : A.1 σ = some (r, σ9) → W p l e R s m args below meth c H locs cells slots Q (F0 m tgt ls rest)) (kf : B.1 σ = some (r, σ9) → W p l e R s m args below meth c H locs cells slots Q (F0 m (pc + 3) ls rest)) : W p l e R s m args below meth c H locs cells slots Q (F0 m pc ls (.ref b :: .ref a :: rest)) :=
  lv_acmp_eq (rx := some a) (ry := some b) hx hb hdg ht (fun q => kt (xif_t h (Option.some.inj q))) (fun q => kf (xif_f h (fun z => q (by rw [z]))))
theorem xr_acmp_ne {a b : Nat} {A B : xM α} {off : Int} {tgt : Nat} (h : (if a = b then A else B).1 σ = some (r, σ9)) (hx : p.tables.exec = Jvm.exec) (hb : c.code = cc) (hdg : decode cc pc = .ok (.if_acmp .ne off, 3)) (ht : (pc : Int) + off = (tgt : Int))
    (kt : B.1 σ = some (r, σ9) → W p l e R s m args below meth c H locs cells slots Q (F0 m tgt ls rest)) (kf : A.1 σ = some (r, σ9) → W p l e R s m args below meth c H locs cells slots Q (F0 m (pc + 3) ls rest)) : W p l e R s m args below meth c H locs cells slots Q (F0 m pc ls (.ref b :: .ref a :: rest)) :=
  lv_acmp_ne (rx := some a) (ry := some b) hx hb hdg ht (fun q => kt (xif_f h (fun z => q (by rw [z])))) (fun q => kf (xif_t h (Classical.byContradiction fun z => z (by first | exact Option.some.inj q | (have q2 := Classical.not_not.mp q; exact Option.some.inj q2)))))
/-- what a call of a private method of the class above asks -/
theorem xCUp {own C : String} {index n maxL mc ms : Nat} {y : MethodName} {bytes : ByteArray} {rc : Option FieldType} {rm : Room} (hX : xX E R p m c cc nL s args own nm meth ret fr lc σ0 σ9) (hq : (C, y) ∈ xsl) (hl : Cond.methodLink own index y ∈ lw_all) (hsm : Cond.sameMethod y.cls y.cls y.name y.desc ∈ lw_all) (hins : Cond.instanceMethod y ∈ lw_all) (hini : Cond.initialized y.cls ∈ lw_all) (hcd : Cond.code y bytes maxL rc ∈ lw_all) (hd : y.cls ≠ "java/lang/invoke/MethodHandle" ∧ y.cls ≠ "java/lang/invoke/VarHandle" ∧ (parseMethodDescriptor y.desc).map (fun d => d.parameters.length) = some n) (hrc : rm.cells = mc) (hrs : rm.slots = ms) (hR : rm.frames + 1 ≤ R.frames ∧ 8 + (maxL + 11) + rm.locals ≤ R.locals) : va_CU R s args own C y.cls index y y bytes maxL rc (ws_ y bytes maxL rc) rm mc ms n := by
  obtain ⟨⟨hx, hb, hml, hown, hts⟩, ⟨hK, hN⟩, -⟩ := hX
  refine ⟨⟨hrc, hrs, hR.1, hR.2, pay_in hts (lw_meth hcd), List.mem_cons_self⟩, hts _ hcd, hts _ hini, ⟨hd.1, hd.2.1⟩, fun sig h => ?_, hts _ hl, hts _ hsm, va_Decl.of (hts _ hins) (hts _ hcd), va_Nw.use rfl (hN.2.2.2.2.2.2.1 _ hq), hts _ hins⟩
  have h2 := hd.2.2
  rw [h] at h2
  exact (Option.some.inj h2).symm
theorem xiinc {x k : Int32} {n : Int} (h : Int32.ofInt n = k) : x + Int32.ofInt n = x + k := by rw [h]
theorem xck_bd {ci a : Nat} {k : Unit → xM α} (h : (xbd (xck ci a) k).1 σ = some (r, σ9)) : (∃ fs, σ.1 a = some (.inl (ci, fs))) ∧ (k ()).1 σ = some (r, σ9) := by
  obtain ⟨_, -, h2⟩ := xrd_bd h
  exact ⟨xck_of h, h2⟩
theorem xckR_bd {t a : Nat} {k : Unit → xM α} (h : (xbd (xckR t a) k).1 σ = some (r, σ9)) : (∃ n f, xarr σ t a = some (n, f)) ∧ (k ()).1 σ = some (r, σ9) := by
  obtain ⟨_, h1, h2⟩ := xrd_bd h
  cases h3 : xarr σ t a with
  | none => rw [h3] at h1; cases h1
  | some w => exact ⟨⟨w.1, w.2, rfl⟩, h2⟩
theorem xstart2 {X : State → Prop} {l : Launch} {y : MethodName} {maxL : Nat} {av : List Value} {σ σ' : xS} {v : Option Value} (hy : plainFor y = true) (hm : σ.2.1 ≤ σ'.2.1 ∧ σ.2.2.1 ≤ σ'.2.2.1 ∧ σ'.2.2.2 = σ.2.2.2) (hle : (lg_sl av).length ≤ maxL)
    (body : ∀ (p : Program) (e : Env) (s : State) (m : MethodId) (args : Array Value) (below : List Frame) (meth : Method) (c : Code) (H : Heap) (locs : List Loc) (cells slots : Nat) (ls : Array Slot) (R : Room), X s → xX E R p m c cc maxL s args y.cls y.name meth ret fr lc σ σ' → xI E σ σ s H locs cells slots → lv_has ls maxL (lv_args 0 av) →
      W p l e R s m args below meth c H locs cells slots (xMQ E below args s σ σ' v) (F0 m 0 ls [])) : Met l y (ws_ y cc maxL ret) (xrm fr lc σ σ') (fun a U => xPc E σ av a U ∧ X U) (xQ E σ' v) (σ'.2.1 - σ.2.1) (σ'.2.2.1 - σ.2.2.1) (xA E) := by
  refine va_MetF (cc := cc) (maxL := maxL) (ret := ret) hy rfl ?_
  intro p e s m args below meth c s₁ B hml hv
  obtain ⟨⟨rfl, hR, hK, hZ, hb0⟩, hXs⟩ := hv
  have hts := atoms_spec (ws := ws_ y cc maxL ret) B.pre
  have hts : ∀ w ∈ lw_all, w.before _ s = true := fun w h => hts w (List.mem_cons_of_mem _ h)
  have hown : s.vm.findClass y.cls = some m.cls := findClass_of_methodNamed B.named
  have hin : meth.name = y.name := (name_of_methodNamed B.named B.method).1
  have hl := lv_entry av (n := maxL) hle
  rw [lg_entry_eq]
  generalize (lg_sl av ++ List.replicate (maxL - (lg_sl av).length) Slot.unset).toArray = ls at hl ⊢
  exact body p e s m av.toArray below meth c s.heap [] 0 0 ls (xrm fr lc σ σ') hXs ⟨⟨B.exec, B.bytes, hml, hown, hts⟩, hK, hZ, ⟨Nat.le_refl _, Nat.le_refl _, Nat.le_refl _, Nat.le_refl _⟩, hR.1, by rw [← hR.1]; exact hb0, hin, B.returns, B.notSynchronized, hm.2.2⟩ ⟨hR, va_S.rf, (Nat.sub_self _).symm, (Nat.sub_self _).symm, Nat.le_refl _, Nat.le_refl _, rfl⟩ hl
/-- a switch's default: none of the values -/
theorem xtblo {x : Int32} {lo hi : Int} {L : List Int32} (h1 : (L.map Int32.toInt) = (List.range L.length).map (fun (i : Nat) => lo + (i : Int))) (h2 : lo + (L.length : Int) = hi + 1) (h : ∀ z ∈ L, ¬ x = z) : x.toInt < lo ∨ hi < x.toInt := by
  apply Classical.byContradiction
  intro hc
  have hlo : ¬ x.toInt < lo := fun q => hc (Or.inl q)
  have hhi : ¬ hi < x.toInt := fun q => hc (Or.inr q)
  obtain ⟨i, hi'⟩ : ∃ i : Nat, x.toInt = lo + (i : Int) := ⟨(x.toInt - lo).toNat, by omega⟩
  have hil : i < L.length := by omega
  have h3 : (L.map Int32.toInt)[i]? = some (lo + (i : Int)) := by
    rw [h1]
    simp [hil]
  rw [List.getElem?_map] at h3
  cases h4 : L[i]? with
  | none => rw [h4] at h3; cases h3
  | some z =>
    rw [h4] at h3
    simp at h3
    refine h z (List.mem_of_getElem? h4) (Int32.toInt_inj.mp ?_)
    omega
end XR4
