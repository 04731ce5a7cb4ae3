/-! the machine's own ArrayStoreException, caught in the same method -/
set_option maxRecDepth 100000
theorem xshown {vm : Vm} {C : String} {c : ClassId} (h : vm.findClass C = some c) : ∃ k, vm.classes[c]? = some k ∧ k.shown = dotted C := by
  obtain ⟨hlt, hp, _⟩ := Array.findIdx?_eq_some_iff_getElem.mp h
  refine ⟨vm.classes[c], by simp [hlt], ?_⟩
  simp only [Bool.and_eq_true, beq_iff_eq] at hp
  have h1 := hp.1.1.1
  have h2 : (vm.classes[c]).hidden = none := by simpa using hp.1.1.2
  unfold Class.shown
  rw [h2]
  simp [h1]
section XH
variable {E : xE} {p : Program} {l : Launch} {e : Env} {R : Room} {s : State} {m : MethodId} {args : Array Value} {below : List Frame} {meth : Method} {c : Code} {H : Heap} {locs : List Loc} {cells slots : Nat} {Q : State → Prop}
variable {cc : ByteArray} {pc nL fr lc : Nat} {ls : Array Slot} {rest : List Value} {own nm : String} {ret : Option FieldType} {σ0 σ σ9 : xS} {α β : Type} {r : α}
variable {T : State}
theorem xs_ase (X : Stand p l e R s m args below meth c T locs cells slots) (hexec : p.tables.exec = Jvm.exec) {a v : Addr} {cell cv : Cell} {C : String} {k kcomp : Class} {comp : ClassId} {t : FieldType}
    (hcell : T.heap[a]? = some cell) (hobj : ∀ x, cell.vm ≠ .statics x) (hk : s.vm.classes[cell.cls]? = some k) (hkind : k.kind = .array comp t) (hkcomp : s.vm.classes[comp]? = some kcomp) (hin : 0 < cell.slots.size)
    (hv : T.heap[v]? = some cv) (hvobj : ∀ x, cv.vm ≠ .statics x) (hcv : s.vm.findClass C = some cv.cls) (hno : s.vm.assignable cv.cls comp = false)
    {g : JFrame} (hg : g.method = m) {rest : List Value} (hstack : g.stack = .ref v :: .int 0 :: .ref a :: rest) (hdg : decode c.code g.pc = .ok (.aastore, 1)) :
    ∀ target, Steps p.tables e below ((T.setTop { g with stack := rest }).pushFrame (.throwNew "java/lang/ArrayStoreException" (some (dotted C)) none)) target → Steps p.tables e below (T.setTop g) target := by
  intro target hrest
  have hal : s.vm.Alike T.vm := X.warmed.alike
  obtain ⟨k₁, hk₁, hek⟩ := hal.2.2 _ _ hk
  have hkind₁ : k₁.kind = .array comp t := by rw [hek]; exact hkind
  obtain ⟨kcomp₁, hkcomp₁, -⟩ := hal.2.2 _ _ hkcomp
  obtain ⟨kv, hkv, hsh⟩ := xshown (vm := T.vm) (C := C) (c := cv.cls) (by rw [hal.findClass]; exact hcv)
  have hno₁ : T.vm.assignable cv.cls comp = false := by rw [hal.assignable]; exact hno
  have harr : T.isArray cell := ⟨hobj, k₁, hk₁, comp, t, hkind₁⟩
  have hi0 : ¬ ((0 : Int32) < 0) := by decide
  have hlt : (0 : Int32).toNatClampNeg < cell.slots.size := hin
  subst hg
  jvm_step X.here [hexec, hdg, aastore.sem, hstack, hcell, hobj, hk₁, hkind₁, harr, hi0, hlt, Nat.not_le.mpr hlt, hv, hvobj, hkv, hkcomp₁, hno₁, hsh]
  rw [if_neg (fun h => by rw [h] at hin; exact absurd hin (by decide))]
  exact hrest
end XH
def xa_names : List String := ["java/lang/RuntimeException", "java/lang/Exception"]
theorem xa_hat {A : Nat → Prop} {args : Array Value} {s : State} (hts : ∀ w ∈ lw_all, w.before args s = true) (hN : xN s) (hU : vx_Zq Bundle.tN "UNASSIGNED_STACK" Bundle.steD A s s.heap) (hS : vx_Zq Bundle.tN "SUPPRESSED_SENTINEL" Bundle.listD A s s.heap) : ∀ w ∈ Bundle.messageArmAtoms "java/lang/ArrayStoreException" xa_names, w.before args s = true := by
  simp only [Bundle.messageArmAtoms, xa_names, Bundle.throwableAtoms, Bundle.throwableSAtoms, Bundle.chainSAtoms, Bundle.passSAtoms, Bundle.stringAtoms, List.append_assoc, List.cons_append, List.nil_append, List.forall_mem_cons]
  exact ⟨hts _ q96, hts _ q538, hts _ q547, hts _ q551, hts _ q554, hts _ q556, hts _ q539, hts _ q540, hts _ q123, hts _ q124, hts _ q541, hts _ q546, hts _ q552, hts _ q806, hts _ q528, hts _ q807, hts _ q530, hts _ q808, hts _ q532, hts _ q542, hU.2.word, hts _ q544, hS.2.word, hts _ q534,
    hts _ q1926, hts _ q1927, hts _ q805, hts _ q534,
    hts _ q1917, hts _ q1918, hts _ q1919, hts _ q1920, va_Nw.use rfl (hN.1 _ q520 rfl),
    hts _ q1920, hts _ q1921, hts _ q1922, hts _ q1923, va_Nw.use rfl (hN.1 _ q522 rfl),
    hts _ q1923, hts _ q1924, hts _ q1925, hts _ q1926, va_Nw.use rfl (hN.1 _ q524 rfl),
    hts _ q85, hts _ q749, hts _ q285, hts _ q795, hts _ q797, hts _ q796, hts _ q798,
    hts _ q116, hts _ q1916, va_Nw.use rfl (hN.1 _ q1935 rfl), hts _ q1936, hts _ q550, hts _ q1930, hts _ q1931, hts _ q1933, hts _ q1929, vx_isRefq hU.1, vx_isRefq hS.1, hts _ q804, hts _ q536, hts _ q1928, fun w h => by cases h⟩
theorem xa_good : ∀ w ∈ vx_atM "java/lang/ArrayStoreException" xa_names, vx_ot w = true := by
  intro w hw
  have h1 := (List.mem_filter.mp hw).1
  have h2 := (List.mem_filter.mp hw).2
  revert h2
  revert w
  intro w hw h1
  revert h1
  clear hw
  revert w
  simp only [Bundle.messageArmAtoms, xa_names, Bundle.throwableAtoms, Bundle.throwableSAtoms, Bundle.chainSAtoms, Bundle.passSAtoms, Bundle.stringAtoms, List.append_assoc, List.cons_append, List.nil_append, List.forall_mem_cons]
  refine ⟨?_, ?_, ?_, ?_, ?_, ?_, ?_, ?_, ?_, ?_, ?_, ?_, ?_, ?_, ?_, ?_, ?_, ?_, ?_, ?_, ?_, ?_, ?_, ?_, ?_, ?_, ?_, ?_, ?_, ?_, ?_, ?_, ?_, ?_, ?_, ?_, ?_, ?_, ?_, ?_, ?_, ?_, ?_, ?_, ?_, ?_, ?_, ?_, ?_, ?_, ?_, ?_, ?_, ?_, ?_, ?_, ?_, ?_, ?_, ?_, ?_, ?_, ?_, ?_, fun w h => by cases h⟩ <;> first
    | exact fun _ => rfl
    | (intro h; simp [vx_no] at h)
theorem vp_cell_size (cA : ClassId) (n : Nat) (f : xK0) : (vp_cell cA (n, f)).slots.size = n ∧ (vp_cell cA (n, f)).vm = .none ∧ (vp_cell cA (n, f)).cls = cA := by
  have : ∃ z, vp_cell cA (n, f) = arrV cA n z := by
    rcases f with f | f | f | f | f
    · exact ⟨_, vp_cell_i _ _ _⟩
    · exact ⟨_, vp_cell_l _ _ _⟩
    · exact ⟨_, vp_cell_f _ _ _⟩
    · exact ⟨_, vp_cell_d _ _ _⟩
    · exact ⟨_, vp_cell_q _ _ _⟩
  obtain ⟨z, hz⟩ := this
  rw [hz]
  exact ⟨arrV_size _ _ _, rfl, rfl⟩
section XJ
variable {E : xE} {p : Program} {l : Launch} {e : Env} {R : Room} {s : State} {m : MethodId} {args : Array Value} {below : List Frame} {meth : Method} {c : Code} {H : Heap} {locs : List Loc} {cells slots : Nat} {Q : State → Prop}
variable {cc : ByteArray} {pc nL fr lc : Nat} {ls : Array Slot} {rest : List Value} {own nm : String} {ret : Option FieldType} {σ0 σ σ9 : xS} {α β : Type} {r : α}
theorem xa_throw {C D : String} {a v t ci : Nat} {n : Nat} {f : xK0} {fs : List Value} {KX : xM α} {x : ExceptionTableEntry} {suf : List ExceptionTableEntry} {tgt : Nat} {rr : vw_C} (hl0 : l.stackTraces = false) (h : (xbd xbump fun _ => KX).1 σ = some (r, σ9)) (hX : xX E R p m c cc nL s args own nm meth ret fr lc σ0 σ9) (hI : xI E σ0 σ s H locs cells slots)
    (ha : σ.1 a = some (.inr (t, n, f))) (hv : σ.1 v = some (.inl (ci, fs))) (hn : 0 < n) (ht7 : t < 7) (hty : xty t = .object D) (hci : xcl[ci]? = some rr) (hrr : rr.1 = C) (hno : va_Nc C D s) (hsz9 : (stringBytes (stringToUtf16 (dotted C))).size ≤ 16) (hnm9 : (dotted C == notModelled) = false)
    (hE : c.exceptionTable.toList = x :: suf) (hcov : covers x pc = true) (h0 : x.catchType ≠ 0) (ht : x.handlerPc = tgt) (hlink : Cond.classLink own x.catchType "java/lang/ArrayStoreException" ∈ lw_all) (hsz : ls.size = nL) (hR : Nat.ble 7 fr = true ∧ Nat.ble 10250 lc = true) (hst : (rest.map fun v => v.category).sum ≤ 8) (hdg : decode cc pc = .ok (.aastore, 1))
    (kx : ∀ (q : Nat) (H1 : Heap) (σ1 : xS) (cells1 slots1 : Nat), KX.1 σ1 = some (r, σ9) → xI E σ0 σ1 s H1 locs cells1 slots1 → W p l e R s m args below meth c H1 locs cells1 slots1 Q (F0 m tgt ls [.ref q])) : W p l e R s m args below meth c H locs cells slots Q (F0 m pc ls (.ref v :: .int 0 :: .ref a :: rest)) := by
  have hX0 := hX
  obtain ⟨⟨hx, hb, hml, hown, hts⟩, ⟨hK, hN⟩, hZ, ⟨-, -, hfr, hlc⟩, hs0, hb0, -, -, hlk, -⟩ := hX
  subst hrr
  -- the array
  have hA : H[a]? = some (vp_cell (E.2.1 t) (n, f)) := by
    rcases hI.1.2 a _ ha with ⟨h4, -⟩ | ⟨h4, -, -⟩
    · cases h4; exact absurd ht7 (by decide)
    · exact h4
  obtain ⟨z1, z2, z3⟩ := vp_cell_size (E.2.1 t) n f
  obtain ⟨⟨r', hr1, cv, g1, g2, g3, -⟩, -⟩ := xat_obj hI hv
  cases hci.symm.trans hr1
  have hcls := (hK.1 ci rr hci).2
  have hra := (hK.2 t _ (xtys_at E ht7)).2
  rw [hty] at hra
  obtain ⟨kA, comp, hkA, hkind, hcomp, -⟩ := hra
  obtain ⟨c1, t1, q1, q2, q3⟩ := hno
  cases Option.some.inj (hcomp.symm.trans q2)
  cases Option.some.inj (hcls.1.symm.trans q1)
  obtain ⟨kcomp, hkcomp, -⟩ := Vm.findClass_spec hcomp
  have h2 : KX.1 (σ.1, σ.2.1 + 3, σ.2.2.1 + 26, σ.2.2.2) = some (r, σ9) := h
  have m2 := KX.2 _ _ _ h2
  have hfit := xfits (σ1 := (σ.1, σ.2.1 + 3, σ.2.2.1 + 26, σ.2.2.2)) hX0 hI ⟨Nat.le_add_right _ _, Nat.le_add_right _ _, rfl⟩ m2
  have hfit1 : cells + 3 ≤ R.cells := by
    have h7 := hfit.1
    simp only at h7
    omega
  have hfit2 : slots + 26 ≤ R.slots := by
    have h7 := hfit.2
    simp only at h7
    omega
  have hsc : ls.size = c.maxLocals := hsz.trans hml.symm
  have hnote : vx_Note p l e R s m args below meth c H locs cells slots Q (F0 m pc ls rest) "java/lang/ArrayStoreException" (dotted rr.1) := by
    refine vx_vm (nb := 16) (names := xa_names) (A := xA E) hx hl0 (by decide +kernel) (by decide +kernel) (by decide +kernel) (by decide +kernel) (fun w hw => xa_hat hts hN hZ.2.2.1 hZ.2.2.2 w (List.mem_filter.mp hw).1) xa_good hZ.2.2.1 hZ.2.2.2 hI.2.1 hsc hnm9 hsz9 (by decide) (by show 2 + 4 < R.frames; have := Nat.le_of_ble_eq_true hR.1; omega) (by have := Nat.le_of_ble_eq_true hR.2; omega) (by decide) hfit1 hfit2 hlk ?_
    intro H1 q9 ce e1 e2 e3 hce hcv hcl
    refine xr_catch hX0 hE hcov h0 ht hlink q1935 hce hcv hcl ?_
    refine kx q9 H1 _ _ _ h2 ?_
    obtain ⟨⟨hz, hR1⟩, hS, f1, f2, f3, f4, f5⟩ := hI
    refine ⟨⟨by rw [e1, hz], fun q d hd => ?_⟩, e3, ?_, ?_, ?_, ?_, f5⟩
    · rcases hR1 q d hd with ⟨h6, h7⟩ | ⟨h6, h7, h8⟩
      · exact Or.inl ⟨h6, h7⟩
      · exact Or.inr ⟨h6.kept (e2 q h6.lt), h7, h8⟩
    · show _ = σ.2.1 + 3 - σ0.2.1
      omega
    · show _ = σ.2.2.1 + 26 - σ0.2.2.1
      omega
    · show _ ≤ σ.2.1 + 3
      omega
    · show _ ≤ σ.2.2.1 + 26
      omega
  intro T hT X
  obtain ⟨t9, st, q⟩ := hnote T hT X
  exact ⟨t9, xs_ase X hx (C := rr.1) (by rw [hT]; exact hA) (by rw [z2]; intro x h; cases h) (by rw [z3]; exact hkA) hkind hkcomp (by rw [z1]; exact hn) (by rw [hT]; exact g1) (by rw [g3]; intro x h; cases h) (by rw [g2]; exact hcls.1) (by rw [g2]; exact q3) (g := F0 m pc ls (.ref v :: .int 0 :: .ref a :: rest)) rfl (rest := rest) rfl (by rw [hb]; exact hdg) t9 st, q⟩
theorem xr_ak0 {a v : Nat} {K5 K6 KX : xM α} {x : ExceptionTableEntry} {suf : List ExceptionTableEntry} {tgt : Nat} (hl0 : l.stackTraces = false) (h : (xbd (xak a v) fun t => if t = 5 then K5 else if t = 6 then K6 else xbd xbump fun _ => KX).1 σ = some (r, σ9)) (hX : xX E R p m c cc nL s args own nm meth ret fr lc σ0 σ9) (hI : xI E σ0 σ s H locs cells slots)
    (hE : c.exceptionTable.toList = x :: suf) (hcov : covers x pc = true) (h0 : x.catchType ≠ 0) (ht : x.handlerPc = tgt) (hlink : Cond.classLink own x.catchType "java/lang/ArrayStoreException" ∈ lw_all) (hsz : ls.size = nL) (hR : Nat.ble 7 fr = true ∧ Nat.ble 10250 lc = true) (hst : (rest.map fun v => v.category).sum ≤ 8) (hdg : decode cc pc = .ok (.aastore, 1))
    (k5 : K5.1 σ = some (r, σ9) → W p l e R s m args below meth c H locs cells slots Q (F0 m pc ls (.ref v :: .int 0 :: .ref a :: rest)))
    (k6 : K6.1 σ = some (r, σ9) → W p l e R s m args below meth c H locs cells slots Q (F0 m pc ls (.ref v :: .int 0 :: .ref a :: rest)))
    (kx : ∀ (q : Nat) (H1 : Heap) (σ1 : xS) (cells1 slots1 : Nat), KX.1 σ1 = some (r, σ9) → xI E σ0 σ1 s H1 locs cells1 slots1 → W p l e R s m args below meth c H1 locs cells1 slots1 Q (F0 m tgt ls [.ref q])) : W p l e R s m args below meth c H locs cells slots Q (F0 m pc ls (.ref v :: .int 0 :: .ref a :: rest)) := by
  obtain ⟨t, h1, h2⟩ := xrd_bd h
  cases ha : σ.1 a with
  | none => rw [ha] at h1; cases h1
  | some w =>
    cases hv : σ.1 v with
    | none => rw [ha, hv] at h1; rcases w with o | o <;> cases h1
    | some z =>
      rw [ha, hv] at h1
      rcases w with o | ⟨tg, n, f⟩
      · cases h1
      · rcases z with ⟨ci, fs⟩ | o
        · simp only at h1
          by_cases hn : 0 < n
          · rw [if_pos hn] at h1
            by_cases c1 : tg = 5 ∧ ci = 6
            · rw [if_pos c1] at h1
              cases h1
              exact k5 h2
            · rw [if_neg c1] at h1
              by_cases c2 : tg = 6 ∧ ci = 4
              · rw [if_pos c2] at h1
                cases h1
                exact k6 h2
              · rw [if_neg c2] at h1
                by_cases c3 : tg = 5 ∧ ci = 4
                · rw [if_pos c3] at h1
                  cases h1
                  obtain ⟨rfl, rfl⟩ := c3
                  exact xa_throw (C := "PayMatch$Invoice") (D := "PayMatch$Order") hl0 h2 hX hI ha hv hn (by decide) rfl rfl rfl hX.2.1.2.2.2.2.2.2.2.2.1 (by decide +kernel) (by decide +kernel) hE hcov h0 ht hlink hsz hR hst hdg kx
                · rw [if_neg c3] at h1
                  by_cases c4 : tg = 6 ∧ ci = 6
                  · rw [if_pos c4] at h1
                    cases h1
                    obtain ⟨rfl, rfl⟩ := c4
                    exact xa_throw (C := "PayMatch$Order") (D := "PayMatch$Invoice") hl0 h2 hX hI ha hv hn (by decide) rfl rfl rfl hX.2.1.2.2.2.2.2.2.2.2.2 (by decide +kernel) (by decide +kernel) hE hcov h0 ht hlink hsz hR hst hdg kx
                  · rw [if_neg c4] at h1
                    cases h1
          · rw [if_neg hn] at h1
            cases h1
        · cases h1
theorem xr_ak {a v : Nat} {i : Int32} {K5 K6 KX : xM α} {x : ExceptionTableEntry} {suf : List ExceptionTableEntry} {tgt : Nat} (hl0 : l.stackTraces = false) (h : (xbd (xaki a i v) fun t => if t = 5 then K5 else if t = 6 then K6 else xbd xbump fun _ => KX).1 σ = some (r, σ9)) (hX : xX E R p m c cc nL s args own nm meth ret fr lc σ0 σ9) (hI : xI E σ0 σ s H locs cells slots)
    (hE : c.exceptionTable.toList = x :: suf) (hcov : covers x pc = true) (h0 : x.catchType ≠ 0) (ht : x.handlerPc = tgt) (hlink : Cond.classLink own x.catchType "java/lang/ArrayStoreException" ∈ lw_all) (hsz : ls.size = nL) (hR : Nat.ble 7 fr = true ∧ Nat.ble 10250 lc = true) (hst : (rest.map fun v => v.category).sum ≤ 8) (hdg : decode cc pc = .ok (.aastore, 1))
    (k5 : K5.1 σ = some (r, σ9) → W p l e R s m args below meth c H locs cells slots Q (F0 m pc ls (.ref v :: .int i :: .ref a :: rest)))
    (k6 : K6.1 σ = some (r, σ9) → W p l e R s m args below meth c H locs cells slots Q (F0 m pc ls (.ref v :: .int i :: .ref a :: rest)))
    (kx : ∀ (q : Nat) (H1 : Heap) (σ1 : xS) (cells1 slots1 : Nat), KX.1 σ1 = some (r, σ9) → xI E σ0 σ1 s H1 locs cells1 slots1 → W p l e R s m args below meth c H1 locs cells1 slots1 Q (F0 m tgt ls [.ref q])) : W p l e R s m args below meth c H locs cells slots Q (F0 m pc ls (.ref v :: .int i :: .ref a :: rest)) := by
  obtain ⟨b, σ1, h1, h2⟩ := xbd_some h
  obtain ⟨u, h3, h4⟩ := xrd_bd h1
  have hi : i = 0 := by
    by_cases hi : i == 0
    · exact eq_of_beq hi
    · rw [if_neg hi] at h3
      cases h3
  subst hi
  refine xr_ak0 hl0 (r := r) (a := a) (v := v) (K5 := K5) (K6 := K6) (KX := KX) ?_ hX hI hE hcov h0 ht hlink hsz hR hst hdg k5 k6 kx
  rw [xbd_at h4]
  exact h2
end XJ
