/-! rows: calls, answers, members of the JDK that the machine has itself -/
set_option maxRecDepth 100000
section XR3
variable {E : xE} {p : Program} {l : Launch} {e : Env} {R : Room} {s : State} {m : MethodId} {args : Array Value} {below : List Frame} {meth : Method} {c : Code} {H : Heap} {locs : List Loc} {cells slots : Nat} {Q : State → Prop}
variable {cc : ByteArray} {pc nL fr lc : Nat} {ls : Array Slot} {rest : List Value} {own nm : String} {ret : Option FieldType} {σ0 σ σ9 : xS} {α β : Type} {r : α}
theorem xPc_blind {σ : xS} {av : List Value} : FrameBlind (xPc E σ av) := fun a U g mk h => by
  obtain ⟨h1, h2, h3, ⟨⟨z1, z2, z3, z4, z5, z6⟩, z7⟩, h5⟩ := h
  have hv : U.vm.Alike (U.calling g mk a).vm := Vm.Alike.refl U.vm
  have hW : ∀ {w : Cond}, va_Nw w U → xbw w = true → va_Nw w (U.calling g mk a) := fun {w} h hb => va_Nw.same (by cases w <;> first | rfl | cases hb) (rfl : U.vm = (U.calling g mk a).vm) h
  refine ⟨h1, h2, ⟨va_K.moved hv h3.1, ?_⟩, ⟨⟨z1.moved hv, z2.moved hv, z3.moved hv, z4.moved hv, z5.moved hv, z6.moved hv⟩, va_Zq.moved hv z7.1, vx_Zq.moved hv z7.2.1, vx_Zq.moved hv z7.2.2⟩, h5⟩
  obtain ⟨n1, n2, ⟨n3, n4, n5, n6⟩, ⟨mi, n7⟩, n8, n9, n10, n11, n12⟩ := h3.2
  exact ⟨fun w hw hb => hW (n1 w hw hb) hb, fun q hq => (n2 q hq).moved (xfw_ok q hq) hv, ⟨n3.moved hv, n4.moved hv, n5.moved hv, n6.moved hv⟩, ⟨mi, n7.moved hv⟩, n8.moved hv, n9, (fun q hq => va_Nw.same rfl (rfl : U.vm = (U.calling g mk a).vm) (n10 q hq)), n11.moved hv, n12.moved hv⟩
theorem xPc_at (hX : xX E R p m c cc nL s args own nm meth ret fr lc σ0 σ9) (hI : xI E σ0 σ s H locs cells slots) {As : List Value} {U : State} (hU : U.heap = H) (hW : s.WarmedH U.vm) : xPc E σ As As.toArray U := by
  obtain ⟨-, hK, hZ, -, hs0, hb0, -⟩ := hX
  obtain ⟨hR, hS, -, -, h3, -, h5⟩ := hI
  refine ⟨rfl, by rw [hU]; exact hR, hK.moved hW, by rw [h5]; exact hZ.to hS hU hW, ?_⟩
  rw [hU, hR.1]
  exact Nat.le_trans hb0 h3
/-- the machine goes on behind a call -/
theorem xgo {σ1 : xS} {v : Option Value} {mc ms pcn : Nat} {st0 : List Value} {a : Array Value} (hX : xX E R p m c cc nL s args own nm meth ret fr lc σ0 σ9) (hI : xI E σ0 σ s H locs cells slots) (h1 : σ.2.1 ≤ σ1.2.1 ∧ σ.2.2.1 ≤ σ1.2.2.1 ∧ σ1.2.2.2 = σ.2.2.2) (hmc : mc = σ1.2.1 - σ.2.1) (hms : ms = σ1.2.2.1 - σ.2.2.1)
    (hr : ∀ T : State, T.heap = H → Stand p l e R s m args below meth c T locs cells slots → ∃ (v' : Option Value) (st₀ t T' : State) (L : List Loc), st₀.heap = H ∧ Stand p l e R s m args below meth c T' (locs ++ L) (cells + mc) (slots + ms) ∧ (∀ q ∈ L, xA E q.base) ∧ T'.heap = t.heap ∧ T'.vm = t.vm ∧ xQ E σ1 v a st₀ (.returned v') t ∧ Goes p e below T (F0 m pc ls st0) T' (F0 m pcn ls (v'.toList ++ rest)))
    (kk : ∀ (H1 : Heap) (locs1 : List Loc) (cells1 slots1 : Nat), xI E σ0 σ1 s H1 locs1 cells1 slots1 → W p l e R s m args below meth c H1 locs1 cells1 slots1 Q (F0 m pcn ls (v.toList ++ rest))) : W p l e R s m args below meth c H locs cells slots Q (F0 m pc ls st0) := by
  obtain ⟨-, hK, hZ, -, hs0, hb0, -⟩ := hX
  obtain ⟨hR, hS, e1, e2, h3, h4, h5⟩ := hI
  intro T hT X
  obtain ⟨v', st₀, t, T', L, h0, X', hL, f1, f2, ⟨hv, hR1, hz, hk⟩, st⟩ := hr T hT X
  have hv' : v' = v := by cases hv; rfl
  subst hv'
  rw [h0] at hz hk
  have hS1 : va_S (xA E) s.heap T'.heap (locs ++ L) := ⟨Nat.le_trans hS.1 (by rw [f1]; exact hz), fun q g1 g2 => by rw [f1, hk q (Nat.lt_of_lt_of_le g1 hS.1) g2]; exact hS.2.1 q g1 g2, fun q hq => by
    rcases List.mem_append.mp hq with g | g
    · exact hS.2.2 q g
    · exact hL q g⟩
  have hI1 : xI E σ0 σ1 s T'.heap (locs ++ L) (cells + mc) (slots + ms) := by
    refine ⟨by rw [f1]; exact hR1, hS1, ?_, ?_, ?_, ?_, h1.2.2.trans h5⟩
    · rw [e1, hmc]; have := h1.1; omega
    · rw [e2, hms]; have := h1.2.1; omega
    · exact Nat.le_trans h3 h1.1
    · exact Nat.le_trans h4 h1.2.1
  obtain ⟨t2, a1, b1⟩ := kk _ _ _ _ hI1 T' rfl X'
  exact ⟨t2, st t2 a1, b1⟩
theorem xfits {σ1 : xS} (hX : xX E R p m c cc nL s args own nm meth ret fr lc σ0 σ9) (hI : xI E σ0 σ s H locs cells slots) (h1 : σ.2.1 ≤ σ1.2.1 ∧ σ.2.2.1 ≤ σ1.2.2.1 ∧ σ1.2.2.2 = σ.2.2.2) (h2 : σ1.2.1 ≤ σ9.2.1 ∧ σ1.2.2.1 ≤ σ9.2.2.1 ∧ σ9.2.2.2 = σ1.2.2.2) : cells + (σ1.2.1 - σ.2.1) ≤ R.cells ∧ slots + (σ1.2.2.1 - σ.2.2.1) ≤ R.slots := by
  obtain ⟨-, -, -, ⟨e1, e2, -⟩, -⟩ := hX
  obtain ⟨-, -, e3, e4, h3, h4, -⟩ := hI
  rw [e3, e4]
  omega
theorem xhR {fr' lc' maxL : Nat} (hX : xX E R p m c cc nL s args own nm meth ret fr lc σ0 σ9) (h : Nat.ble (fr' + 1) fr = true ∧ Nat.ble (8 + (maxL + 11) + lc') lc = true) : fr' + 1 ≤ R.frames ∧ 8 + (maxL + 11) + lc' ≤ R.locals := by
  obtain ⟨-, -, -, ⟨-, -, e1, e2⟩, -⟩ := hX
  exact ⟨Nat.le_trans (Nat.le_of_ble_eq_true h.1) e1, Nat.le_trans (Nat.le_of_ble_eq_true h.2) e2⟩
theorem xrecv {a ci : Nat} {fs : List Value} {rr : vw_C} (hX : xX E R p m c cc nL s args own nm meth ret fr lc σ0 σ9) (hI : xI E σ0 σ s H locs cells slots) (hc : xcl[ci]? = some rr) (h : σ.1 a = some (.inl (ci, fs))) : ∃ cell : Cell, H[a]? = some cell ∧ cell.vm.isStatics = false ∧ s.vm.findClass rr.1 = some cell.cls := by
  obtain ⟨g1, g2⟩ := xat_obj hI h
  obtain ⟨r', hr1, cell, q1, q2, q3, q4⟩ := g1
  cases hc.symm.trans hr1
  have hcls := (hX.2.1.1.1 ci rr hc).2
  exact ⟨cell, q1, by rw [q3]; rfl, by rw [q2]; exact hcls.1⟩
variable {y : MethodName} {bytes : ByteArray} {maxL n index ci a : Nat} {rc : Option FieldType} {fr' lc' : Nat} {As : List Value} {rr : vw_C} {iv : β → Option Value} {fc : xM β} {kont : β → xM α}
/-- a call through an object: the class is the method's own -/
theorem xr_callV (h : (xbd fc kont).1 σ = some (r, σ9)) (hX : xX E R p m c cc nL s args own nm meth ret fr lc σ0 σ9) (hI : xI E σ0 σ s H locs cells slots) (hM : ∀ (b : β) (σ1 : xS), fc.1 σ = some (b, σ1) → xMet E l y (ws_ y bytes maxL rc) fr' lc' (.ref a :: As) σ σ1 (iv b)) (hO : ∀ (b : β) (σ1 : xS), fc.1 σ = some (b, σ1) → ∃ fs, σ.1 a = some (.inl (ci, fs))) (hc : xcl[ci]? = some rr) (n : Nat)
    (hT : GoodIn lw_all (wsV own index rr.1 y (ws_ y bytes maxL rc))) (hd : y.cls = rr.1 ∧ y.cls ≠ "java/lang/invoke/MethodHandle" ∧ y.cls ≠ "java/lang/invoke/VarHandle" ∧ (parseMethodDescriptor y.desc).map (fun d => d.parameters.length) = some n) (hR : Nat.ble (fr' + 1) fr = true ∧ Nat.ble (8 + (maxL + 11) + lc') lc = true) (hn : As.length = n) (hsz : ls.size = nL) (hst : (rest.map fun v => v.category).sum ≤ 8) (hdg : decode cc pc = .ok (.invokevirtual index, 3))
    (kk : ∀ (b : β) (H1 : Heap) (locs1 : List Loc) (σ1 : xS) (cells1 slots1 : Nat), (kont b).1 σ1 = some (r, σ9) → xI E σ0 σ1 s H1 locs1 cells1 slots1 → W p l e R s m args below meth c H1 locs1 cells1 slots1 Q (F0 m (pc + 3) ls ((iv b).toList ++ rest))) : W p l e R s m args below meth c H locs cells slots Q (F0 m pc ls (As.reverse ++ .ref a :: rest)) := by
  obtain ⟨b, σ1, h1, h2⟩ := xbd_some h
  have m1 := fc.2 _ _ _ h1
  have m2 := (kont b).2 _ _ _ h2
  obtain ⟨fs, hG⟩ := hO b σ1 h1
  refine xgo (a := #[]) (mc := σ1.2.1 - σ.2.1) (ms := σ1.2.2.1 - σ.2.2.1) hX hI m1 rfl rfl ?_ (fun H1 locs1 cells1 slots1 hI1 => kk b H1 locs1 σ1 cells1 slots1 h2 hI1)
  exact va_runV (As := As) (rest := rest) hX.1 (hM b σ1 h1) (cwV n hX.1.2.2.2.2 hT rfl rfl rfl hd (xhR hX hR)) ⟨xPc_blind, xrecv hX hI hc hG, fun U hU hW => xPc_at hX hI hU hW⟩ rfl hn hsz rfl (lv_room hst) hdg (xfits hX hI m1 m2)
/-- a static call -/
theorem xr_callS (h : (xbd fc kont).1 σ = some (r, σ9)) (hX : xX E R p m c cc nL s args own nm meth ret fr lc σ0 σ9) (hI : xI E σ0 σ s H locs cells slots) (hM : ∀ (b : β) (σ1 : xS), fc.1 σ = some (b, σ1) → xMet E l y (ws_ y bytes maxL rc) fr' lc' As σ σ1 (iv b)) (n : Nat)
    (hT : GoodIn lw_all (va_wsS own index y (ws_ y bytes maxL rc))) (hd : y.cls ≠ "java/lang/invoke/MethodHandle" ∧ y.cls ≠ "java/lang/invoke/VarHandle" ∧ (parseMethodDescriptor y.desc).map (fun d => d.parameters.length) = some n) (hR : Nat.ble (fr' + 1) fr = true ∧ Nat.ble (8 + (maxL + 11) + lc') lc = true) (hn : As.length = n) (hsz : ls.size = nL) (hst : (rest.map fun v => v.category).sum ≤ 8) (hdg : decode cc pc = .ok (.invokestatic index, 3))
    (kk : ∀ (b : β) (H1 : Heap) (locs1 : List Loc) (σ1 : xS) (cells1 slots1 : Nat), (kont b).1 σ1 = some (r, σ9) → xI E σ0 σ1 s H1 locs1 cells1 slots1 → W p l e R s m args below meth c H1 locs1 cells1 slots1 Q (F0 m (pc + 3) ls ((iv b).toList ++ rest))) : W p l e R s m args below meth c H locs cells slots Q (F0 m pc ls (As.reverse ++ rest)) := by
  obtain ⟨b, σ1, h1, h2⟩ := xbd_some h
  have m1 := fc.2 _ _ _ h1
  have m2 := (kont b).2 _ _ _ h2
  refine xgo (a := #[]) (mc := σ1.2.1 - σ.2.1) (ms := σ1.2.2.1 - σ.2.2.1) hX hI m1 rfl rfl ?_ (fun H1 locs1 cells1 slots1 hI1 => kk b H1 locs1 σ1 cells1 slots1 h2 hI1)
  exact va_runS (As := As) (rest := rest) hX.1 (hM b σ1 h1) (va_cwS n hX.1.2.2.2.2 hT rfl rfl rfl hd (xhR hX hR)) ⟨xPc_blind, fun U hU hW => xPc_at hX hI hU hW⟩ rfl hn hsz rfl (lv_room hst) hdg (xfits hX hI m1 m2)
/-- a static method of a nest mate -/
theorem xr_callSN {host : String} (h : (xbd fc kont).1 σ = some (r, σ9)) (hX : xX E R p m c cc nL s args own nm meth ret fr lc σ0 σ9) (hI : xI E σ0 σ s H locs cells slots) (hM : ∀ (b : β) (σ1 : xS), fc.1 σ = some (b, σ1) → xMet E l y (ws_ y bytes maxL rc) fr' lc' As σ σ1 (iv b)) (n : Nat)
    (hlk : Cond.methodLinkNest own index y host ∈ lw_tbl) (hcd : Cond.code y bytes maxL rc ∈ lw_all) (hini : Cond.initialized y.cls ∈ lw_all) (hsta : Cond.static y ∈ lw_all) (hd : y.cls ≠ "java/lang/invoke/MethodHandle" ∧ y.cls ≠ "java/lang/invoke/VarHandle" ∧ (parseMethodDescriptor y.desc).map (fun d => d.parameters.length) = some n) (hR : Nat.ble (fr' + 1) fr = true ∧ Nat.ble (8 + (maxL + 11) + lc') lc = true) (hn : As.length = n) (hsz : ls.size = nL) (hst : (rest.map fun v => v.category).sum ≤ 8) (hdg : decode cc pc = .ok (.invokestatic index, 3))
    (kk : ∀ (b : β) (H1 : Heap) (locs1 : List Loc) (σ1 : xS) (cells1 slots1 : Nat), (kont b).1 σ1 = some (r, σ9) → xI E σ0 σ1 s H1 locs1 cells1 slots1 → W p l e R s m args below meth c H1 locs1 cells1 slots1 Q (F0 m (pc + 3) ls ((iv b).toList ++ rest))) : W p l e R s m args below meth c H locs cells slots Q (F0 m pc ls (As.reverse ++ rest)) := by
  obtain ⟨b, σ1, h1, h2⟩ := xbd_some h
  have m1 := fc.2 _ _ _ h1
  have m2 := (kont b).2 _ _ _ h2
  have hts := hX.1.2.2.2.2
  refine xgo (a := #[]) (mc := σ1.2.1 - σ.2.1) (ms := σ1.2.2.1 - σ.2.2.1) hX hI m1 rfl rfl ?_ (fun H1 locs1 cells1 slots1 hI1 => kk b H1 locs1 σ1 cells1 slots1 h2 hI1)
  exact va_runSN (As := As) (rest := rest) hX.1 (hM b σ1 h1) ⟨va_cnB n hts (lw_meth hcd) rfl rfl rfl (hX.2.1.2.1 _ hlk rfl) (hts _ hini) hd (xhR hX hR), hts _ hsta, trivial⟩ ⟨xPc_blind, fun U hU hW => xPc_at hX hI hU hW⟩ rfl hn hsz rfl (lv_room hst) hdg (xfits hX hI m1 m2)
/-- a constructor -/
theorem xr_callI {kont : β → xM α} (h : (xbd fc kont).1 σ = some (r, σ9)) (hX : xX E R p m c cc nL s args own nm meth ret fr lc σ0 σ9) (hI : xI E σ0 σ s H locs cells slots) (hM : ∀ (b : β) (σ1 : xS), fc.1 σ = some (b, σ1) → xMet E l y (ws_ y bytes maxL none) fr' lc' (.ref a :: As) σ σ1 none) (n : Nat)
    (hlk : Cond.methodLink own index y ∈ lw_all) (hcd : Cond.code y bytes maxL none ∈ lw_all) (hini : Cond.initialized y.cls ∈ lw_all) (hins : Cond.instanceMethod y ∈ lw_all) (hy1 : y.name = "<init>") (hd : y.cls ≠ "java/lang/invoke/MethodHandle" ∧ y.cls ≠ "java/lang/invoke/VarHandle" ∧ (parseMethodDescriptor y.desc).map (fun d => d.parameters.length) = some n) (hR : Nat.ble (fr' + 1) fr = true ∧ Nat.ble (8 + (maxL + 11) + lc') lc = true) (hn : As.length = n) (hsz : ls.size = nL) (hst : (rest.map fun v => v.category).sum ≤ 8) (hdg : decode cc pc = .ok (.invokespecial index, 3))
    (kk : ∀ (b : β) (H1 : Heap) (locs1 : List Loc) (σ1 : xS) (cells1 slots1 : Nat), (kont b).1 σ1 = some (r, σ9) → xI E σ0 σ1 s H1 locs1 cells1 slots1 → W p l e R s m args below meth c H1 locs1 cells1 slots1 Q (F0 m (pc + 3) ls rest)) : W p l e R s m args below meth c H locs cells slots Q (F0 m pc ls (As.reverse ++ .ref a :: rest)) := by
  obtain ⟨b, σ1, h1, h2⟩ := xbd_some h
  have m1 := fc.2 _ _ _ h1
  have m2 := (kont b).2 _ _ _ h2
  have hts := hX.1.2.2.2.2
  refine xgo (a := #[]) (mc := σ1.2.1 - σ.2.1) (ms := σ1.2.2.1 - σ.2.2.1) (v := none) hX hI m1 rfl rfl ?_ (fun H1 locs1 cells1 slots1 hI1 => kk b H1 locs1 σ1 cells1 slots1 h2 hI1)
  exact va_runI (As := As) (rest := rest) hX.1 (hM b σ1 h1) (cwI n hts (lw_meth hcd) rfl rfl rfl (hts _ hini) (hts _ hlk) (hts _ hins) hy1 hd (xhR hX hR)) ⟨xPc_blind, fun U hU hW => xPc_at hX hI hU hW⟩ rfl hn hsz rfl (lv_room hst) hdg (xfits hX hI m1 m2)
/-- a nest mate's private constructor -/
theorem xr_callIN {host : String} {kont : β → xM α} (h : (xbd fc kont).1 σ = some (r, σ9)) (hX : xX E R p m c cc nL s args own nm meth ret fr lc σ0 σ9) (hI : xI E σ0 σ s H locs cells slots) (hM : ∀ (b : β) (σ1 : xS), fc.1 σ = some (b, σ1) → xMet E l y (ws_ y bytes maxL none) fr' lc' (.ref a :: As) σ σ1 none) (n : Nat)
    (hlk : Cond.methodLinkNest own index y host ∈ lw_tbl) (hcd : Cond.code y bytes maxL none ∈ lw_all) (hini : Cond.initialized y.cls ∈ lw_all) (hins : Cond.instanceMethod y ∈ lw_all) (hy1 : y.name = "<init>") (hd : y.cls ≠ "java/lang/invoke/MethodHandle" ∧ y.cls ≠ "java/lang/invoke/VarHandle" ∧ (parseMethodDescriptor y.desc).map (fun d => d.parameters.length) = some n) (hR : Nat.ble (fr' + 1) fr = true ∧ Nat.ble (8 + (maxL + 11) + lc') lc = true) (hn : As.length = n) (hsz : ls.size = nL) (hst : (rest.map fun v => v.category).sum ≤ 8) (hdg : decode cc pc = .ok (.invokespecial index, 3))
    (kk : ∀ (b : β) (H1 : Heap) (locs1 : List Loc) (σ1 : xS) (cells1 slots1 : Nat), (kont b).1 σ1 = some (r, σ9) → xI E σ0 σ1 s H1 locs1 cells1 slots1 → W p l e R s m args below meth c H1 locs1 cells1 slots1 Q (F0 m (pc + 3) ls rest)) : W p l e R s m args below meth c H locs cells slots Q (F0 m pc ls (As.reverse ++ .ref a :: rest)) := by
  obtain ⟨b, σ1, h1, h2⟩ := xbd_some h
  have m1 := fc.2 _ _ _ h1
  have m2 := (kont b).2 _ _ _ h2
  have hts := hX.1.2.2.2.2
  refine xgo (a := #[]) (mc := σ1.2.1 - σ.2.1) (ms := σ1.2.2.1 - σ.2.2.1) (v := none) hX hI m1 rfl rfl ?_ (fun H1 locs1 cells1 slots1 hI1 => kk b H1 locs1 σ1 cells1 slots1 h2 hI1)
  exact va_runIN (As := As) (rest := rest) hX.1 (hM b σ1 h1) ⟨va_cnB n hts (lw_meth hcd) rfl rfl rfl (hX.2.1.2.1 _ hlk rfl) (hts _ hini) hd (xhR hX hR), hy1, hts _ hins⟩ ⟨xPc_blind, fun U hU hW => xPc_at hX hI hU hW⟩ rfl hn hsz rfl (lv_room hst) hdg (xfits hX hI m1 m2)
/-- a call through an object, of a method that the class inherits (x = y's own name) -/
theorem xr_callU {owner : String} {x : MethodName} (h : (xbd fc kont).1 σ = some (r, σ9)) (hX : xX E R p m c cc nL s args own nm meth ret fr lc σ0 σ9) (hI : xI E σ0 σ s H locs cells slots) (hM : ∀ (b : β) (σ1 : xS), fc.1 σ = some (b, σ1) → xMet E l y (ws_ y bytes maxL rc) fr' lc' (.ref a :: As) σ σ1 (iv b)) (hO : ∀ (b : β) (σ1 : xS), fc.1 σ = some (b, σ1) → ∃ fs, σ.1 a = some (.inl (ci, fs))) (hc : xcl[ci]? = some rr) (n : Nat)
    (cw : ∀ {rm : Room} {mc ms : Nat}, rm.cells = mc → rm.slots = ms → rm.frames + 1 ≤ R.frames ∧ 8 + (maxL + 11) + rm.locals ≤ R.locals → va_CU R s args own rr.1 owner index x y bytes maxL rc (ws_ y bytes maxL rc) rm mc ms n) (hR : Nat.ble (fr' + 1) fr = true ∧ Nat.ble (8 + (maxL + 11) + lc') lc = true) (hn : As.length = n) (hsz : ls.size = nL) (hst : (rest.map fun v => v.category).sum ≤ 8) (hdg : decode cc pc = .ok (.invokevirtual index, 3))
    (kk : ∀ (b : β) (H1 : Heap) (locs1 : List Loc) (σ1 : xS) (cells1 slots1 : Nat), (kont b).1 σ1 = some (r, σ9) → xI E σ0 σ1 s H1 locs1 cells1 slots1 → W p l e R s m args below meth c H1 locs1 cells1 slots1 Q (F0 m (pc + 3) ls ((iv b).toList ++ rest))) : W p l e R s m args below meth c H locs cells slots Q (F0 m pc ls (As.reverse ++ .ref a :: rest)) := by
  obtain ⟨b, σ1, h1, h2⟩ := xbd_some h
  have m1 := fc.2 _ _ _ h1
  have m2 := (kont b).2 _ _ _ h2
  obtain ⟨fs, hG⟩ := hO b σ1 h1
  refine xgo (a := #[]) (mc := σ1.2.1 - σ.2.1) (ms := σ1.2.2.1 - σ.2.2.1) hX hI m1 rfl rfl ?_ (fun H1 locs1 cells1 slots1 hI1 => kk b H1 locs1 σ1 cells1 slots1 h2 hI1)
  exact va_runU (As := As) (rest := rest) hX.1 (hM b σ1 h1) (cw rfl rfl (xhR hX hR)) ⟨xPc_blind, xrecv hX hI hc hG, fun U hU hW => xPc_at hX hI hU hW⟩ rfl hn hsz rfl (lv_room hst) hdg (xfits hX hI m1 m2)
/-- a call through an interface -/
theorem xr_callF {x : MethodName} {count : Nat} (h : (xbd fc kont).1 σ = some (r, σ9)) (hX : xX E R p m c cc nL s args own nm meth ret fr lc σ0 σ9) (hI : xI E σ0 σ s H locs cells slots) (hM : ∀ (b : β) (σ1 : xS), fc.1 σ = some (b, σ1) → xMet E l y (ws_ y bytes maxL rc) fr' lc' (.ref a :: As) σ σ1 (iv b)) (hO : ∀ (b : β) (σ1 : xS), fc.1 σ = some (b, σ1) → ∃ fs, σ.1 a = some (.inl (ci, fs))) (hc : xcl[ci]? = some rr) (n : Nat)
    (hfw : (rr.1, x, y) ∈ xfw) (hlk : Cond.methodLink own index x ∈ lw_all) (hsel : Cond.selects rr.1 x y ∈ lw_all) (hins : Cond.instanceMethod y ∈ lw_all) (hini : Cond.initialized y.cls ∈ lw_all) (hcd : Cond.code y bytes maxL rc ∈ lw_all) (hd : x.cls ≠ "java/lang/invoke/MethodHandle" ∧ x.cls ≠ "java/lang/invoke/VarHandle" ∧ (parseMethodDescriptor x.desc).map (fun d => d.parameters.length) = some n) (hR : Nat.ble (fr' + 1) fr = true ∧ Nat.ble (8 + (maxL + 11) + lc') lc = true) (hn : As.length = n) (hsz : ls.size = nL) (hst : (rest.map fun v => v.category).sum ≤ 8) (hdg : decode cc pc = .ok (.invokeinterface index count, 5))
    (kk : ∀ (b : β) (H1 : Heap) (locs1 : List Loc) (σ1 : xS) (cells1 slots1 : Nat), (kont b).1 σ1 = some (r, σ9) → xI E σ0 σ1 s H1 locs1 cells1 slots1 → W p l e R s m args below meth c H1 locs1 cells1 slots1 Q (F0 m (pc + 5) ls ((iv b).toList ++ rest))) : W p l e R s m args below meth c H locs cells slots Q (F0 m pc ls (As.reverse ++ .ref a :: rest)) := by
  obtain ⟨b, σ1, h1, h2⟩ := xbd_some h
  have m1 := fc.2 _ _ _ h1
  have m2 := (kont b).2 _ _ _ h2
  obtain ⟨fs, hG⟩ := hO b σ1 h1
  have hts := hX.1.2.2.2.2
  have hT : GoodIn lw_all (va_wsF own index rr.1 x y (ws_ y bytes maxL rc)) := by
    refine lw_app ?_ (lw_meth hcd)
    intro w hw
    simp only [List.mem_cons, List.not_mem_nil, or_false] at hw
    rcases hw with e | e | e | e
    · rw [e]; exact hlk
    · rw [e]; exact hsel
    · rw [e]; exact hins
    · rw [e]; exact hini
  refine xgo (a := #[]) (mc := σ1.2.1 - σ.2.1) (ms := σ1.2.2.1 - σ.2.2.1) hX hI m1 rfl rfl ?_ (fun H1 locs1 cells1 slots1 hI1 => kk b H1 locs1 σ1 cells1 slots1 h2 hI1)
  exact va_runF (As := As) (rest := rest) (hX.2.1.1.1 ci rr hc).2 hX.1 (hM b σ1 h1) (va_cwF n hts hT rfl rfl rfl (hX.2.1.2.2.1 _ hfw) hd (xhR hX hR)) ⟨xPc_blind, xrecv hX hI hc hG, fun U hU hW => xPc_at hX hI hU hW⟩ rfl hn hsz rfl (lv_room hst) hdg (xfits hX hI m1 m2)
/-- a call of the superclass's method -/
theorem xr_callSU (h : (xbd fc kont).1 σ = some (r, σ9)) (hX : xX E R p m c cc nL s args own nm meth ret fr lc σ0 σ9) (hI : xI E σ0 σ s H locs cells slots) (hM : ∀ (b : β) (σ1 : xS), fc.1 σ = some (b, σ1) → xMet E l y (ws_ y bytes maxL rc) fr' lc' (.ref a :: As) σ σ1 (iv b)) (hO : ∀ (b : β) (σ1 : xS), fc.1 σ = some (b, σ1) → ∃ fs, σ.1 a = some (.inl (ci, fs))) (hc : xcl[ci]? = some rr) (n : Nat)
    (hT : GoodIn lw_all (va_wsSU own index y (ws_ y bytes maxL rc))) (hd : y.name ≠ "<init>" ∧ (parseMethodDescriptor y.desc).map (fun d => d.parameters.length) = some n) (hR : Nat.ble (fr' + 1) fr = true ∧ Nat.ble (8 + (maxL + 11) + lc') lc = true) (hn : As.length = n) (hsz : ls.size = nL) (hst : (rest.map fun v => v.category).sum ≤ 8) (hdg : decode cc pc = .ok (.invokespecial index, 3))
    (kk : ∀ (b : β) (H1 : Heap) (locs1 : List Loc) (σ1 : xS) (cells1 slots1 : Nat), (kont b).1 σ1 = some (r, σ9) → xI E σ0 σ1 s H1 locs1 cells1 slots1 → W p l e R s m args below meth c H1 locs1 cells1 slots1 Q (F0 m (pc + 3) ls ((iv b).toList ++ rest))) : W p l e R s m args below meth c H locs cells slots Q (F0 m pc ls (As.reverse ++ .ref a :: rest)) := by
  obtain ⟨b, σ1, h1, h2⟩ := xbd_some h
  have m1 := fc.2 _ _ _ h1
  have m2 := (kont b).2 _ _ _ h2
  obtain ⟨fs, hG⟩ := hO b σ1 h1
  refine xgo (a := #[]) (mc := σ1.2.1 - σ.2.1) (ms := σ1.2.2.1 - σ.2.2.1) hX hI m1 rfl rfl ?_ (fun H1 locs1 cells1 slots1 hI1 => kk b H1 locs1 σ1 cells1 slots1 h2 hI1)
  exact va_runSU (As := As) (rest := rest) (hX.2.1.1.1 ci rr hc).2 hX.1 (hM b σ1 h1) (va_cwSU n hX.1.2.2.2.2 hT rfl rfl rfl hd (xhR hX hR)) ⟨xPc_blind, xrecv hX hI hc hG, fun U hU hW => xPc_at hX hI hU hW⟩ rfl hn hsz rfl (lv_room hst) hdg (xfits hX hI m1 m2)
/-- Object's constructor -/
theorem xr_objI {idx a : Nat} (hX : xX E R p m c cc nL s args own nm meth ret fr lc σ0 σ9) (hl : Cond.methodLink own idx objectInit ∈ lw_all) (h1 : Cond.instanceMethod objectInit ∈ lw_all) (h2 : Cond.code objectInit ⟨#[0xb1]⟩ 1 none ∈ lw_all) (hsz : ls.size = nL) (hR : Nat.ble 1 fr = true ∧ Nat.ble (12 + (rest.map fun v => v.category).sum) lc = true) (hdg : decode cc pc = .ok (.invokespecial idx, 3))
    (kk : W p l e R s m args below meth c H locs cells slots Q (F0 m (pc + 3) ls rest)) : W p l e R s m args below meth c H locs cells slots Q (F0 m pc ls (.ref a :: rest)) := by
  obtain ⟨⟨hx, hb, hml, hown, hts⟩, -, -, ⟨-, -, e1, e2⟩, -⟩ := hX
  refine W.objInit hx hb hown (hts _ hl) (hts _ h1) (hts _ h2) rfl (by rw [hml]; exact hsz) rfl hdg (Nat.le_trans (Nat.le_of_ble_eq_true hR.1) e1) ?_ kk
  have := Nat.le_of_ble_eq_true hR.2
  show 2 * 0 + _ + 12 ≤ _
  omega
/-- answers -/
theorem xret_ok {v : Option Value} (hX : xX E R p m c cc nL s args own nm meth ret fr lc σ0 σ) (hI : xI E σ0 σ s H locs cells slots) : (∀ t : State, t.heap = H → s.WarmedH t.vm → xQ E σ v args s (.returned v) t) ∧ (∀ q ∈ locs, xA E q.base) ∧ cells = σ.2.1 - σ0.2.1 ∧ slots = σ.2.2.1 - σ0.2.2.1 := by
  obtain ⟨hR, hS, e1, e2, -⟩ := hI
  exact ⟨fun t ht _ => ⟨rfl, by rw [ht]; exact hR, hS.F ht⟩, hS.2.2, e1, e2⟩
theorem xr_ireturn {v b : Int32} (h : (xrt v).1 σ = some (b, σ9)) (hX : xX E R p m c cc nL s args own nm meth (some .int) fr lc σ0 σ9) (hI : xI E σ0 σ s H locs cells slots) (hdg : decode cc pc = .ok (.ireturn, 1)) : W p l e R s m args below meth c H locs cells slots (xMQ E below args s σ0 σ9 (some (.int b))) (F0 m pc ls [.int v]) := by
  cases h
  obtain ⟨g1, g2, g3, g4⟩ := xret_ok (v := some (.int v)) hX hI
  subst g3; subst g4
  obtain ⟨⟨hx, hb, -⟩, -, -, -, -, -, -, hr, hlk, -⟩ := hX
  exact W.iret hx hb hr g1 g2 hdg hlk
theorem xr_lreturn {v b : Int64} (h : (xrt v).1 σ = some (b, σ9)) (hX : xX E R p m c cc nL s args own nm meth (some .long) fr lc σ0 σ9) (hI : xI E σ0 σ s H locs cells slots) (hdg : decode cc pc = .ok (.lreturn, 1)) : W p l e R s m args below meth c H locs cells slots (xMQ E below args s σ0 σ9 (some (.long b))) (F0 m pc ls [.long v]) := by
  cases h
  obtain ⟨g1, g2, g3, g4⟩ := xret_ok (v := some (.long v)) hX hI
  subst g3; subst g4
  obtain ⟨⟨hx, hb, -⟩, -, -, -, -, -, -, hr, hlk, -⟩ := hX
  exact W.lret hx hb hr g1 g2 hdg hlk
theorem xr_dreturn {v b : UInt64} (h : (xrt v).1 σ = some (b, σ9)) (hX : xX E R p m c cc nL s args own nm meth (some .double) fr lc σ0 σ9) (hI : xI E σ0 σ s H locs cells slots) (hdg : decode cc pc = .ok (.dreturn, 1)) : W p l e R s m args below meth c H locs cells slots (xMQ E below args s σ0 σ9 (some (.double b))) (F0 m pc ls [.double v]) := by
  cases h
  obtain ⟨g1, g2, g3, g4⟩ := xret_ok (v := some (.double v)) hX hI
  subst g3; subst g4
  obtain ⟨⟨hx, hb, -⟩, -, -, -, -, -, -, hr, hlk, -⟩ := hX
  exact W.dret hx hb hr g1 g2 hdg hlk
theorem xr_zreturn {v b : Int32} (h : (xrtZ v).1 σ = some (b, σ9)) (hX : xX E R p m c cc nL s args own nm meth (some .boolean) fr lc σ0 σ9) (hI : xI E σ0 σ s H locs cells slots) (hdg : decode cc pc = .ok (.ireturn, 1)) : W p l e R s m args below meth c H locs cells slots (xMQ E below args s σ0 σ9 (some (.int b))) (F0 m pc ls [.int v]) := by
  obtain ⟨h0, h⟩ := xas_bd h
  cases h
  obtain ⟨g1, g2, g3, g4⟩ := xret_ok (v := some (.int v)) hX hI
  subst g3; subst g4
  obtain ⟨⟨hx, hb, -⟩, -, -, -, -, -, -, hr, hlk, -⟩ := hX
  simp at h0
  exact W.zret hx hb hr (by rcases h0 with rfl | rfl <;> rfl) g1 g2 hdg hlk
theorem xr_creturn {v b : Int32} (h : (xrtC v).1 σ = some (b, σ9)) (hX : xX E R p m c cc nL s args own nm meth (some .char) fr lc σ0 σ9) (hI : xI E σ0 σ s H locs cells slots) (hdg : decode cc pc = .ok (.ireturn, 1)) : W p l e R s m args below meth c H locs cells slots (xMQ E below args s σ0 σ9 (some (.int b))) (F0 m pc ls [.int v]) := by
  obtain ⟨h0, h⟩ := xas_bd h
  cases h
  obtain ⟨g1, g2, g3, g4⟩ := xret_ok (v := some (.int v)) hX hI
  subst g3; subst g4
  obtain ⟨⟨hx, hb, -⟩, -, -, -, -, -, -, hr, hlk, -⟩ := hX
  simp at h0
  have h1 := pk_nc v
  rw [h0] at h1
  exact W.zret hx hb hr h1 g1 g2 hdg hlk
theorem xr_breturn {v b : Int32} (h : (xrtB v).1 σ = some (b, σ9)) (hX : xX E R p m c cc nL s args own nm meth (some .byte) fr lc σ0 σ9) (hI : xI E σ0 σ s H locs cells slots) (hdg : decode cc pc = .ok (.ireturn, 1)) : W p l e R s m args below meth c H locs cells slots (xMQ E below args s σ0 σ9 (some (.int b))) (F0 m pc ls [.int v]) := by
  obtain ⟨h0, h⟩ := xas_bd h
  cases h
  obtain ⟨g1, g2, g3, g4⟩ := xret_ok (v := some (.int v)) hX hI
  subst g3; subst g4
  obtain ⟨⟨hx, hb, -⟩, -, -, -, -, -, -, hr, hlk, -⟩ := hX
  simp at h0
  have h1 := pk_nb v
  rw [h0] at h1
  exact W.zret hx hb hr h1 g1 g2 hdg hlk
theorem xr_return {b : Unit} (h : (xrt ()).1 σ = some (b, σ9)) (hX : xX E R p m c cc nL s args own nm meth none fr lc σ0 σ9) (hI : xI E σ0 σ s H locs cells slots) (hdg : decode cc pc = .ok (.return_, 1)) : W p l e R s m args below meth c H locs cells slots (xMQ E below args s σ0 σ9 none) (F0 m pc ls []) := by
  cases h
  obtain ⟨g1, g2, g3, g4⟩ := xret_ok (v := none) hX hI
  subst g3; subst g4
  obtain ⟨⟨hx, hb, -⟩, -, -, -, -, -, -, hr, hlk, -⟩ := hX
  exact W.vret hx hb hr g1 g2 hdg hlk
theorem xr_areturn {v b : Nat} {rt : FieldType} (h : (xrt v).1 σ = some (b, σ9)) (hX : xX E R p m c cc nL s args own nm meth (some rt) fr lc σ0 σ9) (hI : xI E σ0 σ s H locs cells slots) (hrt : (∃ n, rt = .object n) ∨ ∃ t, rt = .array t) (hdg : decode cc pc = .ok (.areturn, 1)) : W p l e R s m args below meth c H locs cells slots (xMQ E below args s σ0 σ9 (some (.ref b))) (F0 m pc ls [.ref v]) := by
  cases h
  obtain ⟨g1, g2, g3, g4⟩ := xret_ok (v := some (.ref v)) hX hI
  subst g3; subst g4
  obtain ⟨⟨hx, hb, -⟩, -, -, -, -, -, -, hr, hlk, -⟩ := hX
  exact W.aret hx hb hr hrt (Or.inr ⟨v, rfl⟩) g1 g2 hdg hlk
theorem xr_areturnQ {v : Nat} {b : Option Nat} {rt : FieldType} (h : (xrt (some v)).1 σ = some (b, σ9)) (hX : xX E R p m c cc nL s args own nm meth (some rt) fr lc σ0 σ9) (hI : xI E σ0 σ s H locs cells slots) (hrt : (∃ n, rt = .object n) ∨ ∃ t, rt = .array t) (hdg : decode cc pc = .ok (.areturn, 1)) : W p l e R s m args below meth c H locs cells slots (xMQ E below args s σ0 σ9 (some (va_rf b))) (F0 m pc ls [.ref v]) := by
  cases h
  obtain ⟨g1, g2, g3, g4⟩ := xret_ok (v := some (.ref v)) hX hI
  subst g3; subst g4
  obtain ⟨⟨hx, hb, -⟩, -, -, -, -, -, -, hr, hlk, -⟩ := hX
  exact W.aret hx hb hr hrt (Or.inr ⟨v, rfl⟩) g1 g2 hdg hlk
theorem xr_areturn0 {b : Option Nat} {rt : FieldType} (h : (xrt none).1 σ = some (b, σ9)) (hX : xX E R p m c cc nL s args own nm meth (some rt) fr lc σ0 σ9) (hI : xI E σ0 σ s H locs cells slots) (hrt : (∃ n, rt = .object n) ∨ ∃ t, rt = .array t) (hdg : decode cc pc = .ok (.areturn, 1)) : W p l e R s m args below meth c H locs cells slots (xMQ E below args s σ0 σ9 (some (va_rf b))) (F0 m pc ls [.null]) := by
  cases h
  obtain ⟨g1, g2, g3, g4⟩ := xret_ok (v := some .null) hX hI
  subst g3; subst g4
  obtain ⟨⟨hx, hb, -⟩, -, -, -, -, -, -, hr, hlk, -⟩ := hX
  exact W.aret hx hb hr hrt (Or.inl rfl) g1 g2 hdg hlk
/-- nothing comes out of nothing -/
theorem xr_no (h : (xno : xM α).1 σ = some (r, σ9)) {P : Prop} : P := nomatch (show (none : Option (α × xS)) = some (r, σ9) from h)
/-- a branch of the pure function -/
theorem xif {P : Prop} [d : Decidable P] {A B : xM α} {G : Prop} (h : (if P then A else B).1 σ = some (r, σ9)) (kt : P → A.1 σ = some (r, σ9) → G) (kf : ¬ P → B.1 σ = some (r, σ9) → G) : G := by
  by_cases hP : P
  · rw [if_pos hP] at h; exact kt hP h
  · rw [if_neg hP] at h; exact kf hP h
theorem xif_t {P : Prop} [d : Decidable P] {A B : xM α} (h : (if P then A else B).1 σ = some (r, σ9)) (hP : P) : A.1 σ = some (r, σ9) := by rw [if_pos hP] at h; exact h
theorem xif_f {P : Prop} [d : Decidable P] {A B : xM α} (h : (if P then A else B).1 σ = some (r, σ9)) (hP : ¬ P) : B.1 σ = some (r, σ9) := by rw [if_neg hP] at h; exact h
end XR3
