/-! rows: what calls of inherited methods ask -/
theorem xlwU {own : String} {idx : Nat} {C owner : String} {x y : MethodName} {b : ByteArray} {L : Nat} {r : Option FieldType} (h1 : Cond.methodLink own idx x ∈ lw_all) (h2 : Cond.sameMethod x.cls owner x.name x.desc ∈ lw_all) (h3 : Cond.selects C x y ∈ lw_all) (h4 : Cond.instanceMethod y ∈ lw_all) (h5 : Cond.initialized y.cls ∈ lw_all) (h6 : Cond.code y b L r ∈ lw_all) : GoodIn lw_all (va_wsU own idx C owner x y (ws_ y b L r)) := by
  refine lw_app ?_ (lw_meth h6)
  intro w hw
  simp only [List.mem_cons, List.not_mem_nil, or_false] at hw
  rcases hw with e | e | e | e | e
  · rw [e]; exact h1
  · rw [e]; exact h2
  · rw [e]; exact h3
  · rw [e]; exact h4
  · rw [e]; exact h5
theorem xlwO {own : String} {idx : Nat} {C owner : String} {x y : MethodName} {b : ByteArray} {L : Nat} {r : Option FieldType} (h1 : Cond.methodLink own idx x ∈ lw_all) (h2 : Cond.sameMethod x.cls owner x.name x.desc ∈ lw_all) (h7 : Cond.instanceMethod ⟨owner, x.name, x.desc⟩ ∈ lw_all) (h3 : Cond.selects C x y ∈ lw_all) (h4 : Cond.instanceMethod y ∈ lw_all) (h5 : Cond.initialized y.cls ∈ lw_all) (h6 : Cond.code y b L r ∈ lw_all) : GoodIn lw_all (va_wsO own idx C owner x y (ws_ y b L r)) := by
  refine lw_app ?_ (lw_meth h6)
  intro w hw
  simp only [List.mem_cons, List.not_mem_nil, or_false] at hw
  rcases hw with e | e | e | e | e | e
  · rw [e]; exact h1
  · rw [e]; exact h2
  · rw [e]; exact h7
  · rw [e]; exact h3
  · rw [e]; exact h4
  · rw [e]; exact h5
theorem xlwSU {own : String} {idx : Nat} {y : MethodName} {b : ByteArray} {L : Nat} {r : Option FieldType} (h1 : Cond.methodLink own idx y ∈ lw_all) (h2 : Cond.sameMethod y.cls y.cls y.name y.desc ∈ lw_all) (h3 : Cond.superclass own y.cls ∈ lw_all) (h4 : Cond.instanceMethod y ∈ lw_all) (h5 : Cond.initialized y.cls ∈ lw_all) (h6 : Cond.code y b L r ∈ lw_all) : GoodIn lw_all (va_wsSU own idx y (ws_ y b L r)) := by
  refine lw_app ?_ (lw_meth h6)
  intro w hw
  simp only [List.mem_cons, List.not_mem_nil, or_false] at hw
  rcases hw with e | e | e | e | e
  · rw [e]; exact h1
  · rw [e]; exact h2
  · rw [e]; exact h3
  · rw [e]; exact h4
  · rw [e]; exact h5
theorem xidec {x k : Int32} {n : Int} (h : Int32.ofInt n = -k) : x + Int32.ofInt n = x - k := by rw [h, Int32.sub_eq_add_neg]
section XR5
variable {E : xE} {p : Program} {l : Launch} {e : Env} {R : Room} {s : State} {m : MethodId} {args : Array Value} {below : List Frame} {meth : Method} {c : Code} {H : Heap} {locs : List Loc} {cells slots : Nat} {Q : State → Prop}
variable {cc : ByteArray} {pc nL fr lc : Nat} {ls : Array Slot} {rest : List Value} {own nm : String} {ret : Option FieldType} {σ0 σ σ9 : xS} {α β : Type} {r : α}
variable {y : MethodName} {bytes : ByteArray} {maxL n index ci a : Nat} {rc : Option FieldType} {fr' lc' : Nat} {As : List Value} {rr : vw_C} {iv : β → Option Value} {fc : xM β} {kont : β → xM α}
/-- a constructor, called over a deep stack -/
theorem xr_callI2 (W0 : Nat) (h : (xbd fc kont).1 σ = some (r, σ9)) (hX : xX E R p m c cc nL s args own nm meth ret fr lc σ0 σ9) (hI : xI E σ0 σ s H locs cells slots) (hM : ∀ (b : β) (σ1 : xS), fc.1 σ = some (b, σ1) → xMet E l y (ws_ y bytes maxL none) fr' lc' (.ref a :: As) σ σ1 none) (n : Nat)
    (hlk : Cond.methodLink own index y ∈ lw_all) (hcd : Cond.code y bytes maxL none ∈ lw_all) (hini : Cond.initialized y.cls ∈ lw_all) (hins : Cond.instanceMethod y ∈ lw_all) (hy1 : y.name = "<init>") (hd : y.cls ≠ "java/lang/invoke/MethodHandle" ∧ y.cls ≠ "java/lang/invoke/VarHandle" ∧ (parseMethodDescriptor y.desc).map (fun d => d.parameters.length) = some n) (hR : Nat.ble (fr' + 1) fr = true ∧ Nat.ble (W0 + (maxL + 11) + lc') lc = true) (hn : As.length = n) (hsz : ls.size = nL) (hst : (rest.map fun v => v.category).sum ≤ W0) (hdg : decode cc pc = .ok (.invokespecial index, 3))
    (kk : ∀ (b : β) (H1 : Heap) (locs1 : List Loc) (σ1 : xS) (cells1 slots1 : Nat), (kont b).1 σ1 = some (r, σ9) → xI E σ0 σ1 s H1 locs1 cells1 slots1 → W p l e R s m args below meth c H1 locs1 cells1 slots1 Q (F0 m (pc + 3) ls rest)) : W p l e R s m args below meth c H locs cells slots Q (F0 m pc ls (As.reverse ++ .ref a :: rest)) := by
  obtain ⟨b, σ1, h1, h2⟩ := xbd_some h
  have m1 := fc.2 _ _ _ h1
  have m2 := (kont b).2 _ _ _ h2
  have hX0 := hX
  obtain ⟨⟨hx, hb, hml, ho, hts⟩, -, -, ⟨-, -, r1, r2⟩, -⟩ := hX
  have hfr : (xrm fr' lc' σ σ1).frames + 1 ≤ R.frames := Nat.le_trans (Nat.le_of_ble_eq_true hR.1) r1
  have hlo : W0 + (maxL + 11) + (xrm fr' lc' σ σ1).locals ≤ R.locals := Nat.le_trans (Nat.le_of_ble_eq_true hR.2) r2
  have hK : Back l R p e below s args y 3 W0 (PreOf R (σ1.2.1 - σ.2.1) (σ1.2.2.1 - σ.2.2.1) (xPc E σ (.ref a :: As))) (PostOf (xQ E σ1 none) (σ1.2.1 - σ.2.1) (σ1.2.2.1 - σ.2.2.1) (xA E)) := back_of (bytes := bytes) (maxL := maxL) (ret := none) (hM b σ1 h1) xPc_blind rfl rfl hfr hlo (pay_in hts (lw_meth hcd)) List.mem_cons_self (fun a' U hW => word_at hW (Or.inl rfl) (hts _ hini))
  have hf := xfits hX0 hI m1 m2
  have hlen : ∀ sig, parseMethodDescriptor y.desc = some sig → n = sig.parameters.length := fun sig h => by
    have h2 := hd.2.2
    rw [h] at h2
    exact (Option.some.inj h2).symm
  refine xgo (a := #[]) (mc := σ1.2.1 - σ.2.1) (ms := σ1.2.2.1 - σ.2.2.1) (v := none) hX0 hI m1 rfl rfl ?_ (fun H1 locs1 cells1 slots1 hI1 => kk b H1 locs1 σ1 cells1 slots1 h2 hI1)
  intro T hT X
  obtain ⟨v, vm₁, ⟨U', l2, c2, s2⟩, hW₁, X', ⟨g', mk, t, L, e1, e2, hq, h1, hL, h2, h3⟩, st⟩ := callI X hx (bytes := bytes) (maxL := maxL) ho hy1 (hts _ hlk) (hts _ hins) (hts _ hcd) ⟨hd.1, hd.2.1⟩ hK (g := F0 m pc ls (As.reverse ++ .ref a :: rest)) rfl (hsz.trans hml.symm) (a := a) (argsL := As) (rest := rest) (fun sig h => hn.trans (hlen sig h)) rfl (by show 2 * 0 + _ ≤ _; omega) (by rw [hb]; exact hdg)
    (fun vm₁ hW₁ => ⟨hf.1, hf.2, xPc_at hX0 hI (As := .ref a :: As) (U := T.setVm vm₁) hT hW₁⟩)
  dsimp only [Pt.U, Pt.locs, Pt.cells, Pt.slots] at X' e1 e2 h1 h2 h3 st
  subst h1; subst h2; subst h3
  exact ⟨v, (T.setVm vm₁).calling g' mk (Value.ref a :: As).toArray, t, U', L, hT, X', hL, e1, e2, hq, st⟩
end XR5
/-! the law's own rows: its script, its end -/
def R_law : String := "PayMatchLaw"
def lw_P (b : Addr) (xs : List Int32) (args : Array Value) (s : State) : Prop := args = #[.ref b] ∧ s.IntsAt b xs ∧ xs.length ≤ 144 ∧ (Jvm.Cond.and given_1 narrow_1).before args s = true
def lw_Q (_ : Array Value) (s : State) (o : Outcome) (t : State) : Prop := o = .returned (some (.int 1)) ∧ Framed s o t [] 1200144 5496250
def lw_Z (below : List Frame) (a : Array Value) (s : State) : State → Prop := fun t => ∃ o, t.status = .running ∧ Ended t below o ∧ lw_Q a s o t
/-- the law's own end, with 1 on the stack, nothing written that was there before, its room as the claim has it -/
theorem lw_ret {p : Program} {l : Launch} {e : Env} {s : State} {m : MethodId} {below : List Frame} {meth : Method} {c : Code} {b : Nat} (hx : p.tables.exec = Jvm.exec) (hb : c.code = code) (hr : meth.sig.returnType = ret) (hlocks : meth.locks = false) {pc : Nat} {H : Heap} {ls : Array Slot} (hdg : decode code pc = .ok (.ireturn, 1)) : W p l e room_1 s m #[Value.ref b] below meth c H [] 1200144 5496250 (lw_Z below #[Value.ref b] s) (F0 m pc ls [.int 1]) := by
  intro T hT X
  obtain ⟨fs, hret, hrun, hended, hW, hframe⟩ := X.leave (v := some (.int 1)) (hlocks := hlocks) (fun h => by rw [hr] at h; cases h)
  have hmeth' : T.vm.method? m = some meth := X.method'
  refine ⟨T.setFrames fs, ?_, .returned (some (.int 1)), hrun, hended, rfl, ⟨_, rfl⟩, hW, hframe⟩
  jvm_step X.here [X.here.top, hx, hb, hdg, hmeth', hr, ret, narrow_b1]
  (try refine ⟨rfl, ?_⟩); (try refine ⟨rfl, ?_⟩)
  first | (intro acts; rw [hret _ acts rfl rfl rfl]) | rw [hret _ _ rfl rfl rfl]
  exact Steps.refl _
section XLAW
variable {E : xE} {p : Program} {l : Launch} {e : Env} {R : Room} {s : State} {m : MethodId} {args : Array Value} {below : List Frame} {meth : Method} {c : Code} {H : Heap} {locs : List Loc} {cells slots : Nat} {Q : State → Prop}
variable {cc : ByteArray} {pc nL fr lc b L : Nat} {xs : Nat → Int32} {ls : Array Slot} {rest : List Value} {own nm : String} {ret : Option FieldType} {σ0 σ σ9 : xS} {α β : Type} {r : α}
theorem xr_scr {i : Int32} {kont : Unit → xM α} (h : (xbd (xas (xok i L)) kont).1 σ = some (r, σ9)) (hX : xX E R p m c cc nL s args own nm meth ret fr lc σ0 σ9) (hI : xI E σ0 σ s H locs cells slots) (hXs : va_X b L xs s s.heap ∧ b < s.heap.size ∧ s.heap.size ≤ E.2.2) (hdg : decode cc pc = .ok (.iaload, 1))
    (kk : (kont ()).1 σ = some (r, σ9) → W p l e R s m args below meth c H locs cells slots Q (F0 m (pc + 1) ls (.int (xs i.toNatClampNeg) :: rest))) : W p l e R s m args below meth c H locs cells slots Q (F0 m pc ls (.int i :: .ref b :: rest)) := by
  obtain ⟨h1, h2⟩ := xas_bd h
  exact va_sld hX.1.1 hX.1.2.1 hXs.1 hXs.2.1 (fun q => by have : E.2.2 ≤ b := q; omega) hI.2.1 (xok_in.mp h1) hdg (kk h2)
theorem xr_scl (hX : xX E R p m c cc nL s args own nm meth ret fr lc σ0 σ9) (hI : xI E σ0 σ s H locs cells slots) (hXs : va_X b L xs s s.heap ∧ b < s.heap.size ∧ s.heap.size ≤ E.2.2) (hdg : decode cc pc = .ok (.arraylength, 1))
    (kk : W p l e R s m args below meth c H locs cells slots Q (F0 m (pc + 1) ls (.int (Int32.ofNat L) :: rest))) : W p l e R s m args below meth c H locs cells slots Q (F0 m pc ls (.ref b :: rest)) :=
  va_slen hX.1.1 hX.1.2.1 hXs.1 hXs.2.1 (fun q => by have : E.2.2 ≤ b := q; omega) hI.2.1 hdg kk
theorem xr_lawret {v : Int32} (h : (xrtZ v).1 σ = some ((1 : Int32), σ9)) (hX : xX E room_1 p m c code nL s #[Value.ref b] own nm meth (some .boolean) fr lc σ0 σ9) (hI : xI E σ0 σ s H locs cells slots) (hXs : va_X b L xs s s.heap ∧ b < s.heap.size ∧ s.heap.size ≤ E.2.2) (hdg : decode code pc = .ok (.ireturn, 1)) : W p l e room_1 s m #[Value.ref b] below meth c H locs cells slots (lw_Z below #[Value.ref b] s) (F0 m pc ls [.int v]) := by
  obtain ⟨-, h⟩ := xas_bd h
  cases h
  obtain ⟨⟨hx, hb, -⟩, -, -, ⟨r1, r2, -⟩, hs0, -, -, hr, hlk, -⟩ := hX
  obtain ⟨-, hS, e1, e2, -⟩ := hI
  refine va_forget (fun q hq => Nat.le_trans hXs.2.2 (hS.2.2 q hq)) ?_
  refine W.widen (k := 1200144) (n := 5496250) (by rw [e1]; exact r1) (by rw [e2]; exact r2) ?_
  exact lw_ret hx hb hr hlk hdg
end XLAW
