/-! rows: a Fault made and thrown; calls of methods that may throw; a Fault caught -/
set_option maxRecDepth 100000
section XG
variable {E : xE} {p : Program} {l : Launch} {e : Env} {R : Room} {s : State} {m : MethodId} {args : Array Value} {below : List Frame} {meth : Method} {c : Code} {H : Heap} {locs : List Loc} {cells slots : Nat} {Q : State → Prop}
variable {cc : ByteArray} {pc nL fr lc : Nat} {ls : Array Slot} {rest : List Value} {own nm : String} {ret : Option FieldType} {σ0 σ σ9 : xS} {α β : Type} {r : α}
variable {y : MethodName} {bytes : ByteArray} {maxL n index ci a : Nat} {rc : Option FieldType} {fr' lc' : Nat} {As : List Value} {rr : vw_C}
theorem xafter {σ1 : xS} {H1 : Heap} {L : List Loc} {mc ms : Nat} (hI : xI E σ0 σ s H locs cells slots) (h1 : σ.2.1 ≤ σ1.2.1 ∧ σ.2.2.1 ≤ σ1.2.2.1 ∧ σ1.2.2.2 = σ.2.2.2) (hmc : mc = σ1.2.1 - σ.2.1) (hms : ms = σ1.2.2.1 - σ.2.2.1) (hR1 : xRp E σ1 H1) (hz : H.size ≤ H1.size) (hk : ∀ q : Nat, q < H.size → ¬ xA E q → H1[q]? = H[q]?) (hL : ∀ q ∈ L, xA E q.base) : xI E σ0 σ1 s H1 (locs ++ L) (cells + mc) (slots + ms) := by
  obtain ⟨hR, hS, e1, e2, h3, h4, h5⟩ := hI
  refine ⟨hR1, ⟨Nat.le_trans hS.1 hz, fun q g1 g2 => by rw [hk q (Nat.lt_of_lt_of_le g1 hS.1) g2]; exact hS.2.1 q g1 g2, fun q hq => ?_⟩, ?_, ?_, ?_, ?_, h1.2.2.trans h5⟩
  · rcases List.mem_append.mp hq with g | g
    · exact hS.2.2 q g
    · exact hL q g
  · rw [e1, hmc]; have := h1.1; omega
  · rw [e2, hms]; have := h1.2.1; omega
  · exact Nat.le_trans h3 h1.1
  · exact Nat.le_trans h4 h1.2.1
/-- a call through an object of a method that may throw -/
theorem xr_callVX {iv : β → Option Value} {fc : xM (Nat ⊕ β)} {kont : Nat ⊕ β → xM α} (h : (xbd fc kont).1 σ = some (r, σ9)) (hX : xX E R p m c cc nL s args own nm meth ret fr lc σ0 σ9) (hI : xI E σ0 σ s H locs cells slots) (hM : ∀ (b : Nat ⊕ β) (σ1 : xS), fc.1 σ = some (b, σ1) → xMetX E l y (ws_ y bytes maxL rc) fr' lc' (.ref a :: As) σ σ1 (Sum.map id iv b)) (hO : ∀ (b : Nat ⊕ β) (σ1 : xS), fc.1 σ = some (b, σ1) → ∃ fs, σ.1 a = some (.inl (ci, fs))) (hc : xcl[ci]? = some rr) (n : Nat)
    (hT : GoodIn lw_all (wsV own index rr.1 y (ws_ y bytes maxL rc))) (hd : y.cls = rr.1 ∧ y.cls ≠ "java/lang/invoke/MethodHandle" ∧ y.cls ≠ "java/lang/invoke/VarHandle" ∧ (parseMethodDescriptor y.desc).map (fun d => d.parameters.length) = some n) (hR : Nat.ble (fr' + 1) fr = true ∧ Nat.ble (8 + (maxL + 11) + lc') lc = true) (hn : As.length = n) (hsz : ls.size = nL) (hst : (rest.map fun v => v.category).sum ≤ 8) (hdg : decode cc pc = .ok (.invokevirtual index, 3))
    (kx : ∀ (q : Nat) (H1 : Heap) (locs1 : List Loc) (σ1 : xS) (cells1 slots1 : Nat) (ce : Cell), (kont (.inl q)).1 σ1 = some (r, σ9) → xI E σ0 σ1 s H1 locs1 cells1 slots1 → H1[q]? = some ce → ce.vm = .none → s.vm.findClass "PayMatch$Fault" = some ce.cls → vx_W p l e R s m args below meth c H1 locs1 cells1 slots1 Q (F0 m pc ls rest) q)
    (kk : ∀ (b : β) (H1 : Heap) (locs1 : List Loc) (σ1 : xS) (cells1 slots1 : Nat), (kont (.inr b)).1 σ1 = some (r, σ9) → xI E σ0 σ1 s H1 locs1 cells1 slots1 → W p l e R s m args below meth c H1 locs1 cells1 slots1 Q (F0 m (pc + 3) ls ((iv b).toList ++ rest))) : W p l e R s m args below meth c H locs cells slots Q (F0 m pc ls (As.reverse ++ .ref a :: rest)) := by
  obtain ⟨b, σ1, h1, h2⟩ := xbd_some h
  have m1 := fc.2 _ _ _ h1
  have m2 := (kont b).2 _ _ _ h2
  obtain ⟨fs, hG⟩ := hO b σ1 h1
  have hr : vx_Run p l e R s m args below meth c H locs cells slots (σ1.2.1 - σ.2.1) (σ1.2.2.1 - σ.2.2.1) (F0 m pc ls (As.reverse ++ .ref a :: rest)) rest (xQc E σ1 (Sum.map id iv b) (Value.ref a :: As).toArray) (xXC E σ1 (Sum.map id iv b)) (xA E) := vx_runV (As := As) (rest := rest) (g := F0 m pc ls (As.reverse ++ .ref a :: rest)) hX.1 (hM b σ1 h1) (cwV n hX.1.2.2.2.2 hT rfl rfl rfl hd (xhR hX hR)) ⟨xPc_blind, xrecv hX hI hc hG, fun U hU hW => xPc_at hX hI hU hW⟩ rfl hn hsz rfl (lv_room hst) hdg (xfits hX hI m1 m2)
  intro T hT X
  rcases hr T hT X with ⟨v, st₀, t, T', L, h0, X', hL, e1, e2, ⟨v', hres, hv, hR1, hz, hk⟩, st⟩ | ⟨q, st₀, t, T', L, En, ce, h0, X', hL, e1, e2, ⟨hres, hEn, hR1, hz, hk⟩, hce, hcv, hcl, st⟩
  · cases b with
    | inl q => cases hres
    | inr b =>
      cases hres
      cases hv
      rw [h0, ← e1] at hz
      rw [h0, ← e1] at hk
      rw [← e1] at hR1
      have hI1 := xafter hI m1 rfl rfl hR1 hz hk hL
      obtain ⟨t2, a1, b1⟩ := kk b _ _ _ _ _ h2 hI1 T' rfl X'
      exact ⟨t2, st t2 a1, b1⟩
  · cases b with
    | inr b => cases hres
    | inl q' =>
      cases hres
      subst hEn
      rw [h0, ← e1] at hz
      rw [h0, ← e1] at hk
      rw [← e1] at hR1 hce
      have hI1 := xafter hI m1 rfl rfl hR1 hz hk hL
      obtain ⟨t2, a1, b1⟩ := kx _ _ _ _ _ _ ce h2 hI1 hce hcv hcl T' rfl X'
      exact ⟨t2, st.trans a1, b1⟩
/-- a call through an object of a method with handlers, which throws nothing -/
theorem xr_callVH {iv : β → Option Value} {fc : xM β} {kont : β → xM α} {hh : List (Nat × Nat × Nat × Nat)} (h : (xbd fc kont).1 σ = some (r, σ9)) (hX : xX E R p m c cc nL s args own nm meth ret fr lc σ0 σ9) (hI : xI E σ0 σ s H locs cells slots) (hM : ∀ (b : β) (σ1 : xS), fc.1 σ = some (b, σ1) → xMet E l y (wsW_ y bytes maxL rc hh) fr' lc' (.ref a :: As) σ σ1 (iv b)) (hO : ∀ (b : β) (σ1 : xS), fc.1 σ = some (b, σ1) → ∃ fs, σ.1 a = some (.inl (ci, fs))) (hc : xcl[ci]? = some rr) (n : Nat)
    (hT : GoodIn lw_all (wsV own index rr.1 y (wsW_ y bytes maxL rc hh))) (hd : y.cls = rr.1 ∧ y.cls ≠ "java/lang/invoke/MethodHandle" ∧ y.cls ≠ "java/lang/invoke/VarHandle" ∧ (parseMethodDescriptor y.desc).map (fun d => d.parameters.length) = some n) (hR : Nat.ble (fr' + 1) fr = true ∧ Nat.ble (8 + (maxL + 11) + lc') lc = true) (hn : As.length = n) (hsz : ls.size = nL) (hst : (rest.map fun v => v.category).sum ≤ 8) (hdg : decode cc pc = .ok (.invokevirtual index, 3))
    (kk : ∀ (b : β) (H1 : Heap) (locs1 : List Loc) (σ1 : xS) (cells1 slots1 : Nat), (kont b).1 σ1 = some (r, σ9) → xI E σ0 σ1 s H1 locs1 cells1 slots1 → W p l e R s m args below meth c H1 locs1 cells1 slots1 Q (F0 m (pc + 3) ls ((iv b).toList ++ rest))) : W p l e R s m args below meth c H locs cells slots Q (F0 m pc ls (As.reverse ++ .ref a :: rest)) := by
  obtain ⟨b, σ1, h1, h2⟩ := xbd_some h
  have m1 := fc.2 _ _ _ h1
  have m2 := (kont b).2 _ _ _ h2
  obtain ⟨fs, hG⟩ := hO b σ1 h1
  refine xgo (a := (Value.ref a :: As).toArray) (mc := σ1.2.1 - σ.2.1) (ms := σ1.2.2.1 - σ.2.2.1) hX hI m1 rfl rfl ?_ (fun H1 locs1 cells1 slots1 hI1 => kk b H1 locs1 σ1 cells1 slots1 h2 hI1)
  exact vx_runVW (As := As) (rest := rest) hX.1 (hM b σ1 h1) (vx_cwVW n hX.1.2.2.2.2 hT rfl rfl rfl hd (xhR hX hR)) ⟨xPc_blind, xrecv hX hI hc hG, fun U hU hW => xPc_at hX hI hU hW⟩ rfl hn hsz rfl (lv_room hst) hdg (xfits hX hI m1 m2)
/-- a Fault caught by the first row of the table -/
theorem xr_catch {name : String} {q : Nat} {ce : Cell} {x : ExceptionTableEntry} {suf : List ExceptionTableEntry} {tgt : Nat} (hX : xX E R p m c cc nL s args own nm meth ret fr lc σ0 σ9) (hE : c.exceptionTable.toList = x :: suf) (hx : covers x pc = true) (h0 : x.catchType ≠ 0) (ht : x.handlerPc = tgt)
    (hlink : Cond.classLink own x.catchType name ∈ lw_all) (hcast : Cond.castable name name ∈ lw_tbl) (hce : H[q]? = some ce) (hcv : ce.vm = .none) (hcl : s.vm.findClass name = some ce.cls)
    (kk : W p l e R s m args below meth c H locs cells slots Q (F0 m tgt ls [.ref q])) : vx_W p l e R s m args below meth c H locs cells slots Q (F0 m pc ls rest) q := by
  subst ht
  exact vx_catch (args := args) hX.1.2.2.2.1 [] x suf hE (fun z hz => nomatch hz) hx h0 (hX.1.2.2.2.2 _ hlink) (va_Nw.use rfl (hX.2.1.2.1 _ hcast rfl)) hce hcv hcl kk
theorem xfresh_moved {U : State} {cX : ClassId} {kX : Class} {q : Nat} (hW : s.WarmedH U.vm) (h1 : s.vm.findClass "PayMatch$Fault" = some cX) (h2 : s.vm.classes[cX]? = some kX) (h3 : U.heap[q]? = some (freshCell cX kX)) : ∃ (cX : ClassId) (kX : Class), U.vm.findClass "PayMatch$Fault" = some cX ∧ U.vm.classes[cX]? = some kX ∧ U.heap[q]? = some (freshCell cX kX) := by
  have hal := hW.alike
  obtain ⟨k', hk', he⟩ := hal.2.2 _ _ h2
  refine ⟨cX, k', by rw [hal.findClass]; exact h1, hk', ?_⟩
  have e1 : freshCell cX k' = freshCell cX kX := by
    unfold freshCell
    rw [he]
  rw [e1]
  exact h3
/-- 'throw new Fault(place)' of a Reader -/
theorem xr_fault {iv : β → Option Value} {r : Nat ⊕ β} {lv' : List (Nat × Value)} (hl0 : l.stackTraces = false) (h : (xbd (xgI 10 4 a) fun v => xbd (xnf v) fun q => xrt (Sum.inl q)).1 σ = some (r, σ9)) (hX : xX E R p m c cc nL s args "PayMatch$Reader" nm meth ret fr lc σ0 σ9) (hE : ∀ x ∈ c.exceptionTable.toList, False) (hI : xI E σ0 σ s H locs cells slots) (hl : lv_has ls nL ((0, .ref a) :: lv')) (hR : Nat.ble 5 fr = true ∧ Nat.ble (8 + (2 + 11) + 60) lc = true) (hlg : xLg "PayMatch$Reader" 20 10 4)
    (d0 : decode cc pc = .ok (.new 40, 3)) (d3 : decode cc (pc + 3) = .ok (.dup, 1)) (d4 : decode cc (pc + 3 + 1) = .ok (.aload_n 0, 1)) (d5 : decode cc (pc + 3 + 1 + 1) = .ok (.getfield 20, 3)) (d8 : decode cc (pc + 3 + 1 + 1 + 3) = .ok (.invokespecial 42, 3)) (d11 : decode cc (pc + 3 + 1 + 1 + 3 + 3) = .ok (.athrow, 1)) :
    W p l e R s m args below meth c H locs cells slots (xMQX E below args s σ0 σ9 (Sum.map id iv r)) (F0 m pc ls []) := by
  have hX0 := hX
  obtain ⟨⟨hx, hb, hml, hown, hts⟩, ⟨hK, hN⟩, hZ, -, hs0, hb0, -⟩ := hX
  obtain ⟨v, hv, h2⟩ := xrd_bd h
  obtain ⟨q0, hq0, h3⟩ := xal_bd h2
  cases hq0
  have hz : H.size = σ.2.1 := hI.1.1
  have h9 : r = Sum.inl σ.2.1 ∧ σ9 = (xup σ.1 σ.2.1 (.inl (11, [.int v])), σ.2.1 + 1, σ.2.2.1 + 7, σ.2.2.2) := by
    cases h3
    exact ⟨rfl, rfl⟩
  obtain ⟨rfl, h9⟩ := h9
  have hcls := hK.1 11 _ rfl
  have hroom : cells + 1 ≤ R.cells ∧ slots + 7 ≤ R.slots := xroom (N := 7) (σ1 := σ) hX0 hI (by rw [h9]; exact Nat.le_refl _) (by rw [h9]; exact Nat.le_refl _)
  refine W.newcK hx hb hown (hts _ q1645) (hts _ q1646) (hts _ q115) rfl d0 hroom.1 hroom.2 hcls.2.1 rfl fun H1 kC hkC e1 z1 o1 => ?_
  -- the picture between: the new object isn't in it
  have hIn : xI E σ0 (σ.1, σ.2.1 + 1, σ.2.2.1 + 7, σ.2.2.2) s H1 locs (cells + 1) (slots + 7) := by
    obtain ⟨hR1, hS, f1, f2, f3, f4, f5⟩ := hI
    refine ⟨⟨by rw [z1, hz], fun q d hd => ?_⟩, ⟨by rw [z1]; exact Nat.le_succ_of_le hS.1, fun q g1 g2 => (o1 q (Nat.lt_of_lt_of_le g1 hS.1)).trans (hS.2.1 q g1 g2), hS.2.2⟩, ?_, ?_, ?_, ?_, f5⟩
    · rcases hR1.2 q d hd with h | ⟨h6, h7, h8⟩
      · exact Or.inl h
      · exact Or.inr ⟨h6.kept (o1 q h6.lt), h7, h8⟩
    · show _ = σ.2.1 + 1 - σ0.2.1
      omega
    · show _ = σ.2.2.1 + 7 - σ0.2.2.1
      omega
    · show _ ≤ σ.2.1 + 1
      omega
    · show _ ≤ σ.2.2.1 + 7
      omega
  have hnone : σ.1 σ.2.1 = none := by
    cases hq : σ.1 σ.2.1 with
    | none => rfl
    | some d =>
      rcases hI.1.2 _ d hq with ⟨-, h⟩ | ⟨h6, -, -⟩
      · exfalso
        obtain ⟨-, -, -, -, -, -, -, h7⟩ := hX0.2.2.1.1.2.1
        refine h7 ?_
        show E.2.2 ≤ σ0.2.2.2
        have h8 := hI.2.2.2.2.2.2
        have h10 := hI.2.2.2.2.1
        omega
      · have := h6.lt
        exfalso
        have h7 : σ.2.1 < H.size := this
        omega
  refine lv_dup hx hb d3 rfl ?_
  refine lv_aload_n hx hb d4 rfl (lv_at hl 0 rfl) ?_
  have hfl : xfld (σ.1, σ.2.1 + 1, σ.2.2.1 + 7, σ.2.2.2) 10 4 a = some (.int v) := by
    cases h3 : xfld σ 10 4 a with
    | none => rw [h3] at hv; cases hv
    | some w =>
      rw [h3] at hv
      cases w <;> try (cases hv; done)
      cases hv
      exact h3
  refine xr_get hX0 hIn hlg hfl d5 ?_
  have hq1 : (xFend (σ.1, σ.2.1 + 1, σ.2.2.1 + 7, σ.2.2.2) H.size v) = σ9 := by
    rw [h9, hz]
    rfl
  have hbq : E.2.2 ≤ H.size := by
    rw [hz]
    exact Nat.le_trans hb0 hI.2.2.2.2.1
  have hM := w_X12_init (E := E) hl0 (q := H.size) (v := v) (σ := (σ.1, σ.2.1 + 1, σ.2.2.1 + 7, σ.2.2.2))
  rw [hq1] at hM
  have m1 : (σ.2.1 + 1) ≤ σ9.2.1 ∧ (σ.2.2.1 + 7) ≤ σ9.2.2.1 ∧ σ9.2.2.2 = σ.2.2.2 := by rw [h9]; exact ⟨Nat.le_refl _, Nat.le_refl _, rfl⟩
  have hRl := xhR (maxL := 2) (fr' := 4) (lc' := 60) hX0 hR
  refine xgo (σ1 := σ9) (v := none) (pcn := pc + 3 + 1 + 1 + 3 + 3) (rest := [.ref H.size]) (a := #[Value.ref H.size, .int v]) (mc := σ9.2.1 - (σ.2.1 + 1)) (ms := σ9.2.2.1 - (σ.2.2.1 + 7)) hX0 hIn m1 rfl rfl ?_ (fun H2 locs2 cells2 slots2 hI2 => ?_)
  · refine va_runI (As := [.int v]) (rest := [.ref H.size]) (n := 1) hX0.1 hM (cwI 1 hts (lw_meth q1656) rfl rfl rfl (hts _ q115) (hts _ q1654) (hts _ q1655) rfl (by decide +kernel) ⟨hRl.1, hRl.2⟩) ⟨xFPc_blind, fun U hU hW => ⟨xPc_at hX0 hIn hU hW, hbq, by rw [hz]; exact hnone, by rw [hU, z1]; exact Nat.lt_succ_self _, xfresh_moved hW hcls.2.1 hkC (by rw [hU]; exact e1)⟩⟩ rfl rfl (hl.1) rfl (by show 2 * 0 + 1 ≤ 8; omega) d8 (by
      have := xfits (σ1 := σ9) hX0 hIn m1 ⟨Nat.le_refl _, Nat.le_refl _, rfl⟩
      exact this)
  · have hG : σ9.1 H.size = some (.inl (11, [.int v])) := by
      rw [h9, hz]
      simp [xup]
    obtain ⟨⟨r', hr1, ce, g1, g2, g3, g4⟩, -⟩ := xat_obj hI2 hG
    cases hr1
    refine vx_athrow hx hb d11 ?_
    rw [hz] at g1 ⊢
    exact xr_outx (r := Sum.inl σ.2.1) (by rw [show (xrt (Sum.inl σ.2.1 : Nat ⊕ β)).1 σ9 = some (Sum.inl σ.2.1, σ9) from rfl]) hX0 hE hI2 g1 g3 (by rw [g2]; exact hcls.2.1)
end XG
