/-! contracts of methods that may throw a Fault; where it is made, thrown, handed on, caught -/
set_option maxRecDepth 100000
theorem xC_11 : xCls 11 "PayMatch$Fault" xTF 1 (fun _ => .int) := ⟨rfl, (fun w h => by simp [u_ws, u_lay, xTF, List.range_succ] at h; rw [h]; exact q1663), (fun _ _ => by show parseFieldDescriptor "I" = _; rfl), (fun a ha b hb hab => absurd (by omega : a = b) hab)⟩
section XF
variable {E : xE} {p : Program} {l : Launch} {e : Env} {R : Room} {s : State} {m : MethodId} {args : Array Value} {below : List Frame} {meth : Method} {c : Code} {H : Heap} {locs : List Loc} {cells slots : Nat} {Q : State → Prop}
variable {cc : ByteArray} {pc nL fr lc : Nat} {ls : Array Slot} {rest : List Value} {own nm : String} {ret : Option FieldType} {σ0 σ σ9 : xS} {α β : Type} {r : α}
def xFPc (E : xE) (σ : xS) (q : Nat) (v : Int32) : Array Value → State → Prop := fun a U => xPc E σ [.ref q, .int v] a U ∧ E.2.2 ≤ q ∧ σ.1 q = none ∧ q < U.heap.size ∧ ∃ (cX : ClassId) (kX : Class), U.vm.findClass "PayMatch$Fault" = some cX ∧ U.vm.classes[cX]? = some kX ∧ U.heap[q]? = some (freshCell cX kX)
theorem xFPc_blind {q : Nat} {v : Int32} : FrameBlind (xFPc E σ q v) := fun a U g mk h => ⟨xPc_blind _ _ _ _ h.1, h.2⟩
theorem xl_12_7_11 : xLk "PayMatch$Fault" 7 11 0 .int true := xLk.link (T := xTF) (k := 0) (tyf := fun _ => .int) xC_11 (by decide) q1661 (fun _ => rfl)
def xFend (σ : xS) (q : Nat) (v : Int32) : xS := (xup σ.1 q (.inl (11, [.int v])), σ.2)
theorem w_X12_init (hl0 : l.stackTraces = false) {q : Nat} {v : Int32} : Met l yX12_init (ws_ yX12_init cX12_init 2 none) (xrm 4 60 σ (xFend σ q v)) (xFPc E σ q v) (xQ E (xFend σ q v) none) ((xFend σ q v).2.1 - σ.2.1) ((xFend σ q v).2.2.1 - σ.2.2.1) (xA E) := by
  refine va_MetF (cc := cX12_init) (maxL := 2) (ret := none) (by decide +kernel) rfl ?_
  intro p e s m args below meth c s₁ B hml hv
  obtain ⟨⟨rfl, hR, hK, hZ, hb0⟩, hbq, hqn, hqz, cX, kX, hfc, hkX, hcell⟩ := hv
  have hts := atoms_spec (ws := ws_ yX12_init cX12_init 2 none) B.pre
  have hts : ∀ w ∈ lw_all, w.before _ s = true := fun w h => hts w (List.mem_cons_of_mem _ h)
  have hown : s.vm.findClass "PayMatch$Fault" = some m.cls := findClass_of_methodNamed B.named
  have hin : meth.name = "<init>" := (name_of_methodNamed B.named B.method).1
  have hl := lv_entry [.ref q, .int v] (n := 2) (Nat.le_of_ble_eq_true rfl)
  rw [lg_entry_eq]
  generalize (lg_sl [.ref q, .int v] ++ List.replicate (2 - (lg_sl [.ref q, .int v]).length) Slot.unset).toArray = ls at hl ⊢
  have hl : lv_has ls 2 [(0, .ref q), (1, .int v)] := hl
  cases Option.some.inj (hown.symm.trans hfc)
  have hx := B.exec
  have hb := B.bytes
  have hX : xX E (xrm 4 60 σ (xFend σ q v)) p m c cX12_init 2 s [.ref q, .int v].toArray "PayMatch$Fault" "<init>" meth none 4 60 σ (xFend σ q v) := ⟨⟨hx, hb, hml, hown, hts⟩, hK, hZ, ⟨Nat.le_refl _, Nat.le_refl _, Nat.le_refl _, Nat.le_refl _⟩, hR.1, by rw [← hR.1]; exact hb0, hin, B.returns, B.notSynchronized, rfl⟩
  refine lv_aload_n hx hb dX12_init_0 rfl (lv_at hl 0 rfl) ?_
  intro T hT X
  have htr : e.platform.stackTraces = false := (show e.platform.stackTraces = l.stackTraces by rw [X.admits.platform]).trans hl0
  obtain ⟨V, ce, L, X2, hLb, hlt, hVh, hcc, hcv, hpl, st⟩ := xf_super X hx htr hown (xf_hat hts hK.2 hZ.2.2.1 hZ.2.2.2) hkX (by rw [hT]; exact hcell) (g := F0 m 1 ls [.ref q]) rfl (hl.1.trans hml.symm) (rest := []) rfl (by rw [hb]; exact dX12_init_1) (by show 3 < 4; omega) (by show 2 * 0 + 0 + (13 * 1 + 41) ≤ 60; omega)
  have hVs : V.heap.size = s.heap.size := by rw [hVh, hT]
  have hsz : (V.setCell q ce).heap.size = s.heap.size := by
    show (V.heap.setIfInBounds q ce).size = _
    rw [Array.size_setIfInBounds, hVs]
  have hne : ∀ q' : Nat, q' ≠ q → (V.setCell q ce).heap[q']? = s.heap[q']? := fun q' h => by
    rw [heapAt_setCell_ne ce (fun z => h z.symm), hVh, hT]
  have hce : (V.setCell q ce).heap[q]? = some ce := heapAt_setCell_self (s := V) ce hlt
  have hcls := hK.1.1 11 _ rfl
  have hD : E.1.1 11 = m.cls := Option.some.inj (hcls.2.1.symm.trans hown)
  have hat : va_at E.1 xcl (q, xcv E (.inl (11, [.int 0]))) (V.setCell q ce).heap := by
    refine ⟨_, rfl, ce, hce, by rw [hcc, hD], hcv, fun k hk => ?_⟩
    have hk0 : k = 0 := by
      have hk1 : k < 1 := hk
      omega
    subst hk0
    obtain ⟨cf, kf, fi, fd, hi, he⟩ := hcls.1 0 (by decide)
    rw [← he, hpl cf kf fi fd hi]
    have hkc : s.vm.classes[m.cls]? = some kX := hkX
    have h3 := (u_facts hown hkc (u_lays (T := xTF) (N := 1) (k := 0) hts xC_11.2.1 (by decide)) hi).2.2
    rw [(State.fieldFound?_type (t := .int) hi rfl).2] at h3
    exact k2_blank h3
  have hI : xI E σ (xFend σ q 0) s (V.setCell q ce).heap L 0 0 := by
    refine ⟨⟨by rw [hsz]; exact hR.1, fun q' d hd => ?_⟩, ⟨Nat.le_of_eq hsz.symm, fun q' g1 g2 => hne q' (fun z => g2 (by rw [z]; exact hbq)), fun y hy => by rw [hLb y hy]; exact hbq⟩, (Nat.sub_self _).symm, (Nat.sub_self _).symm, Nat.le_refl _, Nat.le_refl _, rfl⟩
    by_cases hq' : q' = q
    · subst hq'
      simp [xFend, xup] at hd
      subst hd
      exact Or.inr ⟨hat, hbq, fun a h => by cases h⟩
    · simp [xFend, xup, hq'] at hd
      rcases hR.2 q' d hd with h | ⟨h6, h7, h8⟩
      · exact Or.inl h
      · exact Or.inr ⟨h6.kept (hne q' hq'), h7, h8⟩
  have kW : W p l e (xrm 4 60 σ (xFend σ q v)) s m [.ref q, .int v].toArray below meth c (V.setCell q ce).heap L 0 0 (xMQ E below [.ref q, .int v].toArray s σ (xFend σ q v) none) (F0 m 4 ls []) := by
    refine lv_aload_n hx hb dX12_init_4 rfl (lv_at hl 0 rfl) ?_
    refine lv_iload_n hx hb dX12_init_5 rfl (lv_at hl 1 rfl) ?_
    have h : (xbd (xpt 11 0 q (.int v)) fun _ => xrt ()).1 (xFend σ q 0) = some ((), xFend σ q v) := by
      have e0 : (xFend σ q 0).1 q = some (.inl (11, [.int 0])) := by simp [xFend, xup]
      have e1 : (xpt 11 0 q (.int v)).1 (xFend σ q 0) = some ((), xset (xFend σ q 0) q (.inl (11, [.int v]))) := by
        show (match (match (xFend σ q 0).1 q with
          | some (.inl o) => if o.1 = 11 ∧ 0 < o.2.length then some (q, (.inl (11, o.2.set 0 (.int v)) : xC)) else none
          | _ => none) with
          | none => none
          | some z => some ((), xset (xFend σ q 0) z.1 z.2)) = _
        rw [e0]
        rfl
      rw [xbd_at e1]
      show some ((), xset (xFend σ q 0) q (.inl (11, [.int v]))) = some ((), xFend σ q v)
      unfold xset xFend
      rw [xup_xup]
    refine xr_pt h hX hI xl_12_7_11 (Or.inr rfl) rfl rfl dX12_init_6 (fun H locs σ h hI => ?_)
    exact xr_return h hX hI dX12_init_9
  obtain ⟨t, a1, b1⟩ := kW (V.setCell q ce) rfl X2
  exact ⟨t, st t a1, b1⟩
/-- a method's end: it returns, or a Fault at an address is thrown -/
def xQc (E : xE) (σ : xS) (res : Nat ⊕ Option Value) : Array Value → State → Outcome → State → Prop := fun a st o t => ∃ v, res = .inr v ∧ xQ E σ v a st o t
def xXC (E : xE) (σ : xS) (res : Nat ⊕ Option Value) : String → Addr → State → State → Prop := fun En q st t => res = .inl q ∧ En = "PayMatch$Fault" ∧ xRp E σ t.heap ∧ va_F (xA E) st t
def xMetX (E : xE) (l : Launch) (y : MethodName) (ws : List Cond) (fr lc : Nat) (av : List Value) (σ σ' : xS) (res : Nat ⊕ Option Value) : Prop :=
  vx_Met l y ws (xrm fr lc σ σ') (xPc E σ av) (xQc E σ' res) (xXC E σ' res) (σ'.2.1 - σ.2.1) (σ'.2.2.1 - σ.2.2.1) (xA E)
abbrev xMQX (E : xE) (below : List Frame) (args : Array Value) (s : State) (σ0 σ9 : xS) (res : Nat ⊕ Option Value) : State → Prop := vx_MQ below (xQc E σ9 res) (xXC E σ9 res) args s (σ9.2.1 - σ0.2.1) (σ9.2.2.1 - σ0.2.2.1) (xA E)
theorem xstartX {y : MethodName} {maxL : Nat} {av : List Value} {σ' : xS} {res : Nat ⊕ Option Value} (hy : plainName y.cls = true) (hm : σ.2.1 ≤ σ'.2.1 ∧ σ.2.2.1 ≤ σ'.2.2.1 ∧ σ'.2.2.2 = σ.2.2.2) (hle : (lg_sl av).length ≤ maxL)
    (body : ∀ (p : Program) (e : Env) (s : State) (m : MethodId) (args : Array Value) (below : List Frame) (meth : Method) (c : Code) (H : Heap) (locs : List Loc) (cells slots : Nat) (ls : Array Slot) (R : Room), xX E R p m c cc maxL s args y.cls y.name meth ret fr lc σ σ' → (∀ x ∈ c.exceptionTable.toList, False) → xI E σ σ s H locs cells slots → lv_has ls maxL (lv_args 0 av) →
      W p l e R s m args below meth c H locs cells slots (xMQX E below args s σ σ' res) (F0 m 0 ls [])) : xMetX E l y (ws_ y cc maxL ret) fr lc av σ σ' res := by
  refine vx_ofW (cc := cc) (maxL := maxL) (ret := ret) hy rfl ?_
  intro p e s m args below meth c s₁ B hml htab hv
  obtain ⟨rfl, hR, hK, hZ, hb0⟩ := hv
  have hts := atoms_spec (ws := ws_ y cc maxL ret) B.pre
  have hts : ∀ w ∈ lw_all, w.before _ s = true := fun w h => hts w (List.mem_cons_of_mem _ h)
  have hown : s.vm.findClass y.cls = some m.cls := findClass_of_methodNamed B.named
  have hin : meth.name = y.name := (name_of_methodNamed B.named B.method).1
  have hl := lv_entry av (n := maxL) hle
  rw [lg_entry_eq]
  generalize (lg_sl av ++ List.replicate (maxL - (lg_sl av).length) Slot.unset).toArray = ls at hl ⊢
  exact body p e s m av.toArray below meth c s.heap [] 0 0 ls (xrm fr lc σ σ') ⟨⟨B.exec, B.bytes, hml, hown, hts⟩, hK, hZ, ⟨Nat.le_refl _, Nat.le_refl _, Nat.le_refl _, Nat.le_refl _⟩, hR.1, by rw [← hR.1]; exact hb0, hin, B.returns, B.notSynchronized, hm.2.2⟩ htab ⟨hR, va_S.rf, (Nat.sub_self _).symm, (Nat.sub_self _).symm, Nat.le_refl _, Nat.le_refl _, rfl⟩ hl
/-- a method with handlers that throws nothing -/
theorem xstartH {y : MethodName} {maxL : Nat} {av : List Value} {σ' : xS} {v : Option Value} {hh : List (Nat × Nat × Nat × Nat)} (hy : plainName y.cls = true) (hm : σ.2.1 ≤ σ'.2.1 ∧ σ.2.2.1 ≤ σ'.2.2.1 ∧ σ'.2.2.2 = σ.2.2.2) (hle : (lg_sl av).length ≤ maxL)
    (body : ∀ (p : Program) (e : Env) (s : State) (m : MethodId) (args : Array Value) (below : List Frame) (meth : Method) (c : Code) (H : Heap) (locs : List Loc) (cells slots : Nat) (ls : Array Slot) (R : Room), xX E R p m c cc maxL s args y.cls y.name meth ret fr lc σ σ' → c.exceptionTable.toList = tableOf hh → xI E σ σ s H locs cells slots → lv_has ls maxL (lv_args 0 av) →
      W p l e R s m args below meth c H locs cells slots (xMQ E below args s σ σ' v) (F0 m 0 ls [])) : xMet E l y (Cond.codeWith y cc maxL ret hh :: lw_all) fr lc av σ σ' v := by
  refine va_MetW (cc := cc) (maxL := maxL) (ret := ret) (hh := hh) hy rfl ?_
  intro p e s m args below meth c s₁ B hml hv
  obtain ⟨rfl, hR, hK, hZ, hb0⟩ := hv
  have hts := atoms_spec (ws := Cond.codeWith y cc maxL ret hh :: lw_all) B.pre
  have htab := vx_table (x := y) B (hts _ List.mem_cons_self)
  have hts : ∀ w ∈ lw_all, w.before _ s = true := fun w h => hts w (List.mem_cons_of_mem _ h)
  have hown : s.vm.findClass y.cls = some m.cls := findClass_of_methodNamed B.named
  have hin : meth.name = y.name := (name_of_methodNamed B.named B.method).1
  have hl := lv_entry av (n := maxL) hle
  rw [lg_entry_eq]
  generalize (lg_sl av ++ List.replicate (maxL - (lg_sl av).length) Slot.unset).toArray = ls at hl ⊢
  exact body p e s m av.toArray below meth c s.heap [] 0 0 ls (xrm fr lc σ σ') ⟨⟨B.exec, B.bytes, hml, hown, hts⟩, hK, hZ, ⟨Nat.le_refl _, Nat.le_refl _, Nat.le_refl _, Nat.le_refl _⟩, hR.1, by rw [← hR.1]; exact hb0, hin, B.returns, B.notSynchronized, hm.2.2⟩ htab ⟨hR, va_S.rf, (Nat.sub_self _).symm, (Nat.sub_self _).symm, Nat.le_refl _, Nat.le_refl _, rfl⟩ hl
/-- it returns -/
theorem xr_okx {iv : β → Option Value} {v : β} {r : Nat ⊕ β} {g : JFrame} (h : (xrt (Sum.inr v : Nat ⊕ β)).1 σ = some (r, σ9)) (k : (xrt v).1 σ = some (v, σ9) → W p l e R s m args below meth c H locs cells slots (xMQ E below args s σ0 σ9 (iv v)) g) :
    W p l e R s m args below meth c H locs cells slots (xMQX E below args s σ0 σ9 (Sum.map id iv r)) g := by
  cases h
  intro T hT X
  obtain ⟨t, a1, o, b1, b2, b3, b4⟩ := k rfl T hT X
  exact ⟨t, a1, o, b1, b2, Or.inl ⟨⟨_, rfl, b3⟩, b4⟩⟩
/-- it is thrown on -/
theorem xr_outx {iv : β → Option Value} {q : Nat} {r : Nat ⊕ β} {ce : Cell} (h : (xrt (Sum.inl q : Nat ⊕ β)).1 σ = some (r, σ9)) (hX : xX E R p m c cc nL s args own nm meth ret fr lc σ0 σ9) (hE : ∀ x ∈ c.exceptionTable.toList, False) (hI : xI E σ0 σ s H locs cells slots) (hce : H[q]? = some ce) (hcv : ce.vm = .none) (hcl : s.vm.findClass "PayMatch$Fault" = some ce.cls) :
    vx_W p l e R s m args below meth c H locs cells slots (xMQX E below args s σ0 σ9 (Sum.map id iv r)) (F0 m pc ls rest) q := by
  cases h
  obtain ⟨-, -, -, -, -, -, -, -, hlk, -⟩ := hX
  obtain ⟨hR, hS, e1, e2, -, -, -⟩ := hI
  refine vx_out (fun x hx => (hE x hx).elim) hlk hce hcv hcl (fun t ht hal => ⟨rfl, rfl, by rw [ht]; exact hR, by rw [ht]; exact hS.1, fun q' g1 g2 => by rw [ht]; exact hS.2.1 q' g1 g2⟩) hS.2.2 (Nat.le_of_eq e1) (Nat.le_of_eq e2)
end XF
