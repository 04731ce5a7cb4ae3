/-! exceptions: Fault's constructor; throws, catches -/
set_option maxRecDepth 100000
section XE0
variable {E : xE} {p : Program} {l : Launch} {e : Env} {R : Room} {s : State} {m : MethodId} {args : Array Value} {below : List Frame} {meth : Method} {c : Code} {H : Heap} {locs : List Loc} {cells slots : Nat} {Q : State → Prop}
/-- the words of Fault's superclasses -/
def xf_ws : List Cond := Bundle.throwableAtoms ++ (Bundle.passAtoms "java/lang/Exception" Bundle.tN 1 Bundle.five ++ [.methodLink "PayMatch$Fault" 1 (Bundle.init0 "java/lang/Exception"), .instantiable "PayMatch$Fault" 7, .selects "PayMatch$Fault" Bundle.tFill0 Bundle.tFill0, .selects "PayMatch$Fault" Bundle.tFill Bundle.tFill,
   .lays "PayMatch$Fault" Bundle.tN "cause" "Ljava/lang/Throwable;", .lays "PayMatch$Fault" Bundle.tN "stackTrace" Bundle.steD, .lays "PayMatch$Fault" Bundle.tN "suppressedExceptions" Bundle.listD, .lays "PayMatch$Fault" Bundle.tN "detailMessage" "Ljava/lang/String;",
   .isRef (.static Bundle.tN "UNASSIGNED_STACK" Bundle.steD), .isRef (.static Bundle.tN "SUPPRESSED_SENTINEL" Bundle.listD),
   .fieldLink Bundle.tN 198 Bundle.tN "backtrace" "Ljava/lang/Object;", .lays Bundle.tN Bundle.tN "backtrace" "Ljava/lang/Object;", .lays "PayMatch$Fault" Bundle.tN "backtrace" "Ljava/lang/Object;", .laysFinal "PayMatch$Fault" "PayMatch$Fault" "place" "I"])
theorem xf_hat {A : Nat → Prop} (hts : ∀ w ∈ lw_all, w.before args s = true) (hN : xN s) (hU : vx_Zq Bundle.tN "UNASSIGNED_STACK" Bundle.steD A s s.heap) (hS : vx_Zq Bundle.tN "SUPPRESSED_SENTINEL" Bundle.listD A s s.heap) : ∀ w ∈ xf_ws, w.before args s = true := by
  simp only [xf_ws, Bundle.throwableAtoms, Bundle.passAtoms, List.cons_append, List.nil_append, List.forall_mem_cons]
  exact ⟨hts _ q96, hts _ q538, hts _ q547, hts _ q551, hts _ q554, hts _ q556, hts _ q539, hts _ q540, hts _ q123, hts _ q124, hts _ q541, hts _ q546, hts _ q552, hts _ q806, hts _ q528, hts _ q807, hts _ q530, hts _ q808, hts _ q532, hts _ q542, hU.2.word, hts _ q544, hS.2.word, hts _ q534,
    hts _ q1658, hts _ q1659, hts _ q1660, hts _ q539, va_Nw.use rfl (hN.1 _ q523 rfl), hts _ q1657, hts _ q1646, hts _ q1648, hts _ q549, hts _ q1649, hts _ q1650, hts _ q1651, hts _ q1652, vx_isRefq hU.1, vx_isRefq hS.1, hts _ q804, hts _ q536, hts _ q1653, hts _ q1663, fun w h => by cases h⟩
variable {W : State}
set_option maxHeartbeats 1000000 in
/-- 'super()' of Fault: the object is as 'new' made it -/
theorem xf_super (X : Stand p l e R s m args below meth c W [] 0 0) (hexec : p.tables.exec = Jvm.exec) (htr : e.platform.stackTraces = false)
    (hown : s.vm.findClass "PayMatch$Fault" = some m.cls) (h : ∀ a ∈ xf_ws, a.before args s = true)
    {a : Addr} {kX : Class} (hkX : s.vm.classes[m.cls]? = some kX) (hcell : W.heap[a]? = some (freshCell m.cls kX))
    {g : JFrame} (hg : g.method = m) (hsize : g.locals.size = c.maxLocals) {rest : List Value} (hstack : g.stack = .ref a :: rest)
    (hd6 : decode c.code g.pc = .ok (.invokespecial 1, 3))
    (hRframes : 3 < R.frames) (hRlocals : 2 * g.monitorRoom + (rest.map fun v => v.category).sum + (13 * 1 + 41) ≤ R.locals) :
    ∃ (V : State) (ce : Cell) (L : List Loc), Stand p l e R s m args below meth c (V.setCell a ce) L 0 0 ∧ (∀ y ∈ L, y.base = a) ∧ a < V.heap.size ∧ V.heap = W.heap ∧ ce.cls = m.cls ∧ ce.vm = .none ∧
      (∀ cf kf fi fd, s.fieldFound? "PayMatch$Fault" "place" "I" = some (cf, kf, fi, fd) → ce.slots[fd.slot]? = (freshCell m.cls kX).slots[fd.slot]?) ∧
      ∀ target, Steps p.tables e below ((V.setCell a ce).setTop { g with stack := rest, pc := g.pc + 3 }) target → Steps p.tables e below (W.setTop g) target := by
  have howns : e.platform.frameOwnsMonitors = true := by rw [X.admits.platform]
  have hfin : e.platform.finalization = false := by rw [X.admits.platform]
  have hpl : e.platform.magicAccessors = ({} : Platform).magicAccessors := by rw [X.admits.platform]
  have a' : ∀ x, x ∈ xf_ws → x.holds args s none s [] = true := fun x hx => h x hx
  obtain ⟨T, Z, L, LZ, Y⟩ := ThrowableC.of_atoms (args := args) howns hfin hpl (fun x hx => h x (by simp [xf_ws, hx]))
  obtain ⟨P1, Ps, hlen, L1, hL, hP1m, hlink1, hlink⟩ := Bundle.chain0 (args := args) hpl Y.init0 [] "java/lang/Exception" rfl (fun n hn => nomatch hn) (fun x hx => h x (by simp only [Bundle.chain0Atoms] at hx; simp [xf_ws, hx]))
  have hPs : Ps = [] := List.eq_nil_of_length_eq_zero hlen
  subst hPs
  have hfound : s.vm.findClass "PayMatch$Fault" = some m.cls := hown
  obtain ⟨c1, kX', hc1, hk, hord, -, -, hn6⟩ := Cond.instantiable_spec (a' (.instantiable "PayMatch$Fault" 7) (by simp [xf_ws]))
  cases Option.some.inj (hc1.symm.trans hfound)
  cases Option.some.inj (hkX.symm.trans hk)
  have hsel0 : selectMethod e.platform s.vm m.cls T.fill0 = .method T.fill0 := by
    obtain ⟨c2, r2, m2, q1, q2, q3, q4, -⟩ := Cond.selects_spec (a' (.selects "PayMatch$Fault" Bundle.tFill0 Bundle.tFill0) (by simp [xf_ws]))
    cases Option.some.inj (q1.symm.trans hfound)
    cases Option.some.inj (q2.symm.trans (State.methodFound?_of_named Y.fill0 (by decide)))
    cases Option.some.inj (q3.symm.trans Y.fill0)
    rw [Launch.admits_selectMethod X.admits]; exact q4
  have hselF : selectMethod e.platform s.vm m.cls T.fill = .method T.fill := by
    obtain ⟨c2, r2, m2, q1, q2, q3, q4, -⟩ := Cond.selects_spec (a' (.selects "PayMatch$Fault" Bundle.tFill Bundle.tFill) (by simp [xf_ws]))
    cases Option.some.inj (q1.symm.trans hfound)
    cases Option.some.inj (q2.symm.trans (State.methodFound?_of_named Y.fill (by decide)))
    cases Option.some.inj (q3.symm.trans Y.fill)
    rw [Launch.admits_selectMethod X.admits]; exact q4
  obtain ⟨cellS0, hcS0, hiss⟩ := Y.statics
  obtain ⟨u0, hu0⟩ := Cond.staticRefV Y.unassigned L.unassignedStatic L.statics hcS0 hiss (a' (.isRef (.static Bundle.tN "UNASSIGNED_STACK" Bundle.steD)) (by simp [xf_ws]))
  obtain ⟨sen, hsen⟩ := Cond.staticRefV Y.sentinel L.sentinelStatic L.statics hcS0 hiss (a' (.isRef (.static Bundle.tN "SUPPRESSED_SENTINEL" Bundle.listD)) (by simp [xf_ws]))
  obtain ⟨ci198, i198, fB, hk198, hg198, ha198, hsB, -, hnB, htB, hffB⟩ := Cond.ownField (t := .object "java/lang/Object") Y.found L.cls (by decide +kernel) (a' (.fieldLink Bundle.tN 198 Bundle.tN "backtrace" "Ljava/lang/Object;") (by simp [xf_ws])) (a' (.lays Bundle.tN Bundle.tN "backtrace" "Ljava/lang/Object;") (by simp [xf_ws])) e.platform hpl
  obtain ⟨cellS, hcS', heS, -, hkeep⟩ := X.same.2.2.2.2.2 T.aS cellS0 hcS0
  have hcellS : W.heap[T.aS]? = some cellS := hcS'
  have hout' : ∀ i, (⟨T.aS, i⟩ : Loc) ∉ ([] : List Loc) := fun i hmem => nomatch hmem
  have hknownS : cellS.vm ≠ .unknown := by
    rw [heS]; intro hu
    rw [show cellS0.vm = .unknown from hu] at hiss
    cases hiss
  have hneS : T.aS ≠ a := by
    intro hz
    have h9 : cellS = freshCell m.cls kX := by
      rw [hz, hcell] at hcellS
      exact (Option.some.inj hcellS).symm
    rw [h9] at heS
    have h8 := (congrArg Cell.vm heS).symm
    have h8 : cellS0.vm = (freshCell m.cls kX).vm := h8
    rw [h8] at hiss
    cases hiss
  obtain ⟨iM, hffM⟩ := Y.msg
  obtain ⟨tyC, dC, hdC, hdnC⟩ := Cond.laysAt hfound hk Y.cause (a' (.lays "PayMatch$Fault" Bundle.tN "cause" "Ljava/lang/Throwable;") (by simp [xf_ws]))
  obtain ⟨tyS, dS, hdS, hdnS⟩ := Cond.laysAt hfound hk Y.stack (a' (.lays "PayMatch$Fault" Bundle.tN "stackTrace" Bundle.steD) (by simp [xf_ws]))
  obtain ⟨tyP, dP, hdP, hdnP⟩ := Cond.laysAt hfound hk Y.supp (a' (.lays "PayMatch$Fault" Bundle.tN "suppressedExceptions" Bundle.listD) (by simp [xf_ws]))
  obtain ⟨tyB, dB, hdB, hdnB⟩ := Cond.laysAt hfound hk hffB (a' (.lays "PayMatch$Fault" Bundle.tN "backtrace" "Ljava/lang/Object;") (by simp [xf_ws]))
  have bC := Cond.laysApart hdB hdC hdnB hdnC (by rw [hnB, Y.causeName]; decide)
  have bS := Cond.laysApart hdB hdS hdnB hdnS (by rw [hnB, Y.stackName]; decide)
  have bP := Cond.laysApart hdB hdP hdnB hdnP (by rw [hnB, Y.suppName]; decide)
  have hskip : SkipFacts T e.platform s (fun u => u) u0 ((preparedCellV T.toThrowableT (freshCell m.cls kX) a u0 sen).withEntry W.cur) :=
    ⟨{ ci198 := ci198, i198 := i198, fBack := fB }, ⟨hk198, hg198, ha198, hsB⟩, by
      have := fresh_default (c := m.cls) tyB
      rw [htB] at this
      simpa [preparedCellV, Cell.setSlot, Cell.withEntry, Array.getElem?_setIfInBounds, bC, bS, bP, bC.symm, bS.symm, bP.symm, defaultValue] using this, fun _ _ => rfl⟩
  obtain ⟨tm, methC, cdC, kC, vm₁, hnC, -, -, -, -, -, -, -, hW₁, st1⟩ := Steps.initCold (tb := p.tables) (e := e) (below := below) (s := s) (U := W) X.here hexec X.warmed hpl hown (t := Bundle.init0 "java/lang/Exception") rfl rfl (by decide)
    (a' (.methodLink "PayMatch$Fault" 1 (Bundle.init0 "java/lang/Exception")) (by simp [xf_ws])) (h (.instanceMethod (Bundle.init0 "java/lang/Exception")) (by simp [xf_ws, Bundle.passAtoms])) (bytes := Bundle.five) (maxL := 1) (h (.code (Bundle.init0 "java/lang/Exception") Bundle.five 1 none) (by simp [xf_ws, Bundle.passAtoms]))
    (f := g) hg (a := a) (rest := rest) hstack hd6
  cases Option.some.inj (hnC.symm.trans hP1m)
  have X₁ := X.noted hW₁
  obtain ⟨vm₂, X₂, st2⟩ := X₁.ctorPlainOffV hexec (g := { g with stack := rest }) hg hsize T L Z LZ [P1]
    (fun P hP => by rcases List.mem_cons.mp hP with rfl | hP; exact L1; exact nomatch hP) ⟨hlink1, hlink⟩ (u0 := u0) (sen := sen) (self := a) (cell := freshCell m.cls kX) (cellS := cellS)
    hcell (fun _ => by simp) (by simp) rfl rfl hsel0 hselF hcellS hneS hknownS (by rw [hkeep _ (hout' _)]; exact hu0) (by rw [hkeep _ (hout' _)]; exact hsen)
    (Takes.of_laid hk hord tyC (by rw [Y.causeType]; rfl)) (Takes.of_laid hk hord tyS (by rw [Y.stackType]; exact fits_refV_array _ u0)) (Takes.of_laid hk hord tyP (by rw [Y.suppType]; exact fits_refV_object _ sen)) Y.objLocals hskip htr [] hd6
    hRframes hRlocals
  have hlt : a < ((W.setVm vm₁).setVm vm₂).heap.size := (Array.getElem?_eq_some_iff.mp hcell).1
  refine ⟨(W.setVm vm₁).setVm vm₂, _, _, X₂, fun y hy => ?_, hlt, rfl, rfl, rfl, ?_, fun target hwalk => st1 _ (fun acts => ?_)⟩
  · simp only [List.nil_append, List.mem_cons, List.not_mem_nil, or_false] at hy
    rcases hy with rfl | rfl | rfl | rfl <;> rfl
  · intro cf kf fi fd hfd
    have hnm : fd.name = "place" := (State.fieldFound?_type (t := .int) hfd rfl).1
    have hF : (Cond.laysFinal "PayMatch$Fault" "PayMatch$Fault" "place" "I").before args s = true := h _ (by simp [xf_ws])
    have eC := u_apart (Or.inr hF) (Or.inl (h (.lays "PayMatch$Fault" Bundle.tN "cause" "Ljava/lang/Throwable;") (by simp [xf_ws]))) hfd Y.cause (by rw [hnm, Y.causeName]; decide)
    have eS := u_apart (Or.inr hF) (Or.inl (h (.lays "PayMatch$Fault" Bundle.tN "stackTrace" Bundle.steD) (by simp [xf_ws]))) hfd Y.stack (by rw [hnm, Y.stackName]; decide)
    have eP := u_apart (Or.inr hF) (Or.inl (h (.lays "PayMatch$Fault" Bundle.tN "suppressedExceptions" Bundle.listD) (by simp [xf_ws]))) hfd Y.supp (by rw [hnm, Y.suppName]; decide)
    simp only [preparedCellV, Cell.setSlot, Array.getElem?_setIfInBounds]
    rw [if_neg eS.symm, if_neg eP.symm, if_neg eS.symm, if_neg eC.symm]
  · rw [doInvoke_state]
    exact st2 _ hwalk
end XE0
