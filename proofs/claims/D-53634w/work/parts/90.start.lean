/-! the start: from the law's entry to the pure claim (printed by mkstart.py) -/
set_option maxRecDepth 100000
theorem xsel_priv {y : MethodName} {s : State} {args : Array Value} {C : String} {n : Nat} {y2 : MethodName} (hy : y.cls ≠ "java/lang/invoke/MethodHandle" ∧ y.cls ≠ "java/lang/invoke/VarHandle") (h2 : y2.cls = y.cls)
    (hins : (Cond.instantiable C n).before args s = true) (hpriv : (Cond.privateMethod y).before args s = true) (hinst : (Cond.instanceMethod y).before args s = true) (hsel : (Cond.selects C y2 y2).before args s = true) :
    (Cond.selects C y y).before args s = true := by
  obtain ⟨c, k, hc, hk, -, -, -, -⟩ := Cond.instantiable_spec hins
  obtain ⟨mk, methM, hnamed, hmethM, -, -⟩ := Cond.instanceMethod_spec hinst
  have hfound : s.methodFound? y.cls y.name y.desc = some mk := State.methodFound?_of_named hnamed hy
  have hsel1 : selectMethod {} s.vm c mk = .method mk := selectMethod_private hmethM (Cond.privateMethod_at hpriv mk methM hnamed hmethM)
  obtain ⟨c2, r2, m2, q1, q2, q3, q4, kP, hkP, hkPi⟩ := Cond.selects_spec hsel
  have e1 : m2.cls = mk.cls := by
    have a1 := findClass_of_methodNamed q3
    have a2 := findClass_of_methodNamed hnamed
    rw [h2] at a1
    exact Option.some.inj (a1.symm.trans a2)
  rw [e1] at hkP
  simp only [Cond.before, Cond.holds, Cond.value, hc, hfound, hnamed, hsel1, hkP]
  simp; exact hkPi
theorem xcast_of {args : Array Value} {s : State} {C T : String} {comp c0 : ClassId} (h : (Cond.castable C T).before args s = true) (e2 : s.vm.findClass T = some comp) (e3 : s.vm.findClass C = some c0) : s.vm.assignable c0 comp = true := by
  obtain ⟨c3, c4, hc3, hc4, hasg⟩ := Cond.castable_spec h
  cases hc3.symm.trans e3
  cases hc4.symm.trans e2
  exact hasg
theorem xcast_self {s : State} {C : String} {N : Nat} {T : u_T} {cC comp c0 : ClassId} {iS : Nat → Nat} (h : u_Kn s C T N cC iS) (e2 : s.vm.findClass C = some comp) (e3 : s.vm.findClass C = some c0) : s.vm.assignable c0 comp = true := by
  cases e2.symm.trans e3
  cases h.2.1.symm.trans e2
  exact va_assign h.2
theorem xeqt {args : Array Value} {s : State} {tm : Term} {z : Int32} (h : (Cond.eq tm (.int z)).before args s = true) : tm.eval args s none [] s = some (.int z) := by
  cases hv : tm.eval args s none [] s with
  | none => simp [Cond.before, Cond.holds, Cond.value, hv] at h
  | some w =>
    have hz : (Term.int z).eval args s none [] s = some (.int z) := rfl
    simp only [Cond.before, Cond.holds, Cond.value, hv, hz] at h
    cases w <;> simp_all
theorem xflags {l : Launch} (h : l.flags = flags0) : l.stackTraces = false := by
  unfold Launch.stackTraces
  rw [h]
  decide +kernel
section XS
variable {s : State} {A : Array Value}
theorem xK_cls (hts : ∀ w ∈ lw_all, w.before A s = true) : ∀ c : Nat, ∃ (cC : ClassId) (iS : Nat → Nat), ∀ q : vw_C, xcl[c]? = some q → u_Kn s q.1 q.2.1 q.2.2 cC iS := by
  intro c
  match c with
  | 0 => obtain ⟨cC, iS, h⟩ := u_known hts xC_0.2.1 (hts _ q118); exact ⟨cC, iS, fun q hq => by cases hq; exact h⟩
  | 1 => obtain ⟨cC, iS, h⟩ := u_known hts xC_1.2.1 (hts _ q126); exact ⟨cC, iS, fun q hq => by cases hq; exact h⟩
  | 2 => obtain ⟨cC, iS, h⟩ := u_known hts xC_2.2.1 (hts _ q132); exact ⟨cC, iS, fun q hq => by cases hq; exact h⟩
  | 3 => obtain ⟨cC, iS, h⟩ := u_known hts xC_3.2.1 (hts _ q1964); exact ⟨cC, iS, fun q hq => by cases hq; exact h⟩
  | 4 => obtain ⟨cC, iS, h⟩ := u_known hts xC_4.2.1 (hts _ q870); exact ⟨cC, iS, fun q hq => by cases hq; exact h⟩
  | 5 => obtain ⟨cC, iS, h⟩ := u_known hts xC_5.2.1 (hts _ q949); exact ⟨cC, iS, fun q hq => by cases hq; exact h⟩
  | 6 => obtain ⟨cC, iS, h⟩ := u_known hts xC_6.2.1 (hts _ q1008); exact ⟨cC, iS, fun q hq => by cases hq; exact h⟩
  | 7 => obtain ⟨cC, iS, h⟩ := u_known hts xC_7.2.1 (hts _ q1050); exact ⟨cC, iS, fun q hq => by cases hq; exact h⟩
  | 8 => obtain ⟨cC, iS, h⟩ := u_known hts xC_8.2.1 (hts _ q1453); exact ⟨cC, iS, fun q hq => by cases hq; exact h⟩
  | 9 => obtain ⟨cC, iS, h⟩ := u_known hts xC_9.2.1 (hts _ q1511); exact ⟨cC, iS, fun q hq => by cases hq; exact h⟩
  | 10 => obtain ⟨cC, iS, h⟩ := u_known hts xC_10.2.1 (hts _ q1557); exact ⟨cC, iS, fun q hq => by cases hq; exact h⟩
  | 11 => obtain ⟨cC, iS, h⟩ := u_known hts xC_11.2.1 (hts _ q1646); exact ⟨cC, iS, fun q hq => by cases hq; exact h⟩
  | 12 => obtain ⟨cC, iS, h⟩ := u_known hts xC_12.2.1 (hts _ q138); exact ⟨cC, iS, fun q hq => by cases hq; exact h⟩
  | 13 => obtain ⟨cC, iS, h⟩ := u_known hts xC_13.2.1 (hts _ q175); exact ⟨cC, iS, fun q hq => by cases hq; exact h⟩
  | 14 => obtain ⟨cC, iS, h⟩ := u_known hts xC_14.2.1 (hts _ q234); exact ⟨cC, iS, fun q hq => by cases hq; exact h⟩
  | 15 => obtain ⟨cC, iS, h⟩ := u_known hts xC_15.2.1 (hts _ q254); exact ⟨cC, iS, fun q hq => by cases hq; exact h⟩
  | 16 => obtain ⟨cC, iS, h⟩ := u_known hts xC_16.2.1 (hts _ q345); exact ⟨cC, iS, fun q hq => by cases hq; exact h⟩
  | 17 => obtain ⟨cC, iS, h⟩ := u_known hts xC_17.2.1 (hts _ q412); exact ⟨cC, iS, fun q hq => by cases hq; exact h⟩
  | 18 => obtain ⟨cC, iS, h⟩ := u_known hts xC_18.2.1 (hts _ q1143); exact ⟨cC, iS, fun q hq => by cases hq; exact h⟩
  | 19 => obtain ⟨cC, iS, h⟩ := u_known hts xC_19.2.1 (hts _ q1916); exact ⟨cC, iS, fun q hq => by cases hq; exact h⟩
  | n + 20 => exact ⟨0, fun _ => 0, fun q hq => by simp at hq⟩
theorem xK_arrP {ty : FieldType} (hne : ∀ C, ty ≠ .object C) (h : (Cond.arrayClass ty).before A s = true) : ∃ cA : ClassId, ArrOfT s cA ty ∧ va_RA s cA ty := by
  obtain ⟨c, k, comp, h1, h2, h3⟩ := Cond.arrayClass_spec h
  refine ⟨c, fun N z => ⟨(fun k h => by cases h), k, h2, comp, h3⟩, ?_⟩
  cases ty <;> first | exact h1 | exact absurd rfl (hne _)
theorem xK_arrO {C : String} (h : (Cond.arrayOver (.object C)).before A s = true) : ∃ cA : ClassId, ArrOfT s cA (.object C) ∧ va_RA s cA (.object C) := by
  obtain ⟨comp, c, k, h1, -, h2, h3, h4⟩ := Cond.arrayOver_spec h
  exact ⟨c, fun N z => ⟨(fun k h => by cases h), k, h2, comp, h3⟩, k, comp, h2, h3, h1, h4⟩
theorem xK_arr (hts : ∀ w ∈ lw_tbl, w.before A s = true) : ∀ t : Nat, ∃ cA : ClassId, t < 7 → ArrOfT s cA (xty t) ∧ va_RA s cA (xty t) := by
  intro t
  match t with
  | 0 => obtain ⟨c, h⟩ := xK_arrP (ty := .int) (by intro C h; cases h) (hts _ (lw_all_tbl q2013)); exact ⟨c, fun _ => h⟩
  | 1 => obtain ⟨c, h⟩ := xK_arrP (ty := .long) (by intro C h; cases h) (hts _ (lw_all_tbl q2012)); exact ⟨c, fun _ => h⟩
  | 2 => obtain ⟨c, h⟩ := xK_arrP (ty := .byte) (by intro C h; cases h) (hts _ (lw_all_tbl q285)); exact ⟨c, fun _ => h⟩
  | 3 => obtain ⟨c, h⟩ := xK_arrO (hts _ q240); exact ⟨c, fun _ => h⟩
  | 4 => obtain ⟨c, h⟩ := xK_arrO (hts _ q867); exact ⟨c, fun _ => h⟩
  | 5 => obtain ⟨c, h⟩ := xK_arrO (hts _ q1937); exact ⟨c, fun _ => h⟩
  | 6 => obtain ⟨c, h⟩ := xK_arrO (hts _ q1938); exact ⟨c, fun _ => h⟩
  | n + 7 => exact ⟨0, fun h => absurd h (by omega)⟩
theorem xN_of (hts : ∀ w ∈ lw_tbl, w.before A s = true) (hg : ∀ w ∈ flatC (Jvm.Cond.and given_1 narrow_1), w.before A s = true) : xN s := by
  have hta : ∀ w ∈ lw_all, w.before A s = true := fun w h => hts w (lw_all_tbl h)
  refine ⟨fun w hw hb => va_Nw.of (by cases w <;> first | rfl | cases hb) (hts w hw), xfw_of hts, ⟨va_AO.of (hts _ q240), va_AO.of (hts _ q867), va_AO.of (hts _ q1937), va_AO.of (hts _ q1938)⟩, va_Mi.of (hg _ (by decide +kernel)), va_Dc.of (hts _ q2412), ?_, ?_, va_Nc.of (hg _ (by decide +kernel)), va_Nc.of (hg _ (by decide +kernel))⟩
  · intro c t hc r comp c0 e1 e2 e3
    unfold xcast at hc
    simp only [Bool.or_eq_true, Bool.and_eq_true, beq_iff_eq, decide_eq_true_eq] at hc
    rcases hc with ((⟨rfl, hc⟩ | ⟨rfl, rfl⟩) | ⟨rfl, rfl⟩) | ⟨rfl, rfl⟩
    · match c, hc with
      | 0, _ => cases e1; exact xcast_of (hts _ q2387) e2 e3
      | 1, _ => cases e1; exact xcast_of (hts _ q2388) e2 e3
      | 2, _ => cases e1; exact xcast_of (hts _ q2389) e2 e3
      | 3, _ => cases e1; exact xcast_of (hts _ q2394) e2 e3
      | 4, _ => cases e1; exact xcast_of (hts _ q2386) e2 e3
      | 5, _ => cases e1; exact xcast_of (hts _ q2403) e2 e3
      | 6, _ => cases e1; exact xcast_of (hts _ q2385) e2 e3
      | 7, _ => cases e1; exact xcast_of (hts _ q2402) e2 e3
      | 8, _ => cases e1; exact xcast_of (hts _ q2405) e2 e3
      | 9, _ => cases e1; exact xcast_of (hts _ q2384) e2 e3
      | 10, _ => cases e1; exact xcast_of (hts _ q2406) e2 e3
      | 11, _ => cases e1; exact xcast_of (hts _ q2407) e2 e3
      | 12, _ => cases e1; exact xcast_of (hts _ q2390) e2 e3
      | 13, _ => cases e1; exact xcast_of (hts _ q2391) e2 e3
      | 14, _ => cases e1; exact xcast_of (hts _ q2392) e2 e3
      | 15, _ => cases e1; exact xcast_of (hts _ q2393) e2 e3
      | 16, _ => cases e1; exact xcast_of (hts _ q2395) e2 e3
      | 17, _ => cases e1; exact xcast_of (hts _ q2398) e2 e3
      | 18, _ => cases e1; exact xcast_of (hts _ q2401) e2 e3
      | 19, _ => cases e1; exact xcast_of (hts _ q2408) e2 e3
      | n + 20, hc => omega
    · cases e1
      obtain ⟨cC, iS, h⟩ := xK_cls hta 9
      exact xcast_self (h _ rfl) e2 e3
    · cases e1
      obtain ⟨cC, iS, h⟩ := xK_cls hta 6
      exact xcast_self (h _ rfl) e2 e3
    · cases e1
      obtain ⟨cC, iS, h⟩ := xK_cls hta 4
      exact xcast_self (h _ rfl) e2 e3
  · intro q hq
    simp only [xsl, List.mem_cons, List.not_mem_nil, or_false] at hq
    rcases hq with rfl | rfl
    · exact va_Nw.of rfl (xsel_priv (y2 := yJ6_isLatin1) (by decide +kernel) rfl (hta _ q254) (hts _ q635) (hta _ q636) (hta _ q672))
    · exact va_Nw.of rfl (xsel_priv (y2 := yJ6_isLatin1) (by decide +kernel) rfl (hta _ q254) (hts _ q719) (hta _ q720) (hta _ q672))
theorem xZ_of (dE : va_G) (dA : Nat → ClassId) (hts : ∀ w ∈ lw_tbl, w.before A s = true) (hg : ∀ w ∈ flatC (Jvm.Cond.and given_1 narrow_1), w.before A s = true) : ∃ e0 : Nat, e0 < s.heap.size ∧ xZ (dE, dA, s.heap.size) e0 s := by
  have hA : ∀ a : Nat, a < s.heap.size → ¬ xA (dE, dA, s.heap.size) a := fun a h h2 => absurd (show s.heap.size ≤ a from h2) (Nat.not_le.mpr h)
  obtain ⟨e0, he, hT⟩ := va_Tof (tm := .static "java/util/ArrayList" "DEFAULTCAPACITY_EMPTY_ELEMENTDATA" "[Ljava/lang/Object;") (ty := .object "java/lang/Object") (N := 0) (f := fun _ => .null) (by decide) (hg _ (by decide +kernel)) (xeqt (z := 0) (hg _ (by decide +kernel))) (fun j h => absurd h (Nat.not_lt_zero j)) hA
  refine ⟨e0, ?_, ⟨va_Zof (hts _ q150) (hts _ (lw_all_tbl q79)) he hA, hT, va_Zof (hts _ q263) (hts _ (lw_all_tbl q85)) (va_eqi (hg _ (by decide +kernel))) hA, va_Zof (hts _ q697) (hts _ (lw_all_tbl q86)) (va_eqi (hg _ (by decide +kernel))) hA, va_Zof (hts _ q699) (hts _ (lw_all_tbl q86)) (va_eqi (hg _ (by decide +kernel))) hA, va_Zof (hts _ q695) (hts _ (lw_all_tbl q86)) (va_eqi (hg _ (by decide +kernel))) hA⟩, va_Zqof (hts _ q687) (hts _ (lw_all_tbl q95)) (hg _ (by decide +kernel)) hA, vx_Zqof (hts _ q543) (hts _ (lw_all_tbl q96)) (hg _ (by decide +kernel)) hA, vx_Zqof (hts _ q545) (hts _ (lw_all_tbl q96)) (hg _ (by decide +kernel)) hA⟩
  obtain ⟨cell, h1, -⟩ := hT
  exact (Array.getElem?_eq_some_iff.mp h1).1
end XS
/-- what holds at the law's entry: the machine, the code, the tables' words (any of lw_tbl by 'hts w (by decide +kernel)'), the script of L ints xs at the cell b, what the Statement gives of the start (any of its parts by flat_of_before) -/
def lw_At (p : Program) (s : State) (m : MethodId) (meth : Method) (c : Code) (b L : Nat) (xs : Nat → Int32) : Prop :=
  p.tables.exec = Jvm.exec ∧ c.code = code ∧ meth.sig.returnType = ret ∧ c.maxLocals = 8 ∧ s.vm.findClass R_law = some m.cls ∧ (∀ w ∈ lw_tbl, w.before #[Value.ref b] s = true) ∧ va_X b L xs s s.heap ∧ b < s.heap.size ∧ meth.locks = false ∧ (Jvm.Cond.and given_1 narrow_1).before #[Value.ref b] s = true
theorem whole_start {p : Program} {e : Env} {s : State} {m : MethodId} {below : List Frame} {meth : Method} {c : Code} (l : Launch) (hflags : l.flags = flags0) {b L : Nat} {xs : Nat → Int32} (hL : L ≤ 144) (C0 : lw_At p s m meth c b L xs) : W p l e room_1 s m #[Value.ref b] below meth c s.heap [] 0 0 (lw_Z below #[Value.ref b] s) (entryFrame m ([Value.ref b] : List Value).toArray 8) := by
  obtain ⟨hx, hb, hr, hml, hown, hts, hX, hbl, hlocks, hgv⟩ := id C0
  have hg := flat_of_before _ hgv
  have hta : ∀ w ∈ lw_all, w.before #[Value.ref b] s = true := fun w h => hts w (lw_all_tbl h)
  have hl0 : l.stackTraces = false := xflags hflags
  have hKc := xK_cls hta
  have hKa := xK_arr hts
  obtain ⟨e0, he0, hZ⟩ := xZ_of (s := s) (A := #[Value.ref b]) (fun c => Classical.choose (hKc c), fun c => Classical.choose (Classical.choose_spec (hKc c))) (fun t => Classical.choose (hKa t)) hts hg
  obtain ⟨σ9, h9, hc9, hs9⟩ := z_claim L hL xs s.heap.size e0 he0
  have hm9 := (f_law L xs).2 _ _ _ h9
  have hK : xK ((fun c => Classical.choose (hKc c), fun c => Classical.choose (Classical.choose_spec (hKc c))), (fun t => Classical.choose (hKa t)), s.heap.size) s := by
    refine ⟨⟨fun c q hq => Classical.choose_spec (Classical.choose_spec (hKc c)) q hq, fun k q hk => ?_⟩, xN_of hts hg⟩
    have hk7 : k < 7 := by
      have h := (List.getElem?_eq_some_iff.mp hk).1
      exact h
    rw [xtys_at _ hk7] at hk
    cases hk
    exact Classical.choose_spec (hKa k) hk7
  have hl := lv_entry ([.ref b]) (n := 8) (Nat.le_of_ble_eq_true rfl)
  rw [lg_entry_eq]
  generalize (lg_sl ([.ref b]) ++ List.replicate (8 - (lg_sl ([.ref b])).length) Slot.unset).toArray = ls at hl ⊢
  have hl : lv_has ls 8 [(0, .ref b)] := hl
  refine w_law (xs := xs) (L := L) (σ9 := σ9) (σ0 := z0 s.heap.size e0) (σ := z0 s.heap.size e0) ⟨⟨hx, hb, hml, hown, hta⟩, hK, hZ, ⟨?_, ?_, by decide, by decide⟩, rfl, Nat.le_refl _, rfl, hr, hlocks, hm9.2.2⟩ ⟨hX, hbl, Nat.le_refl _⟩ hl0 h9 ⟨⟨rfl, fun q d hd => ?_⟩, va_S.rf, (Nat.sub_self _).symm, (Nat.sub_self _).symm, Nat.le_refl _, Nat.le_refl _, rfl⟩ hl
  · show σ9.2.1 - s.heap.size ≤ 1200144
    omega
  · show σ9.2.2.1 - 0 ≤ 5496250
    omega
  · by_cases hq : q = e0
    · simp [z0, hq] at hd
      exact Or.inl ⟨hd.symm, hq⟩
    · simp [z0, hq] at hd
set_option maxHeartbeats 4000000 in
theorem lw_walk (l : Launch) (hflags : l.flags = flags0) (b : Addr) (xs : List Int32) : MetFree l x (headSpec (Jvm.Cond.code x code maxLocals ret :: tables_1) room_1) (lw_P b xs) (fun _ _ _ _ _ => True) lw_Q := by
  refine MetFree.of_bodyS (code := code) (maxLocals := maxLocals) (ret := ret) (by decide) ?_ ?_
  · intro args s m h hn
    obtain ⟨meth, c, h1, h2, h3, h4, h5, h6, -, -⟩ := Cond.code_spec hn (atoms_spec (ws := Jvm.Cond.code x code maxLocals ret :: tables_1) h _ List.mem_cons_self)
    exact ⟨meth, c, h1, h2, h3, h4, h5, h6⟩
  · intro p e s m args below meth c s₁ B hml0 hP _
    obtain ⟨rfl, hx, hbd, hgv⟩ := hP
    obtain ⟨scr, harrAt, hlist, hof, hsmall⟩ := hx
    obtain ⟨hcb, hkn, -, -⟩ := State.arrayAt?_spec harrAt
    have hown : s.vm.findClass R_law = some m.cls := findClass_of_methodNamed B.named
    have hts0 : ∀ c ∈ (Jvm.Cond.code x code maxLocals ret :: tables_1), c.before #[Value.ref b] s = true := atoms_spec (ws := Jvm.Cond.code x code maxLocals ret :: tables_1) B.pre
    have hts : ∀ w ∈ lw_tbl, w.before #[Value.ref b] s = true := k2_hts_sels lw_privs (fun w hw => hts0 w (List.mem_cons_of_mem _ hw)) lw_privs_ok
    have hml : c.maxLocals = 8 := B.maxLocals_eq (hts0 _ List.mem_cons_self)
    have X₀ : Stand p l e room_1 s m #[Value.ref b] below meth c s₁ [] 0 0 := Stand.of_body B
    have hh0 : s₁.heap = s.heap := by rw [B.state]; rfl
    have hsz : scr.slots.size = xs.length := by rw [← Array.length_toList, hlist, List.length_map]
    have hval : ∀ j : Nat, j < xs.length → scr.slots[j]? = some (.int (xs.getD j 0)) := fun j hj => by
      rw [← Array.getElem?_toList, hlist]
      simp [hj]
    have hbl : b < s.heap.size := (Array.getElem?_eq_some_iff.mp hcb).1
    have hX : va_X b xs.length (fun j => xs.getD j 0) s s.heap := ⟨scr, hcb, hof, hkn, hsz, hval⟩
    have K : W p l e room_1 s m #[Value.ref b] below meth c s₁.heap [] 0 0 (lw_Z below #[Value.ref b] s) (entryFrame m ([Value.ref b] : List Value).toArray 8) := by
      rw [hh0]
      exact whole_start l hflags hbd ⟨B.exec, B.bytes, B.returns, hml, hown, hts, hX, hbl, B.notSynchronized, hgv⟩
    obtain ⟨t, a1, o, b1, b2, b3⟩ := K s₁ rfl X₀
    exact ⟨t, o, a1, b1, b2, b3⟩
theorem lw_pre_spec {args : Array Value} {s : State} (h : (Jvm.Cond.and given_1 narrow_1).before args s = true) (hr : rest_1_c.before args s = true) : ∃ (b : Addr) (xs : List Int32), lw_P b xs args s := by
  have hs := flat_of_before _ h
  have hq := flat_of_before _ hr
  have hc : (Cond.count 1).before args s = true := hs _ (by decide +kernel)
  have harr : (Cond.arrayOf (.arg 0) .int).before args s = true := hs _ (by decide +kernel)
  have hle : (Cond.le (.length (.arg 0)) (.int 144)).before args s = true := hs _ (by decide +kernel)
  have hlen : (Cond.isInt (.length (.arg 0))).before args s = true := hq _ (by decide +kernel)
  have hall : (Cond.all (.arg 0) (.isInt (.elem (.arg 0) (.index 0)))).before args s = true := hq _ (by decide +kernel)
  obtain ⟨b, xs, hb, hx⟩ := State.ints_of_pre rfl harr hlen hall
  have hsm : xs.length < 2 ^ 31 := hx.choose_spec.2.2.2
  have hev : (Term.length (.arg 0)).eval args s none [] s = some (.int xs.length.toInt32) := hx.length_eval hb
  have hv := Cond.le_ints hev (show (Term.int 144).eval args s none [] s = some (.int 144) from rfl)
  have hd : xs.length.toInt32 ≤ 144 := by
    simpa [Cond.before, Cond.holds, hv] using hle
  have hN : xs.length ≤ 144 := (Int32.ofNat_le_ofNat hsm (by decide)).mp (show Int32.ofNat xs.length ≤ Int32.ofNat 144 from hd)
  exact ⟨b, xs, Cond.one_arg hc (show args[0]? = some (.ref b) from hb), hx, hN, h⟩
theorem lw_comes (l : Launch) (hflags : l.flags = flags0) : Comes l x (Jvm.Cond.code x code maxLocals ret :: tables_1) room_1 (fun tb e args s => Calls_1 tb e args s ∧ rest_1 tb e args s ∧ Pre_1 tb e args s)
    (fun _ _ args s o t => lw_Q args s o t) := by
  intro p e ha hc hk s m args below hf hfit hheap happ hpre
  obtain ⟨b, xs, hP⟩ := lw_pre_spec hpre.2.2 hpre.2.1
  obtain ⟨k, o, h1, h2, h3, hQ⟩ := lw_walk l hflags b xs p e ha hc hk s m args below hf ((Spec.applies_iff_loose hf).mp happ).1 hP trivial
  exact ⟨k, o, h1, h2, h3, hQ⟩
theorem lw_frame {s t : State} {o : Outcome} {args : Array Value} (h : Framed s o t [] 1200144 5496250) :
    Framed s o t (fieldLocs frame_1_writes args s ++ arrayLocs frame_1_arrays args s ++ staticLocs frame_1_statics s) 1200144 5496250 := h
theorem lw_limb (L : Cond) (hL : ∀ (args : Array Value) (s t : State), L.after args s (.returned (some (.int 1))) t = true) :
    ArmFor flags0 classFile x code maxLocals ret World_1 tables_1 room_1 Calls_1 rest_1 Pre_1
      (fun tb e a s o t => postC L tb e a s o t ∧ Framed s o t (fieldLocs frame_1_writes a s ++ arrayLocs frame_1_arrays a s ++ staticLocs frame_1_statics s) 1200144 5496250) := by
  intro l hflags _ _ p e ha hc hk s m args below hf hfit hheap happ hpre
  obtain ⟨k, o, h1, h2, h3, rfl, hF⟩ := lw_comes l hflags p e ha hc hk s m args below hf hfit hheap happ hpre
  exact ⟨k, _, h1, h2, h3, hL args s _, lw_frame hF⟩
theorem i_vc : Claimed_1_1 ∧ Claimed_1_2 := ⟨lw_limb limb_1_1 (fun args s t => by simp [limb_1_1, Cond.after, Cond.holds, Cond.value]), lw_limb limb_1_2 (fun args s t => Cond.after_iff.mpr (by
  first | (rw [show limb_1_2 = Cond.eq .result (.int 1) from rfl, Cond.eq_ints (x := 1) (y := 1) rfl rfl]; simp; done) | (simp [limb_1_2, Cond.value, Term.eval]; done)))⟩
