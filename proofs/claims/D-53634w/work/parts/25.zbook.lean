/-! Book -/
set_option maxRecDepth 100000
section ZBK
variable {σ : xS} {b l a n i : Nat} {g : Nat → Nat} {α : Type}
theorem e_inR {x p q : Int32} {s : xS} : (f_X0_inRange x p q).1 s = some (zb (p ≤ x ∧ x ≤ q), s) := by
  unfold f_X0_inRange
  by_cases h1 : x < p
  · rw [if_pos h1, z_rtZ0, zb_f]
    intro h
    exact absurd h.1 (by simpa using h1)
  · rw [if_neg h1]
    by_cases h2 : q < x
    · rw [if_pos h2, z_rtZ0, zb_f]
      intro h
      exact absurd h.2 (by simpa using h2)
    · rw [if_neg h2, z_rtZ1, zb_t]
      exact ⟨by simpa using h1, by simpa using h2⟩
theorem e_bSize (hb : σ.1 b = some (.inl (2, [.ref l]))) (h : zal σ l a g n) : (f_X2_size b).1 σ = some (nI n, σ) := by
  unfold f_X2_size
  rw [c_ck hb, c_gN hb rfl, xbd_at (e_size h)]
  rfl
theorem e_bHas (hb : σ.1 b = some (.inl (2, [.ref l]))) (h : zal σ l a g n) (hn : n < 2 ^ 31) {x : Int32} : (f_X2_has b x).1 σ = some (zb (0 ≤ x ∧ x.toNatClampNeg < n), σ) := by
  unfold f_X2_has
  rw [c_ck hb, c_gN hb rfl, xbd_at (e_size h), xbd_at e_inR]
  simp only [zin_iff hn, zb_rt]
theorem e_bGet (hb : σ.1 b = some (.inl (2, [.ref l]))) (h : zal σ l a g n) (hn : n ≤ 33) (hi : i < n) {c : Nat} {fs : List Value} (hg : σ.1 (g i) = some (.inl (c, fs))) (hc : c ∈ [4, 5, 6, 7]) : (f_X2_get b (nI i)).1 σ = some (g i, σ) := by
  unfold f_X2_get
  rw [c_ck hb, c_gN hb rfl, xbd_at (e_get h hn hi), c_cks hg hc]
  rfl
theorem e_bAdd {y : Nat} {τ : xS} {r : Int32} (hb : σ.1 b = some (.inl (2, [.ref l]))) (h : (f_J2_add l y).1 σ = some (r, τ)) : (f_X2_add b y).1 σ = some (y, τ) := by
  unfold f_X2_add
  rw [c_ck hb, c_gN hb rfl, xbd_at h]
  rfl
theorem e_bIter {it : Nat} {τ : xS} (hb : σ.1 b = some (.inl (2, [.ref l]))) (h : (f_J2_iterator l).1 σ = some (it, τ)) : (f_X2_iterator b).1 σ = some (it, τ) := by
  unfold f_X2_iterator
  rw [c_ck hb, c_gN hb rfl, xbd_at h]
  rfl
/-- a new Book: its empty list -/
theorem e_bNew (hw : zWf σ) (hb : σ.1 b = some (.inl (2, [.null]))) (g : Nat → Nat) : ∃ σ', (f_X2_init b).1 σ = some ((), σ') ∧ σ'.1 b = some (.inl (2, [.ref σ.2.1])) ∧ zal σ' σ.2.1 σ.2.2.2 g 0 ∧ zGo σ σ' 1 3 ∧ ∀ q, q ≠ b → q < σ.2.1 → σ'.1 q = σ.1 q := by
  have hbb := hw.lt hb
  have hbe : b ≠ σ.2.2.2 := fun z => by
    rw [z, hw.2.1] at hb
    cases hb
  have g1 := zGo.made hw (.inl (12, [.int 0, .null, .int 0])) 3
  generalize hτ : ((xup σ.1 σ.2.1 (.inl (12, [.int 0, .null, .int 0])), σ.2.1 + 1, σ.2.2.1 + 3, σ.2.2.2) : xS) = τ at g1
  have k1 : τ.1 σ.2.1 = some (.inl (12, [.int 0, .null, .int 0])) := by
    rw [← hτ]
    show xup σ.1 σ.2.1 _ σ.2.1 = _
    unfold xup
    rw [if_pos rfl]
  have k2 : ∀ q, q < σ.2.1 → τ.1 q = σ.1 q := fun q hq => by
    rw [← hτ]
    show xup σ.1 σ.2.1 _ q = _
    unfold xup
    rw [if_neg (by omega)]
  have k3 : τ.2.2.2 = σ.2.2.2 := by rw [← hτ]
  have hne : σ.2.1 ≠ τ.2.2.2 := by
    have := hw.2.2
    rw [k3]
    omega
  have e1 : (f_J2_init σ.2.1).1 τ = some ((), xset (xset τ σ.2.1 (.inl (12, [.int 0, .null, .int 0]))) σ.2.1 (.inl (12, [.int 0, .ref σ.2.2.2, .int 0]))) := by
    have e0 : (f_J1_init_c12 σ.2.1).1 τ = some ((), xset τ σ.2.1 (.inl (12, [.int 0, .null, .int 0]))) := by
      unfold f_J1_init_c12 f_J0_init_c12
      rw [z_rt, c_pt k1 (by simp)]
      rfl
    unfold f_J2_init
    rw [xbd_at e0, c_e0, c_pt (fs := [.int 0, .null, .int 0]) (xset_self _ _ _) (by simp)]
    show some ((), xset (xset τ σ.2.1 _) σ.2.1 (.inl (12, [.int 0, .ref τ.2.2.2, .int 0]))) = _
    rw [k3]
  have e2 : (f_X2_init b).1 σ = some ((), xset (xset (xset τ σ.2.1 (.inl (12, [.int 0, .null, .int 0]))) σ.2.1 (.inl (12, [.int 0, .ref σ.2.2.2, .int 0]))) b (.inl (2, [.ref σ.2.1]))) := by
    unfold f_X2_init
    rw [c_nw]
    show (xbd (f_J2_init σ.2.1) _).1 (xup σ.1 σ.2.1 (.inl (12, [.int 0, .null, .int 0])), σ.2.1 + 1, σ.2.2.1 + 3, σ.2.2.2) = _
    rw [hτ, xbd_at e1, c_pt (fs := [.null]) (by rw [xset_ne _ _ (by omega), xset_ne _ _ (by omega), k2 b hbb]; exact hb) (by simp)]
    rfl
  refine ⟨_, e2, xset_self _ _ _, ⟨?_, Or.inl ⟨rfl, k3.symm⟩⟩, ?_, ?_⟩
  · rw [xset_ne _ _ (by omega), xset_self]
    rfl
  · have t1 := zGo.set (d' := .inl (12, [.int 0, .null, .int 0])) g1.2.2.2.2 k1 hne
    have t2 := zGo.set (a := σ.2.1) (d' := .inl (12, [.int 0, .ref σ.2.2.2, .int 0])) t1.2.2.2.2 (xset_self _ _ _) hne
    have t3 := zGo.set (a := b) (d' := .inl (2, [.ref σ.2.1])) t2.2.2.2.2 (by rw [xset_ne _ _ (by omega), xset_ne _ _ (by omega), k2 b hbb]; exact hb) (by show b ≠ τ.2.2.2; rw [k3]; exact hbe)
    exact (((g1.tr t1).tr t2).tr t3).mono (by omega) (by omega)
  · intro q h1 hq
    rw [xset_ne _ _ h1, xset_ne _ _ (by omega), xset_ne _ _ (by omega)]
    exact k2 q hq
end ZBK
