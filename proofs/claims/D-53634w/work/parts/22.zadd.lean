/-! ArrayList.add -/
set_option maxRecDepth 100000
section ZADD
variable {σ : xS} {l a n y : Nat} {g : Nat → Nat} {α : Type}
theorem zit_up (g : Nat → Nat) (n y : Nat) : va_up (zit g n) n (some y) = zit (fun i => if i = n then y else g i) (n + 1) := by
  funext i
  unfold va_up zit
  by_cases h : i = n
  · subst h
    rw [if_pos rfl, if_pos (by omega)]
    simp only [if_true]
  · rw [if_neg h]
    by_cases h2 : i < n
    · rw [if_pos h2, if_pos (by omega)]
      simp only [h, if_false]
    · rw [if_neg h2, if_neg (by omega)]
theorem zit_cp (g : Nat → Nat) (n : Nat) : va_cpy (zit g n) (fun _ => none) 0 0 n = zit g n := by
  funext i
  unfold va_cpy zit
  by_cases h : i < n
  · rw [if_pos ⟨by omega, by omega⟩]
    simp [h]
  · rw [if_neg (by omega), if_neg h]
theorem e_newLen {c e : Nat} (h : c = 10 ∧ e = 15 ∨ c = 15 ∧ e = 22 ∨ c = 22 ∧ e = 33) : (f_J20_newLength (nI c) (nI (c + 1) - nI c) (nI c >>> ((1 : Int32) &&& 31))).1 σ = some (nI e, σ) := by
  rcases h with ⟨rfl, rfl⟩ | ⟨rfl, rfl⟩ | ⟨rfl, rfl⟩
  · unfold f_J20_newLength f_J21_max
    rw [if_pos (by decide +kernel), z_rt, if_neg (by decide +kernel), if_neg (by decide +kernel), z_rt1]
    exact congrArg (fun z => some (z, σ)) (by decide +kernel)
  · unfold f_J20_newLength f_J21_max
    rw [if_pos (by decide +kernel), z_rt, if_neg (by decide +kernel), if_neg (by decide +kernel), z_rt1]
    exact congrArg (fun z => some (z, σ)) (by decide +kernel)
  · unfold f_J20_newLength f_J21_max
    rw [if_pos (by decide +kernel), z_rt, if_neg (by decide +kernel), if_neg (by decide +kernel), z_rt1]
    exact congrArg (fun z => some (z, σ)) (by decide +kernel)
theorem e_grow1 {mc : Int32} {q : Nat} {τ : xS} (hl : σ.1 l = some (.inl (12, [.int mc, .ref a, .int (nI n)]))) (h : (f_J2_grow_2 l (nI n + 1)).1 σ = some (q, τ)) : (f_J2_grow l).1 σ = some (q, τ) := by
  unfold f_J2_grow
  rw [c_ck hl, c_gI hl rfl, xbd_at h]
  rfl
/-- the array that a full list takes: null beyond n -/
theorem e_grow {mc : Int32} (hw : zWf σ) (hl : σ.1 l = some (.inl (12, [.int mc, .ref a, .int (nI n)]))) (ha : (n = 0 ∧ a = σ.2.2.2) ∨ (0 < n ∧ σ.1 a = some (.inr (3, n, zrf (zit g n))))) (hn : n = 0 ∨ n = 10 ∨ n = 15 ∨ n = 22) (hob : ∀ i, i < n → zob σ (g i)) :
    ∃ σ', (f_J2_grow l).1 σ = some (σ.2.1, σ') ∧ σ'.1 l = some (.inl (12, [.int mc, .ref σ.2.1, .int (nI n)])) ∧ σ'.1 σ.2.1 = some (.inr (3, zcap (n + 1), zrf (zit g n))) ∧ zGo σ σ' 1 33 ∧ ∀ q, q ≠ l → q < σ.2.1 → σ'.1 q = σ.1 q := by
  have hll := hw.lt hl
  have hle : l ≠ σ.2.2.2 := fun z => by
    rw [z, hw.2.1] at hl
    cases hl
  rcases hn with rfl | hn
  · -- the first array
    have ha : a = σ.2.2.2 := by
      rcases ha with ⟨-, h⟩ | ⟨h, -⟩
      · exact h
      · omega
    subst ha
    have hcap : zcap (0 + 1) = 10 := rfl
    have e : (f_J2_grow_2 l (nI 0 + 1)).1 σ = some (σ.2.1, xset (xup σ.1 σ.2.1 (.inr (3, 10, xzR)), σ.2.1 + 1, σ.2.2.1 + 10, σ.2.2.2) l (.inl (12, [.int mc, .ref σ.2.1, .int (nI 0)]))) := by
      have e1 : (f_J21_max (10 : Int32) (nI 0 + 1)).1 σ = some (nI 10, σ) := by
        unfold f_J21_max
        rw [if_neg (by decide +kernel)]
        rfl
      unfold f_J2_grow_2
      rw [c_ck hl, c_gN hl rfl, c_ln hw.2.1, z_ite, if_neg (by decide +kernel), c_gN hl rfl, c_e0, z_ite, if_pos rfl, xbd_at e1, c_na (by decide)]
      rw [c_pt (fs := [.int mc, .ref σ.2.2.2, .int (nI 0)]) (by show xup σ.1 σ.2.1 _ l = _; unfold xup; rw [if_neg (by omega)]; exact hl) (by simp)]
      rfl
    refine ⟨_, e_grow1 hl e, xset_self _ _ _, ?_, ?_, ?_⟩
    · rw [xset_ne _ _ (by omega)]
      show xup σ.1 σ.2.1 _ σ.2.1 = _
      unfold xup
      rw [if_pos rfl]
      rfl
    · have g1 := zGo.made hw (.inr (3, 10, xzR)) 10
      have g2 := zGo.set (d' := .inl (12, [.int mc, .ref σ.2.1, .int (nI 0)])) g1.2.2.2.2 (a := l) (by show xup σ.1 σ.2.1 _ l = _; unfold xup; rw [if_neg (by omega)]; exact hl) hle
      exact (g1.tr g2).mono (by omega) (by omega)
    · intro q h1 h2
      rw [xset_ne _ _ h1]
      show xup σ.1 σ.2.1 _ q = _
      unfold xup
      rw [if_neg (by omega)]
  · have hA : σ.1 a = some (.inr (3, n, zrf (zit g n))) := by
      rcases ha with ⟨h, -⟩ | ⟨-, h⟩
      · omega
      · exact h
    obtain ⟨e, he, hcap⟩ : ∃ e, (n = 10 ∧ e = 15 ∨ n = 15 ∧ e = 22 ∨ n = 22 ∧ e = 33) ∧ zcap (n + 1) = e := by
      rcases hn with rfl | rfl | rfl
      · exact ⟨15, Or.inl ⟨rfl, rfl⟩, rfl⟩
      · exact ⟨22, Or.inr (Or.inl ⟨rfl, rfl⟩), rfl⟩
      · exact ⟨33, Or.inr (Or.inr ⟨rfl, rfl⟩), rfl⟩
    have hn33 : 0 < n ∧ n < e ∧ e ≤ 33 := by omega
    have haa := hw.lt hA
    have hal : a ≠ l := fun z => by
      rw [z, hl] at hA
      cases hA
    -- the new array, filled
    have hup : ∀ q, q < σ.2.1 → (xup σ.1 σ.2.1 (.inr (3, e, xzR)) : Nat → Option xC) q = σ.1 q := fun q hq => by
      unfold xup
      rw [if_neg (by omega)]
    have hself : (xup σ.1 σ.2.1 (.inr (3, e, xzR)) : Nat → Option xC) σ.2.1 = some (.inr (3, e, xzR)) := by
      unfold xup
      rw [if_pos rfl]
    have ec : (f_J22_copyOf_2 a (nI e)).1 σ = some (σ.2.1, xset (xup σ.1 σ.2.1 (.inr (3, e, xzR)), σ.2.1 + 1, σ.2.2.1 + e, σ.2.2.2) σ.2.1 (.inr (3, e, zrf (zit g n)))) := by
      unfold f_J22_copyOf_2
      rw [c_ckR hA]
      unfold f_J22_copyOf_3
      rw [c_na (by omega), c_ln (by show xup σ.1 σ.2.1 _ a = _; rw [hup a haa]; exact hA)]
      have e1 : (f_J21_min (nI n) (nI e)).1 (xup σ.1 σ.2.1 (.inr (3, e, xzR)), σ.2.1 + 1, σ.2.2.1 + e, σ.2.2.2) = some (nI n, (xup σ.1 σ.2.1 (.inr (3, e, xzR)), σ.2.1 + 1, σ.2.2.1 + e, σ.2.2.2)) := by
        unfold f_J21_min
        rw [if_neg (nI_nlt (by omega) (by omega))]
        rfl
      rw [xbd_at e1]
      rw [c_cpy (f := zit g n) (f' := fun _ => none) (by show xup σ.1 σ.2.1 _ a = _; rw [hup a haa]; exact hA) hself (Nat.le_refl n) (by omega) (by omega) (fun i hi y' hy => by
        unfold zit at hy
        rw [if_pos hi] at hy
        cases hy
        obtain ⟨c, fs, h1, h2⟩ := hob i hi
        exact ⟨c, fs, by show xup σ.1 σ.2.1 _ (g i) = _; rw [hup _ (hw.lt h1)]; exact h1, h2⟩), zit_cp]
      rfl
    have e2 : (f_J2_grow_2 l (nI n + 1)).1 σ = some (σ.2.1, xset (xset (xup σ.1 σ.2.1 (.inr (3, e, xzR)), σ.2.1 + 1, σ.2.2.1 + e, σ.2.2.2) σ.2.1 (.inr (3, e, zrf (zit g n)))) l (.inl (12, [.int mc, .ref σ.2.1, .int (nI n)]))) := by
      unfold f_J2_grow_2
      rw [c_ck hl, c_gN hl rfl, c_ln hA, z_ite, if_pos (by rw [zi_0]; exact nI_lt (by omega) (by omega))]
      unfold f_J2_grow_2_b20
      rw [nI_1, xbd_at (e_newLen he), c_gN hl rfl, xbd_at ec]
      rw [c_pt (fs := [.int mc, .ref a, .int (nI n)]) (by rw [xset_ne _ _ (by omega)]; show xup σ.1 σ.2.1 _ l = _; rw [hup l hll]; exact hl) (by simp)]
      rfl
    refine ⟨_, e_grow1 hl e2, xset_self _ _ _, ?_, ?_, ?_⟩
    · rw [xset_ne _ _ (by omega), xset_self, hcap]
    · have g1 := zGo.made hw (.inr (3, e, xzR)) e
      have g2 := zGo.set (d' := .inr (3, e, zrf (zit g n))) g1.2.2.2.2 (a := σ.2.1) hself (by have := hw.2.2; show σ.2.1 ≠ σ.2.2.2; omega)
      have g3 := zGo.set (d' := .inl (12, [.int mc, .ref σ.2.1, .int (nI n)])) g2.2.2.2.2 (a := l) (by rw [xset_ne _ _ (by omega)]; show xup σ.1 σ.2.1 _ l = _; rw [hup l hll]; exact hl) hle
      exact ((g1.tr g2).tr g3).mono (by omega) (by omega)
    · intro q h1 h2
      rw [xset_ne _ _ h1, xset_ne _ _ (by omega)]
      exact hup q h2
end ZADD
