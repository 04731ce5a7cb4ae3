/-! the model: aside, acted -/
set_option maxRecDepth 100000
/-- a stretch copied -/
def zcp (f g : Nat → Int64) (d lo hi : Nat) : Nat → Int64 := fun i => if lo ≤ i ∧ i < hi then f (i + d) else g i
theorem zcp_nil (f g : Nat → Int64) (d lo : Nat) : zcp f g d lo lo = g := by
  funext i
  unfold zcp
  rw [if_neg (by omega)]
theorem zcp_step (f g : Nat → Int64) (d lo hi : Nat) (h : lo < hi) : zcp f (vp_updL g lo (f (lo + d))) d (lo + 1) hi = zcp f g d lo hi := by
  funext i
  unfold zcp vp_updL
  by_cases h1 : i = lo
  · subst h1
    rw [if_neg (by omega), if_pos rfl, if_pos (by omega)]
  · by_cases h2 : lo ≤ i ∧ i < hi
    · rw [if_pos h2, if_pos (by omega)]
    · rw [if_neg h2, if_neg (by omega), if_neg h1]
section ZM2
variable {σ : xS} {m : Nat} {v : zV} {α : Type}
theorem e_asideL : ∀ (n j : Nat) (v : zV), j ≤ 1411 → 1411 < n + j → (f_X3_aside_L7 n m (nI j)).1 (mp σ m v) = some ((), mp σ m (v.1, v.2.1, zcp v.2.1 v.2.2.1 0 j 1411, v.2.2.2)) := by
  intro n
  induction n with
  | zero => intro j v h1 h2; omega
  | succ n ih =>
    intro j v h1 h2
    show (f_X3_aside_b7 (f_X3_aside_L7 n) m (nI j)).1 (mp σ m v) = _
    unfold f_X3_aside_b7
    simp only [zi_1411, zi_1, z_ite, nI_leI (a := 1411) (b := j) (by omega) (by omega), nI_add]
    by_cases h3 : 1411 ≤ j
    · rw [if_pos h3]
      have h4 : j = 1411 := by omega
      subst h4
      rw [zcp_nil]
      rfl
    · rw [if_neg h3]
      rw [m_gN2, m_gN1, m_ld1 (by omega), m_st2 (by omega), ih (j + 1) _ (by omega) (by omega)]
      have e := zcp_step v.2.1 v.2.2.1 0 j 1411 (by omega)
      simp only [Nat.add_zero] at e
      rw [e]
theorem e_aside : (f_X3_aside m).1 (mp σ m v) = some ((), mp σ m (upd v.1 0 0, v.2.1, zcp v.2.1 v.2.2.1 0 0 1411, v.2.2.2)) := by
  unfold f_X3_aside
  rw [m_ck, m_pt0, zi_0]
  have e := e_asideL (σ := σ) (m := m) xFU 0 (upd v.1 0 0, v.2) (by omega) (by unfold xFU; omega)
  exact e
theorem e_actA : ∀ (n j : Nat) (v : zV) (r : Int32) (a : Nat), v.1 6 = nI a → a < 4 → j ≤ 1411 → 1411 < n + j → (f_X3_acted_L51 n m r (nI j)).1 (mp σ m v) = some (r, mp σ m (upd v.1 6 (nI (a + 1)), v.2.1, v.2.2.1, v.2.2.2.1, (fun i => if 1411 * a + j ≤ i ∧ i < 1411 * a + 1411 then v.2.2.1 (i - 1411 * a) else v.2.2.2.2.1 i), v.2.2.2.2.2)) := by
  intro n
  induction n with
  | zero => intro j v r a h0 h1 h2 h3; omega
  | succ n ih =>
    intro j v r a h0 h1 h2 h3
    show (f_X3_acted_b51 (f_X3_acted_L51 n) m r (nI j)).1 (mp σ m v) = _
    unfold f_X3_acted_b51
    simp only [zi_1411, zi_1, z_ite, nI_leI (a := 1411) (b := j) (by omega) (by omega), nI_add]
    by_cases h4 : 1411 ≤ j
    · rw [if_pos h4]
      have h5 : j = 1411 := by omega
      subst h5
      unfold f_X3_acted_b85
      rw [m_gI6, m_pt6, h0, zi_1, nI_add]
      show some (r, mp σ m (upd v.1 6 (nI (a + 1)), v.2)) = _
      refine congrArg (fun z => some (r, mp σ m (upd v.1 6 (nI (a + 1)), v.2.1, v.2.2.1, v.2.2.2.1, z, v.2.2.2.2.2))) ?_
      funext i
      rw [if_neg (by omega)]
    · rw [if_neg h4]
      rw [m_gN5, m_gI6, h0, m_gN2, m_ld2 (by omega), pk_mul, nI_add, m_st4 (by omega)]
      refine (ih (j + 1) _ r a ?_ h1 (by omega) (by omega)).trans ?_
      · exact h0
      refine congrArg (fun z => some (r, mp σ m (upd v.1 6 (nI (a + 1)), v.2.1, v.2.2.1, v.2.2.2.1, z, v.2.2.2.2.2))) ?_
      funext i
      show (if _ then v.2.2.1 (i - 1411 * a) else vp_updL v.2.2.2.2.1 (1411 * a + j) (v.2.2.1 j) i) = _
      unfold vp_updL
      by_cases h5 : i = 1411 * a + j
      · subst h5
        rw [if_neg (by omega), if_pos rfl, if_pos (by omega)]
        rw [Nat.add_sub_cancel_left]
      · by_cases h6 : 1411 * a + j ≤ i ∧ i < 1411 * a + 1411
        · rw [if_pos h6, if_pos (by omega)]
        · rw [if_neg h6, if_neg (by omega), if_neg h5]
theorem e_actS : ∀ (n j : Nat) (v : zV) (r : Int32), v.1 6 = nI 4 → j ≤ 4233 → 4233 < n + j → (f_X3_acted_L10 n m r (nI j)).1 (mp σ m v) = (f_X3_acted_b39 m r).1 (mp σ m (v.1, v.2.1, v.2.2.1, v.2.2.2.1, zcp v.2.2.2.2.1 v.2.2.2.2.1 1411 j 4233, v.2.2.2.2.2)) := by
  intro n
  induction n with
  | zero => intro j v r h0 h1 h2; omega
  | succ n ih =>
    intro j v r h0 h1 h2
    show (f_X3_acted_b10 (f_X3_acted_L10 n) m r (nI j)).1 (mp σ m v) = _
    unfold f_X3_acted_b10
    simp only [zi_4233, zi_1411, zi_1, z_ite, nI_leI (a := 4233) (b := j) (by omega) (by omega), nI_add]
    by_cases h4 : 4233 ≤ j
    · rw [if_pos h4]
      have h5 : j = 4233 := by omega
      subst h5
      rw [zcp_nil]
    · rw [if_neg h4]
      rw [m_gN5, m_gN5, m_ld4 (by omega), m_st4 (by omega)]
      refine (ih (j + 1) _ r ?_ (by omega) (by omega)).trans ?_
      · exact h0
      refine congrArg (fun z => (f_X3_acted_b39 m r).1 (mp σ m (v.1, v.2.1, v.2.2.1, v.2.2.2.1, z, v.2.2.2.2.2))) ?_
      funext i
      show (if j + 1 ≤ i ∧ i < 4233 then vp_updL v.2.2.2.2.1 j (v.2.2.2.2.1 (j + 1411)) (i + 1411) else vp_updL v.2.2.2.2.1 j (v.2.2.2.2.1 (j + 1411)) i) = if j ≤ i ∧ i < 4233 then v.2.2.2.2.1 (i + 1411) else v.2.2.2.2.1 i
      unfold vp_updL
      by_cases h5 : i = j
      · subst h5
        rw [if_neg (by omega), if_pos rfl, if_pos (by omega)]
      · by_cases h6 : j ≤ i ∧ i < 4233
        · rw [if_pos h6, if_pos (by omega), if_neg (by omega)]
        · rw [if_neg h6, if_neg (by omega), if_neg h5]
/-- the acts kept: at most four, the oldest first -/
theorem e_acted3 {r : Int32} {a : Nat} (ha : v.1 6 = nI a) (h : a < 4) : (f_X3_acted m r).1 (mp σ m v) = some (r, mp σ m (upd v.1 6 (nI (a + 1)), v.2.1, v.2.2.1, v.2.2.2.1, (fun i => if 1411 * a + 0 ≤ i ∧ i < 1411 * a + 1411 then v.2.2.1 (i - 1411 * a) else v.2.2.2.2.1 i), v.2.2.2.2.2)) := by
  unfold f_X3_acted
  rw [m_ck, m_gI6, ha, zi_4, z_ite, if_neg (by rw [nI_eq (by omega) (by omega)]; omega)]
  unfold f_X3_acted_b49
  rw [zi_0]
  exact e_actA xFU 0 v r a ha h (by omega) (by unfold xFU; omega)
theorem e_acted4 {r : Int32} (ha : v.1 6 = nI 4) : (f_X3_acted m r).1 (mp σ m v) = some (r, mp σ m (upd (upd v.1 6 (nI 3)) 6 (nI (3 + 1)), v.2.1, v.2.2.1, v.2.2.2.1, (fun i => if 1411 * 3 + 0 ≤ i ∧ i < 1411 * 3 + 1411 then v.2.2.1 (i - 1411 * 3) else zcp v.2.2.2.2.1 v.2.2.2.2.1 1411 0 4233 i), v.2.2.2.2.2)) := by
  unfold f_X3_acted
  rw [m_ck, m_gI6, ha, zi_4, z_ite, if_pos rfl, zi_0, e_actS xFU 0 v r ha (by omega) (by unfold xFU; omega)]
  unfold f_X3_acted_b39
  rw [m_gI6, m_pt6]
  unfold f_X3_acted_b49
  rw [zi_0]
  refine (e_actA xFU 0 _ r 3 ?_ (by omega) (by omega) (by unfold xFU; omega)).trans ?_
  · show upd v.1 6 (v.1 6 - 1) 6 = nI 3
    rw [ha]
    rfl
  · show some (r, mp σ m (upd (upd v.1 6 (v.1 6 - 1)) 6 (nI (3 + 1)), _)) = _
    rw [ha]
    rfl
end ZM2
