/-! ArrayList.add, whole -/
set_option maxRecDepth 100000
section ZADD2
variable {σ : xS} {l a n y : Nat} {g : Nat → Nat} {α : Type}
theorem zcap_full (n : Nat) (h : 0 < n) (h33 : n < 33) : (n = zcap n ↔ n = 10 ∨ n = 15 ∨ n = 22) ∧ (n ≠ zcap n → zcap (n + 1) = zcap n) ∧ n < zcap (n + 1) := by
  unfold zcap
  refine ⟨?_, ?_, ?_⟩
  · split
    · omega
    · split
      · omega
      · split <;> omega
  · intro h1
    by_cases c1 : n ≤ 10
    · rw [if_pos c1] at h1 ⊢
      rw [if_pos (by omega)]
    · rw [if_neg c1] at h1 ⊢
      rw [if_neg (by omega)]
      by_cases c2 : n ≤ 15
      · rw [if_pos c2] at h1 ⊢
        rw [if_pos (by omega)]
      · rw [if_neg c2] at h1 ⊢
        rw [if_neg (by omega)]
        by_cases c3 : n ≤ 22
        · rw [if_pos c3] at h1 ⊢
          rw [if_pos (by omega)]
        · rw [if_neg c3, if_neg (by omega)]
  · split
    · omega
    · split
      · omega
      · split <;> omega
/-- the element is put into an array with room -/
theorem e_addIn {b C : Nat} {mc : Int32} (hl : σ.1 l = some (.inl (12, [.int mc, .ref b, .int (nI n)]))) (hb : σ.1 b = some (.inr (3, C, zrf (zit g n)))) (hC : n < C) (hC2 : C ≤ 33) (hy : zob σ y) :
    (f_J2_add_2_b11 l y b (nI n)).1 σ = some ((), xset (xset σ b (.inr (3, C, zrf (zit (fun i => if i = n then y else g i) (n + 1))))) l (.inl (12, [.int mc, .ref b, .int (nI (n + 1))]))) := by
  obtain ⟨c, fs, h1, h2⟩ := hy
  have hlb : l ≠ b := fun z => by
    rw [z, hb] at hl
    cases hl
  unfold f_J2_add_2_b11
  rw [c_stR hb hC (by omega) h1 (by simp [xcast, h2]), zit_up]
  rw [c_pt (fs := [.int mc, .ref b, .int (nI n)]) (by rw [xset_ne _ _ hlb]; exact hl) (by simp), nI_1]
  rfl
theorem e_add (hw : zWf σ) (h : zal σ l a g n) (hn : n < 33) (hy : zob σ y) (hob : ∀ i, i < n → zob σ (g i)) :
    ∃ a' σ', (f_J2_add l y).1 σ = some (1, σ') ∧ zal σ' l a' (fun i => if i = n then y else g i) (n + 1) ∧ zGo σ σ' 1 33 ∧ (∀ q, q ≠ l → (0 < n → q ≠ a) → q < σ.2.1 → σ'.1 q = σ.1 q) ∧ (a' = σ.2.1 ∨ (a' = a ∧ 0 < n)) := by
  obtain ⟨hl, ha⟩ := h
  have hll := hw.lt hl
  have hle : l ≠ σ.2.2.2 := fun z => by
    rw [z, hw.2.1] at hl
    cases hl
  have g1 := zGo.set (d' := .inl (12, [.int (nI (n + 1)), .ref a, .int (nI n)])) hw hl hle
  generalize hσ1 : xset σ l (.inl (12, [.int (nI (n + 1)), .ref a, .int (nI n)])) = σ1 at g1
  have hl1 : σ1.1 l = some (.inl (12, [.int (nI (n + 1)), .ref a, .int (nI n)])) := by rw [← hσ1, xset_self]
  have hk1 : ∀ q, q ≠ l → σ1.1 q = σ.1 q := fun q hq => by rw [← hσ1, xset_ne _ _ hq]
  have h2 : σ1.2 = σ.2 := by rw [← hσ1]; rfl
  have hob1 : ∀ q, zob σ q → zob σ1 q := fun q ⟨c, fs, h3, h4⟩ => by
    by_cases hq : q = l
    · exact ⟨12, _, by rw [hq]; exact hl1, by decide⟩
    · exact ⟨c, fs, by rw [hk1 q hq]; exact h3, h4⟩
  have hw1 := g1.2.2.2.2
  -- it suffices to know the inner add
  suffices hs : ∃ a' σ', (f_J2_add_2 l y a (nI n)).1 σ1 = some ((), σ') ∧ zal σ' l a' (fun i => if i = n then y else g i) (n + 1) ∧ zGo σ1 σ' 1 33 ∧ (∀ q, q ≠ l → (0 < n → q ≠ a) → q < σ1.2.1 → σ'.1 q = σ1.1 q) ∧ (a' = σ1.2.1 ∨ (a' = a ∧ 0 < n)) by
    obtain ⟨a', σ', e1, e2, e3, e4, e5⟩ := hs
    refine ⟨a', σ', ?_, e2, (g1.tr e3).mono (by omega) (by omega), ?_, ?_⟩
    · unfold f_J2_add
      rw [c_ck hl, c_gI hl rfl, c_pt hl (by simp), nI_1]
      show (xbd (xgN 12 1 l) _).1 (xset σ l (.inl (12, [.int (nI (n + 1)), .ref a, .int (nI n)]))) = _
      rw [hσ1, c_gN hl1 rfl, c_gI hl1 rfl, xbd_at e1, z_rtZ1]
    · intro q h3 h4 h5
      rw [e4 q h3 h4 (by rw [h2]; exact h5), hk1 q h3]
    · rw [h2] at e5
      exact e5
  have finish : ∀ (b C : Nat) (τ : xS), τ.1 l = some (.inl (12, [.int (nI (n + 1)), .ref b, .int (nI n)])) → τ.1 b = some (.inr (3, C, zrf (zit g n))) → n < C → C = zcap (n + 1) → zob τ y → zWf τ →
      (f_J2_add_2_b11 l y b (nI n)).1 τ = some ((), xset (xset τ b (.inr (3, C, zrf (zit (fun i => if i = n then y else g i) (n + 1))))) l (.inl (12, [.int (nI (n + 1)), .ref b, .int (nI (n + 1))]))) ∧
      zal (xset (xset τ b (.inr (3, C, zrf (zit (fun i => if i = n then y else g i) (n + 1))))) l (.inl (12, [.int (nI (n + 1)), .ref b, .int (nI (n + 1))]))) l b (fun i => if i = n then y else g i) (n + 1) ∧
      zGo τ (xset (xset τ b (.inr (3, C, zrf (zit (fun i => if i = n then y else g i) (n + 1))))) l (.inl (12, [.int (nI (n + 1)), .ref b, .int (nI (n + 1))]))) 0 0 := by
    intro b C τ k1 k2 k3 k4 k5 k6
    have hlb : l ≠ b := fun z => by
      rw [z, k2] at k1
      cases k1
    have hbe : b ≠ τ.2.2.2 := fun z => by
      rw [z, k6.2.1] at k2
      cases k2
    have hle2 : l ≠ τ.2.2.2 := fun z => by
      rw [z, k6.2.1] at k1
      cases k1
    refine ⟨e_addIn k1 k2 k3 (by rw [k4]; exact zcap_lt _) k5, ⟨xset_self _ _ _, Or.inr ⟨by omega, ?_⟩⟩, ?_⟩
    · rw [xset_ne _ _ (fun z => hlb z.symm), xset_self, k4]
    · have t1 := zGo.set (d' := .inr (3, C, zrf (zit (fun i => if i = n then y else g i) (n + 1)))) k6 k2 hbe
      have t2 := zGo.set (d' := .inl (12, [.int (nI (n + 1)), .ref b, .int (nI (n + 1))])) t1.2.2.2.2 (a := l) (by rw [xset_ne _ _ hlb]; exact k1) hle2
      exact (t1.tr t2).mono (by omega) (by omega)
  -- the array is full, or has room
  have grow : (n = 0 ∨ n = 10 ∨ n = 15 ∨ n = 22) → (n = 0 ∧ a = σ1.2.2.2 ∨ 0 < n ∧ σ1.1 a = some (.inr (3, n, zrf (zit g n)))) → ∀ ln : Int32, (xln a).1 σ1 = some (ln, σ1) → ln = nI n →
      ∃ a' σ', (f_J2_add_2 l y a (nI n)).1 σ1 = some ((), σ') ∧ zal σ' l a' (fun i => if i = n then y else g i) (n + 1) ∧ zGo σ1 σ' 1 33 ∧ (∀ q, q ≠ l → (0 < n → q ≠ a) → q < σ1.2.1 → σ'.1 q = σ1.1 q) ∧ (a' = σ1.2.1 ∨ (a' = a ∧ 0 < n)) := by
    intro hf hA ln hln hln2
    obtain ⟨τ, e1, e2, e3, e4, e5⟩ := e_grow hw1 hl1 hA hf (fun i hi => hob1 _ (hob i hi))
    have hyτ : zob τ y := by
      obtain ⟨c, fs, h3, h4⟩ := hob1 y hy
      by_cases hq : y = l
      · exact ⟨12, _, by rw [hq]; exact e2, by decide⟩
      · exact ⟨c, fs, by rw [e5 y hq (hw1.lt h3)]; exact h3, h4⟩
    have hlt : n < zcap (n + 1) := by
      rcases hf with rfl | rfl | rfl | rfl <;> decide
    obtain ⟨f1, f2, f3⟩ := finish σ1.2.1 _ τ e2 e3 hlt rfl hyτ e4.2.2.2.2
    refine ⟨_, _, ?_, f2, (e4.tr f3).mono (by omega) (by omega), ?_, Or.inl rfl⟩
    · unfold f_J2_add_2
      rw [c_ck hl1, xbd_at hln, z_ite, if_pos hln2.symm, xbd_at e1]
      exact f1
    · intro q h3 h4 h5
      rw [xset_ne _ _ h3, xset_ne _ _ (by omega)]
      exact e5 q h3 h5
  rcases ha with ⟨rfl, ha⟩ | ⟨hn0, ha⟩
  · refine grow (Or.inl rfl) (Or.inl ⟨rfl, by rw [h2]; exact ha⟩) (nI 0) ?_ rfl
    have he : σ1.1 a = some xem := by
      rw [ha, ← h2]
      exact hw1.2.1
    unfold xln xrd
    simp only [he, xem]
    rfl
  · have haL : a ≠ l := fun z => by
      rw [z, hl] at ha
      cases ha
    have ha1 : σ1.1 a = some (.inr (3, zcap n, zrf (zit g n))) := by rw [hk1 a haL]; exact ha
    obtain ⟨c1, c2, c3⟩ := zcap_full n hn0 hn
    have hln : (xln a).1 σ1 = some (nI (zcap n), σ1) := by
      unfold xln xrd
      simp only [ha1]
      rfl
    by_cases hfull : n = zcap n
    · refine grow (Or.inr (c1.mp hfull)) (Or.inr ⟨hn0, by rw [ha1, ← hfull]⟩) _ hln (by rw [← hfull])
    · have hlt : n < zcap n := Nat.lt_of_le_of_ne (zcap_le n (by omega)) hfull
      obtain ⟨f1, f2, f3⟩ := finish a (zcap n) σ1 hl1 ha1 hlt (c2 hfull).symm (hob1 y hy) hw1
      refine ⟨_, _, ?_, f2, f3.mono (by omega) (by omega), ?_, Or.inr ⟨rfl, hn0⟩⟩
      · unfold f_J2_add_2
        rw [c_ck hl1, xbd_at hln, z_ite, if_neg (by rw [nI_eq (by omega) (Nat.lt_of_le_of_lt (zcap_lt n) (by decide))]; exact hfull)]
        exact f1
      · intro q h3 h4 h5
        rw [xset_ne _ _ h3, xset_ne _ _ (h4 hn0)]
end ZADD2
