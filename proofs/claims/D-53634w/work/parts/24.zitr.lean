/-! ArrayList's iterator; Book -/
set_option maxRecDepth 100000
def zitC (i : Nat) (lr : Int32) (n l : Nat) : xC := .inl (16, [.int (nI i), .int lr, .int (nI n), .ref l])
section ZITR
variable {σ : xS} {l a n it i : Nat} {g : Nat → Nat} {lr : Int32} {α : Type}
theorem e_iter (hw : zWf σ) (h : zal σ l a g n) : ∃ σ', (f_J2_iterator l).1 σ = some (σ.2.1, σ') ∧ σ'.1 σ.2.1 = some (zitC 0 (-1) n l) ∧ zGo σ σ' 1 4 ∧ ∀ q, q < σ.2.1 → σ'.1 q = σ.1 q := by
  have hll := hw.lt h.1
  have g1 := zGo.made hw (.inl (16, [.int 0, .int 0, .int 0, .null])) 4
  generalize hτ : ((xup σ.1 σ.2.1 (.inl (16, [.int 0, .int 0, .int 0, .null])), σ.2.1 + 1, σ.2.2.1 + 4, σ.2.2.2) : xS) = τ at g1
  have k1 : τ.1 σ.2.1 = some (.inl (16, [.int 0, .int 0, .int 0, .null])) := by
    rw [← hτ]
    show xup σ.1 σ.2.1 _ σ.2.1 = _
    unfold xup
    rw [if_pos rfl]
  have k2 : ∀ q, q < σ.2.1 → τ.1 q = σ.1 q := fun q hq => by
    rw [← hτ]
    show xup σ.1 σ.2.1 _ q = _
    unfold xup
    rw [if_neg (by omega)]
  have hne : σ.2.1 ≠ τ.2.2.2 := by
    have := hw.2.2
    rw [← hτ]
    show σ.2.1 ≠ σ.2.2.2
    omega
  have e1 : (f_J10_init σ.2.1 l).1 τ = some ((), xset (xset (xset τ σ.2.1 (.inl (16, [.int 0, .int 0, .int 0, .ref l]))) σ.2.1 (.inl (16, [.int 0, .int (-1), .int 0, .ref l]))) σ.2.1 (zitC 0 (-1) n l)) := by
    unfold f_J10_init
    rw [c_pt k1 (by simp)]
    rw [c_pt (fs := [.int 0, .int 0, .int 0, .ref l]) (by rw [xset_self]; rfl) (by simp)]
    rw [c_gN (fs := [.int 0, .int (-1), .int 0, .ref l]) (by rw [xset_self]; rfl) rfl]
    rw [c_gI (c := 12) (fs := [.int (nI n), .ref a, .int (nI n)]) (by rw [xset_ne _ _ (by omega), xset_ne _ _ (by omega), k2 l hll]; exact h.1) rfl]
    rw [c_pt (fs := [.int 0, .int (-1), .int 0, .ref l]) (by rw [xset_self]; rfl) (by simp)]
    rfl
  have e2 : (f_J2_iterator l).1 σ = some (σ.2.1, xset (xset (xset τ σ.2.1 (.inl (16, [.int 0, .int 0, .int 0, .ref l]))) σ.2.1 (.inl (16, [.int 0, .int (-1), .int 0, .ref l]))) σ.2.1 (zitC 0 (-1) n l)) := by
    unfold f_J2_iterator
    rw [c_ck h.1, c_nw]
    show (xbd (f_J10_init σ.2.1 l) _).1 (xup σ.1 σ.2.1 (.inl (16, [.int 0, .int 0, .int 0, .null])), σ.2.1 + 1, σ.2.2.1 + 4, σ.2.2.2) = _
    rw [hτ, xbd_at e1]
    rfl
  refine ⟨_, e2, xset_self _ _ _, ?_, ?_⟩
  · have t1 := zGo.set (d' := .inl (16, [.int 0, .int 0, .int 0, .ref l])) g1.2.2.2.2 k1 hne
    have t2 := zGo.set (a := σ.2.1) (d' := .inl (16, [.int 0, .int (-1), .int 0, .ref l])) t1.2.2.2.2 (xset_self _ _ _) hne
    have t3 := zGo.set (a := σ.2.1) (d' := zitC 0 (-1) n l) t2.2.2.2.2 (xset_self _ _ _) hne
    exact (((g1.tr t1).tr t2).tr t3).mono (by omega) (by omega)
  · intro q hq
    rw [xset_ne _ _ (by omega), xset_ne _ _ (by omega), xset_ne _ _ (by omega)]
    exact k2 q hq
theorem e_hasNext (hi : σ.1 it = some (zitC i lr n l)) (h : zal σ l a g n) (h1 : i ≤ n) (h2 : n ≤ 33) : (f_J10_hasNext it).1 σ = some (if i = n then 0 else 1, σ) := by
  unfold f_J10_hasNext
  rw [c_ck hi, c_gI hi rfl, c_gN hi rfl, c_gI h.1 rfl, z_ite]
  by_cases h3 : i = n
  · rw [if_pos (by rw [h3]), if_pos h3, z_rtZ0]
  · rw [if_neg (by rw [nI_eq (by omega) (by omega)]; exact h3), if_neg h3, z_rtZ1]
theorem e_next (hi : σ.1 it = some (zitC i lr n l)) (h : zal σ l a g n) (h1 : i < n) (h2 : n ≤ 33) : (f_J10_next it).1 σ = some (g i, xset σ it (zitC (i + 1) (nI i) n l)) := by
  have hne : ∀ q c, σ.1 q = some c → c ≠ zitC i lr n l → q ≠ it := fun q c hq hc z => by
    rw [z, hi] at hq
    exact hc (Option.some.inj hq).symm
  have ec : (f_J10_checkForComodification it).1 σ = some ((), σ) := by
    unfold f_J10_checkForComodification
    rw [c_ck hi, c_gN hi rfl, c_gI h.1 rfl, c_gI hi rfl, z_ite, if_pos rfl]
    rfl
  rcases h.2 with ⟨h3, -⟩ | ⟨h3, h4⟩
  · omega
  · have hli : l ≠ it := hne _ _ h.1 (by unfold zitC; intro h; cases h)
    have hai : a ≠ it := hne _ _ h4 (by unfold zitC; intro h; cases h)
    unfold f_J10_next
    rw [c_ck hi, xbd_at ec, c_gI hi rfl, c_gN hi rfl, c_gI h.1 rfl, z_ite, if_pos (nI_lt h1 (by omega)), c_gN hi rfl, c_gN h.1 rfl, c_ln h4, z_ite, if_pos (nI_lt (Nat.lt_of_lt_of_le h1 (zcap_le n h2)) (Nat.lt_of_le_of_lt (zcap_lt n) (by decide)))]
    rw [c_pt hi (by simp), nI_1]
    rw [c_pt (fs := [.int (nI (i + 1)), .int lr, .int (nI n), .ref l]) (by rw [xset_self]; rfl) (by simp)]
    rw [c_ldN (f := zit g n) (x := g i) (n := zcap n) (t := 3) (by rw [xset_ne _ _ hai, xset_ne _ _ hai]; exact h4) (Nat.lt_of_lt_of_le h1 (zcap_le n h2)) (Nat.lt_of_le_of_lt (zcap_lt n) (by decide)) (by unfold zit; rw [if_pos h1]), z_rt1]
    unfold xset
    simp only [xup_xup]
    rfl
end ZITR
