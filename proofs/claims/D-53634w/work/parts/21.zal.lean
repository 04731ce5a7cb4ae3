/-! ArrayList: lists made by 'new' and 'add' alone -/
set_option maxRecDepth 100000
/-- what a run of steps does to the room -/
def zGo (σ σ' : xS) (c s : Nat) : Prop := σ.2.1 ≤ σ'.2.1 ∧ σ'.2.1 ≤ σ.2.1 + c ∧ σ'.2.2.1 ≤ σ.2.2.1 + s ∧ σ'.2.2.2 = σ.2.2.2 ∧ zWf σ'
theorem zGo.rf {σ : xS} (h : zWf σ) : zGo σ σ 0 0 := ⟨Nat.le_refl _, Nat.le_refl _, Nat.le_refl _, rfl, h⟩
theorem zGo.tr {σ τ υ : xS} {c s c' s' : Nat} (h : zGo σ τ c s) (h' : zGo τ υ c' s') : zGo σ υ (c + c') (s + s') := by
  obtain ⟨a1, a2, a3, a4, a5⟩ := h
  obtain ⟨b1, b2, b3, b4, b5⟩ := h'
  exact ⟨by omega, by omega, by omega, b4.trans a4, b5⟩
theorem zGo.mono {σ τ : xS} {c s c' s' : Nat} (h : zGo σ τ c s) (h1 : c ≤ c') (h2 : s ≤ s') : zGo σ τ c' s' := by
  obtain ⟨a1, a2, a3, a4, a5⟩ := h
  exact ⟨by omega, by omega, by omega, a4, a5⟩
theorem zGo.set {σ : xS} (h : zWf σ) {a : Nat} {d d' : xC} (hd : σ.1 a = some d) (he : a ≠ σ.2.2.2) : zGo σ (xset σ a d') 0 0 := by
  have h1 := h.lt hd
  refine ⟨Nat.le_refl _, Nat.le_refl _, Nat.le_refl _, rfl, fun q hq => ?_, ?_, h.2.2⟩
  · rw [xset_ne _ _ (by have hq : σ.2.1 ≤ q := hq; omega)]
    exact h.1 q hq
  · rw [xset_ne _ _ (by show σ.2.2.2 ≠ a; exact fun z => he z.symm)]
    exact h.2.1
theorem zGo.made {σ : xS} (h : zWf σ) (d : xC) (N : Nat) : zGo σ (xup σ.1 σ.2.1 d, σ.2.1 + 1, σ.2.2.1 + N, σ.2.2.2) 1 N := by
  refine ⟨by show _ ≤ σ.2.1 + 1; omega, Nat.le_refl _, Nat.le_refl _, rfl, fun q hq => ?_, ?_, ?_⟩
  · have hq : σ.2.1 + 1 ≤ q := hq
    show xup σ.1 σ.2.1 d q = none
    unfold xup
    rw [if_neg (by omega)]
    exact h.1 q (by omega)
  · show xup σ.1 σ.2.1 d σ.2.2.2 = _
    unfold xup
    rw [if_neg (by have := h.2.2; omega)]
    exact h.2.1
  · show σ.2.2.2 < σ.2.1 + 1
    have := h.2.2
    omega
abbrev zrf (f : Nat → Option Nat) : xK0 := .inr (.inr (.inr (.inr f)))
def zcap (n : Nat) : Nat := if n ≤ 10 then 10 else if n ≤ 15 then 15 else if n ≤ 22 then 22 else 33
def zit (g : Nat → Nat) (n : Nat) : Nat → Option Nat := fun i => if i < n then some (g i) else none
def zal (σ : xS) (l a : Nat) (g : Nat → Nat) (n : Nat) : Prop := σ.1 l = some (.inl (12, [.int (nI n), .ref a, .int (nI n)])) ∧ ((n = 0 ∧ a = σ.2.2.2) ∨ (0 < n ∧ σ.1 a = some (.inr (3, zcap n, zrf (zit g n)))))
/-- an object -/
def zob (σ : xS) (q : Nat) : Prop := ∃ c fs, σ.1 q = some (.inl (c, fs)) ∧ c < 20
section ZAL
variable {σ : xS} {l a n : Nat} {g : Nat → Nat} {α : Type}
theorem e_size (h : zal σ l a g n) : (f_J2_size l).1 σ = some (nI n, σ) := by
  unfold f_J2_size
  rw [c_ck h.1, c_gI h.1 rfl]
  rfl
theorem zcap_le (n : Nat) (h : n ≤ 33) : n ≤ zcap n := by
  unfold zcap
  split
  · omega
  · split
    · omega
    · split <;> omega
theorem zcap_lt (n : Nat) : zcap n ≤ 33 := by
  unfold zcap
  split
  · omega
  · split
    · omega
    · split <;> omega
theorem e_chk {i : Nat} (hi : i < n) (hn : n < 2 ^ 31) : (f_J14_checkIndex (nI i) (nI n)).1 σ = some (nI i, σ) := by
  unfold f_J14_checkIndex
  have e : (f_J15_checkIndex (nI i) (nI n)).1 σ = some (nI i, σ) := by
    unfold f_J15_checkIndex
    rw [z_ite, if_neg (nI_pos (by omega)), z_ite, if_pos (nI_lt hi hn)]
    rfl
  rw [xbd_at e]
  rfl
theorem e_get (h : zal σ l a g n) (hn : n ≤ 33) {i : Nat} (hi : i < n) : (f_J2_get l (nI i)).1 σ = some (g i, σ) := by
  unfold f_J2_get
  rw [c_ck h.1, c_gI h.1 rfl, xbd_at (e_chk hi (by omega))]
  have e : (f_J2_elementData l (nI i)).1 σ = some (g i, σ) := by
    unfold f_J2_elementData
    rcases h.2 with ⟨h1, -⟩ | ⟨h1, h2⟩
    · omega
    · rw [c_ck h.1, c_gN h.1 rfl, c_ldN (x := g i) h2 (Nat.lt_of_lt_of_le hi (zcap_le n hn)) (Nat.lt_of_le_of_lt (zcap_lt n) (by decide)) (by unfold zit; rw [if_pos hi])]
      rfl
  rw [xbd_at e]
  rfl
/-- the new array of a list that grows -/
theorem c_cpy {o b no nb k : Nat} {f f' : Nat → Option Nat} {K : Unit → xM α} (h : σ.1 o = some (.inr (3, no, zrf f))) (h' : σ.1 b = some (.inr (3, nb, zrf f'))) (h1 : k ≤ no) (h2 : k ≤ nb) (hk : k < 2 ^ 31) (hob : ∀ i, i < k → ∀ y, f i = some y → zob σ y) :
    (xbd (xcpy 3 o (0 : Int32) b (0 : Int32) (nI k)) K).1 σ = (K ()).1 (xset σ b (.inr (3, nb, zrf (va_cpy f f' 0 0 k)))) := by
  refine z_wr (q := (b, .inr (3, nb, zrf (va_cpy f f' 0 0 k)))) ?_
  unfold xarr
  rw [h, h']
  have e0 : (0 : Int32).toNatClampNeg = 0 := by decide
  have e1 : ¬ ((0 : Int32) < 0) := by decide
  simp only [if_true, e0, e1, nI_pos (n := k) hk, nI_clamp (n := k) hk, Nat.zero_add, decide_false, Bool.not_false, Bool.and_self, decide_eq_true h1, decide_eq_true h2]
  refine (if_pos ?_).trans rfl
  rw [Bool.true_and, List.all_eq_true]
  intro i hi
  have hi := List.mem_range.mp hi
  cases hf : f i with
  | none => simp only [hf]
  | some y =>
    obtain ⟨c, fs, hy, hc⟩ := hob i hi y hf
    simp only [hf]
    unfold xobj
    rw [hy]
    simp [xcast, hc]
end ZAL
