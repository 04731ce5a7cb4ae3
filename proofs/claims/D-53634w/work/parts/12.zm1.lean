/-! the model's small methods -/
set_option maxRecDepth 100000
theorem z_ite {α : Type} {c : Prop} [Decidable c] {A B : xM α} {s : xS} : (if c then A else B).1 s = if c then A.1 s else B.1 s := by
  split <;> rfl
theorem z_as {α : Type} {b : Bool} {K : Unit → xM α} {s : xS} (h : b = true) : (xbd (xas b) K).1 s = (K ()).1 s := z_rd (by rw [h]; rfl)
theorem z_rtZ {x : Int32} {s : xS} (h : x = 0 ∨ x = 1) : (xrtZ x).1 s = some (x, s) := by
  unfold xrtZ
  rw [z_as (by rcases h with rfl | rfl <;> rfl)]
  rfl
theorem z_rtZ0 {s : xS} : (xrtZ 0).1 s = some (0, s) := z_rtZ (Or.inl rfl)
theorem z_rtZ1 {s : xS} : (xrtZ 1).1 s = some (1, s) := z_rtZ (Or.inr rfl)
/-- a truth as an int -/
def zb (p : Prop) [Decidable p] : Int32 := if p then 1 else 0
theorem zb_eq0 (p : Prop) [Decidable p] : (zb p = 0) ↔ ¬ p := by
  unfold zb
  by_cases h : p <;> simp [h]
theorem zb_rt {p : Prop} [Decidable p] {s : xS} : (xrtZ (zb p)).1 s = some (zb p, s) := z_rtZ (by unfold zb; by_cases h : p <;> simp [h])
theorem zb_ite {α : Type} {p : Prop} [Decidable p] {A B : α} : (if zb p = 0 then A else B) = if p then B else A := by
  by_cases h : p <;> simp [zb, h]
theorem zb_t {p : Prop} [Decidable p] (h : p) : zb p = 1 := if_pos h
theorem zb_f {p : Prop} [Decidable p] (h : ¬ p) : zb p = 0 := if_neg h
theorem zin_iff {x : Int32} {n : Nat} (hn : n < 2 ^ 31) : (0 ≤ x ∧ x ≤ nI n - 1) ↔ (0 ≤ x ∧ x.toNatClampNeg < n) := by
  have h1 : (nI n).toInt = n := nI_toInt hn
  have h2 : (nI n - 1).toInt = (n : Int) - 1 := by
    rw [Int32.toInt_sub, h1]
    have : (1 : Int32).toInt = 1 := by decide
    rw [this]
    apply Int.bmod_eq_of_le <;> omega
  have h3 : x.toNatClampNeg = x.toInt.toNat := rfl
  have h4 : (0 : Int32).toInt = 0 := by decide
  simp only [Int32.le_iff_toInt_le, h2, h3, h4]
  omega
theorem zin_iff1 {x : Int32} {n : Nat} (hn : n < 2 ^ 31) : (0 ≤ x ∧ x ≤ nI n - nI 1) ↔ (0 ≤ x ∧ x.toNatClampNeg < n) := by
  rw [← zi_1]
  exact zin_iff hn
theorem zin_of {x : Int32} {n : Nat} (hn : n < 2 ^ 31) (h : 0 ≤ x ∧ x.toNatClampNeg < n) : ∃ k, k < n ∧ x = nI k := by
  refine ⟨x.toNatClampNeg, h.2, ?_⟩
  have h4 : (0 : Int32).toInt = 0 := by decide
  have h5 := Int32.le_iff_toInt_le.mp h.1
  rw [h4] at h5
  apply Int32.toInt_inj.mp
  rw [nI_toInt (by omega)]
  show x.toInt = (x.toInt.toNat : Int)
  omega
section ZM1
variable {σ : xS} {m : Nat} {v : zV} {α : Type}
theorem e_in {x a b : Int32} {s : xS} : (f_X3_in x a b).1 s = some (zb (a ≤ x ∧ x ≤ b), s) := by
  unfold f_X3_in
  by_cases h1 : x < a
  · rw [if_pos h1, z_rtZ0, zb_f]
    intro h
    exact absurd h.1 (by simpa using h1)
  · rw [if_neg h1]
    by_cases h2 : b < x
    · rw [if_pos h2, z_rtZ0, zb_f]
      intro h
      exact absurd h.2 (by simpa using h2)
    · rw [if_neg h2, z_rtZ1, zb_t]
      exact ⟨by simpa using h1, by simpa using h2⟩
theorem e_ofS {s w : Nat} {t : xS} : (f_X3_ofSupplier (nI s) (nI w)).1 t = some (nI (11 + 8 * s + w), t) := by
  simp only [f_X3_ofSupplier, zi_11, zi_8, pk_mul, nI_add, z_rt1]
theorem e_ofO {s w : Nat} {t : xS} : (f_X3_ofOrder (nI s) (nI w)).1 t = some (nI (51 + 4 * s + w), t) := by
  simp only [f_X3_ofOrder, zi_51, zi_4, pk_mul, nI_add, z_rt1]
theorem e_ofL {o l w : Nat} {t : xS} : (f_X3_ofLine (nI o) (nI l) (nI w)).1 t = some (nI (99 + 48 * o + 8 * l + w), t) := by
  simp only [f_X3_ofLine, zi_99, zi_48, zi_8, pk_mul, nI_add, z_rt1]
theorem e_ofI {i w : Nat} {t : xS} : (f_X3_ofInvoice (nI i) (nI w)).1 t = some (nI (675 + 29 * i + w), t) := by
  simp only [f_X3_ofInvoice, zi_675, zi_29, pk_mul, nI_add, z_rt1]
theorem e_at {n : Nat} (h : n < 1411) : (f_X3_at m (nI n)).1 (mp σ m v) = some ((v.2.1 n).toInt32, mp σ m v) := by
  simp only [f_X3_at, m_ck, m_gN1, m_ld1 h, z_rt1]
theorem e_isS {x : Int32} {n : Nat} (hn : (v.2.1 1).toInt32 = nI n) (h : n < 2 ^ 31) : (f_X3_isSupplier m x).1 (mp σ m v) = some (zb (0 ≤ x ∧ x.toNatClampNeg < n), mp σ m v) := by
  simp only [f_X3_isSupplier, zi_1, m_ck, xbd_at (e_at (by decide : (1 : Nat) < 1411)), hn, xbd_at e_in, zin_iff1 h, zb_rt]
end ZM1
