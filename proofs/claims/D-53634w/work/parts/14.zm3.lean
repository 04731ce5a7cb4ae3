/-! the model: what an act starts and ends with; settings -/
set_option maxRecDepth 100000
/-- aside -/
def zAs (v : zV) : zV := (upd v.1 0 0, v.2.1, zcp v.2.1 v.2.2.1 0 0 1411, v.2.2.2)
/-- acted -/
def zAc (a : Nat) (v : zV) : zV := if a < 4 then (upd v.1 6 (nI (a + 1)), v.2.1, v.2.2.1, v.2.2.2.1, (fun i => if 1411 * a + 0 ≤ i ∧ i < 1411 * a + 1411 then v.2.2.1 (i - 1411 * a) else v.2.2.2.2.1 i), v.2.2.2.2.2)
  else (upd (upd v.1 6 (nI 3)) 6 (nI (3 + 1)), v.2.1, v.2.2.1, v.2.2.2.1, (fun i => if 1411 * 3 + 0 ≤ i ∧ i < 1411 * 3 + 1411 then v.2.2.1 (i - 1411 * 3) else zcp v.2.2.2.2.1 v.2.2.2.2.1 1411 0 4233 i), v.2.2.2.2.2)
/-- another row -/
def zRw (v : zV) (r : Nat → Int64) : zV := (v.1, r, v.2.2)
theorem zAs_row (v : zV) : (zAs v).2.1 = v.2.1 := rfl
theorem zAs_acts (v : zV) : (zAs v).1 6 = v.1 6 := rfl
theorem zRw_row (v : zV) (r : Nat → Int64) : (zRw v r).2.1 = r := rfl
theorem zRw_i (v : zV) (r : Nat → Int64) (k : Nat) : (zRw v r).1 k = v.1 k := rfl
theorem zAc_row (a : Nat) (v : zV) : (zAc a v).2.1 = v.2.1 := by
  unfold zAc
  split <;> rfl
theorem zup_ne (f : Nat → Int64) {k j : Nat} (x : Int64) (h : j ≠ k) : vp_updL f k x j = f j := if_neg h
theorem zup_eq (f : Nat → Int64) (k : Nat) (x : Int64) : vp_updL f k x k = x := if_pos rfl
section ZM3
variable {σ : xS} {m : Nat} {v : zV} {α : Type}
theorem e_as : (f_X3_aside m).1 (mp σ m v) = some ((), mp σ m (zAs v)) := e_aside
theorem e_ac {r : Int32} {a : Nat} (ha : v.1 6 = nI a) (h : a ≤ 4) : (f_X3_acted m r).1 (mp σ m v) = some (r, mp σ m (zAc a v)) := by
  unfold zAc
  by_cases h1 : a < 4
  · rw [if_pos h1]
    exact e_acted3 ha h1
  · have h2 : a = 4 := by omega
    subst h2
    rw [if_neg h1]
    exact e_acted4 ha
theorem m_st1r {i : Nat} {x : Int64} {K : Unit → xM α} (h : i < 1411) : (xbd (xstL (m+1) (nI i) x) K).1 (mp σ m v) = (K ()).1 (mp σ m (zRw v (vp_updL v.2.1 i x))) := m_st1 h
theorem e_addSupplier {a n : Nat} (ha : v.1 6 = nI a) (h : a ≤ 4) (hn : (v.2.1 1).toInt32 = nI n) (h5 : n ≤ 5) : (f_X3_addSupplier m).1 (mp σ m v) = if n = 5 then some (-3, mp σ m (zAs v)) else
    some (nI n, mp σ m (zAc a (zRw (zAs v) (vp_updL (vp_updL (vp_updL v.2.1 (11 + 8 * n + 0) 4617315517961601024) (11 + 8 * n + 2) 100) 1 (v.2.1 1 + 1))))) := by
  have hn' : ((zAs v).2.1 1).toInt32 = nI n := hn
  simp only [f_X3_addSupplier, m_ck, xbd_at e_as, zi_1, xbd_at (e_at (by decide : (1 : Nat) < 1411)), hn', zi_5, z_ite, nI_eq (a := n) (b := 5) (by omega) (by omega)]
  by_cases h6 : n = 5
  · rw [if_pos h6, if_pos h6]
    rfl
  · rw [if_neg h6, if_neg h6]
    simp only [zi_0, zi_2, m_gN1, xbd_at e_ofS]
    rw [m_st1r (by omega), m_gN1, xbd_at e_ofS, m_st1r (by omega), m_gN1, m_ld1 (by decide), m_st1r (by decide)]
    rw [xbd_at (e_ac (a := a) ?_ h), z_rt1]
    · refine congrArg (fun z => some (nI n, mp σ m (zAc a (zRw (zAs v) z)))) ?_
      simp only [zRw_row, zAs_row]
      rw [zup_ne _ _ (by omega), zup_ne _ _ (by omega)]
      rfl
    · exact ha
end ZM3
