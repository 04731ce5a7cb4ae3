/-! steps on cells that are known -/
set_option maxRecDepth 100000
section ZC
variable {σ : xS} {a c k : Nat} {fs : List Value} {α : Type}
theorem xset_self (s : xS) (a : Nat) (c : xC) : (xset s a c).1 a = some c := by simp [xset, xup]
theorem xset_ne (s : xS) {a b : Nat} (c : xC) (h : b ≠ a) : (xset s a c).1 b = s.1 b := by simp [xset, xup, h]
theorem xset_2 (s : xS) (a : Nat) (c : xC) : (xset s a c).2 = s.2 := rfl
theorem c_fld {v : Value} (h : σ.1 a = some (.inl (c, fs))) (hk : fs[k]? = some v) : xfld σ c k a = some v := by
  unfold xfld
  rw [h]
  simp only [if_true]
  exact hk
theorem c_gI {x : Int32} {K : Int32 → xM α} (h : σ.1 a = some (.inl (c, fs))) (hk : fs[k]? = some (.int x)) : (xbd (xgI c k a) K).1 σ = (K x).1 σ := z_rd (by rw [c_fld h hk]; rfl)
theorem c_gD {x : UInt64} {K : UInt64 → xM α} (h : σ.1 a = some (.inl (c, fs))) (hk : fs[k]? = some (.double x)) : (xbd (xgD c k a) K).1 σ = (K x).1 σ := z_rd (by rw [c_fld h hk]; rfl)
theorem c_gN {x : Nat} {K : Nat → xM α} (h : σ.1 a = some (.inl (c, fs))) (hk : fs[k]? = some (.ref x)) : (xbd (xgN c k a) K).1 σ = (K x).1 σ := z_rd (by rw [c_fld h hk]; rfl)
theorem c_gQ {x : Nat} {K : Option Nat → xM α} (h : σ.1 a = some (.inl (c, fs))) (hk : fs[k]? = some (.ref x)) : (xbd (xgQ c k a) K).1 σ = (K (some x)).1 σ := z_rd (by rw [c_fld h hk]; rfl)
theorem c_gQ0 {K : Option Nat → xM α} (h : σ.1 a = some (.inl (c, fs))) (hk : fs[k]? = some .null) : (xbd (xgQ c k a) K).1 σ = (K none).1 σ := z_rd (by rw [c_fld h hk]; rfl)
theorem c_ck {K : Unit → xM α} (h : σ.1 a = some (.inl (c, fs))) : (xbd (xck c a) K).1 σ = (K ()).1 σ := z_rd (by simp only [h, if_true])
theorem c_cks {cs : List Nat} {K : Unit → xM α} (h : σ.1 a = some (.inl (c, fs))) (hc : c ∈ cs) : (xbd (xcks cs a) K).1 σ = (K ()).1 σ := z_rd (by simp only [h, hc, if_true])
theorem c_pt {v : Value} {K : Unit → xM α} (h : σ.1 a = some (.inl (c, fs))) (hk : k < fs.length) : (xbd (xpt c k a v) K).1 σ = (K ()).1 (xset σ a (.inl (c, fs.set k v))) := z_wr (q := (a, .inl (c, fs.set k v))) (by simp only [h, hk, and_self, if_true])
theorem c_ptZ {v : Int32} {K : Unit → xM α} (h : σ.1 a = some (.inl (c, fs))) (hk : k < fs.length) (hv : v = 0 ∨ v = 1) : (xbd (xptZ c k a v) K).1 σ = (K ()).1 (xset σ a (.inl (c, fs.set k (.int v)))) := by
  unfold xptZ
  have e : (xbd (xas (v == 0 || v == 1)) fun _ => xpt c k a (.int v)).1 σ = some ((), xset σ a (.inl (c, fs.set k (.int v)))) := by
    rw [z_as (by rcases hv with rfl | rfl <;> rfl)]
    unfold xpt xwr
    simp only [h, hk, and_self, if_true]
  exact xbd_at e
theorem c_ln {t n : Nat} {f : xK0} {K : Int32 → xM α} (h : σ.1 a = some (.inr (t, n, f))) : (xbd (xln a) K).1 σ = (K (nI n)).1 σ := z_rd (by simp only [h]; rfl)
theorem c_ldN {t n i x : Nat} {f : Nat → Option Nat} {K : Nat → xM α} (h : σ.1 a = some (.inr (t, n, .inr (.inr (.inr (.inr f)))))) (hi : i < n) (hn : n < 2 ^ 31) (hx : f i = some x) : (xbd (xldN t a (nI i)) K).1 σ = (K x).1 σ := by
  refine z_rd ?_
  unfold xarr
  rw [h]
  simp only [if_true, z_ok hi hn, nI_clamp (n := i) (by omega), hx]
theorem c_stR {t n i y dc : Nat} {f : Nat → Option Nat} {gs : List Value} {K : Unit → xM α} (h : σ.1 a = some (.inr (t, n, .inr (.inr (.inr (.inr f)))))) (hi : i < n) (hn : n < 2 ^ 31) (hy : σ.1 y = some (.inl (dc, gs))) (hc : xcast dc t = true) : (xbd (xstR t a (nI i) y) K).1 σ = (K ()).1 (xset σ a (.inr (t, n, .inr (.inr (.inr (.inr (va_up f i (some y)))))))) := by
  refine z_wr (q := (a, .inr (t, n, .inr (.inr (.inr (.inr (va_up f i (some y)))))))) ?_
  unfold xarr xobj
  rw [h, hy]
  simp only [if_true, z_ok hi hn, nI_clamp (n := i) (by omega), hc, Bool.and_self]
theorem c_ckR {t n : Nat} {f : xK0} {K : Unit → xM α} (h : σ.1 a = some (.inr (t, n, f))) : (xbd (xckR t a) K).1 σ = (K ()).1 σ := by
  refine z_rd ?_
  unfold xarr
  simp only [h, if_true]
theorem c_nw {gs : List Value} {K : Nat → xM α} : (xbd (xnw c gs) K).1 σ = (K σ.2.1).1 (xup σ.1 σ.2.1 (.inl (c, gs)), σ.2.1 + 1, σ.2.2.1 + gs.length, σ.2.2.2) := z_al (q := (gs.length, .inl (c, gs))) rfl
theorem c_na {t n : Nat} {z : xK0} {K : Nat → xM α} (hn : n ≤ 65536) : (xbd (xna t z (nI n)) K).1 σ = (K σ.2.1).1 (xup σ.1 σ.2.1 (.inr (t, n, z)), σ.2.1 + 1, σ.2.2.1 + n, σ.2.2.2) := by
  refine z_al (q := (n, .inr (t, n, z))) ?_
  rw [nI_clamp (n := n) (by omega), if_pos ⟨nI_pos (by omega), hn⟩]
theorem c_e0 {K : Nat → xM α} : (xbd xe0 K).1 σ = (K σ.2.2.2).1 σ := z_rd rfl
/-- the next address is free -/
def zWf (σ : xS) : Prop := (∀ q, σ.2.1 ≤ q → σ.1 q = none) ∧ σ.1 σ.2.2.2 = some xem ∧ σ.2.2.2 < σ.2.1
theorem zWf.lt (h : zWf σ) {d : xC} (hd : σ.1 a = some d) : a < σ.2.1 := by
  refine Nat.lt_of_not_le fun h1 => ?_
  rw [h.1 a h1] at hd
  cases hd
end ZC
