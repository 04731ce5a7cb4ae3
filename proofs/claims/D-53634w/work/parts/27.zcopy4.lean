/-! Invoice.copy -/
set_option maxRecDepth 100000
section ZC4
variable {σ : xS} {s : Nat} {α : Type}
theorem c_cpyT {t o b no nb k : Nat} {f f' : Nat → Option Nat} {K : Unit → xM α} (h : σ.1 o = some (.inr (t, no, zrf f))) (h' : σ.1 b = some (.inr (t, nb, zrf f'))) (h1 : k ≤ no) (h2 : k ≤ nb) (hk : k < 2 ^ 31) (hob : ∀ i, i < k → ∀ y, f i = some y → xobj σ t y = true) :
    (xbd (xcpy t o (0 : Int32) b (0 : Int32) (nI k)) K).1 σ = (K ()).1 (xset σ b (.inr (t, nb, zrf (va_cpy f f' 0 0 k)))) := by
  refine z_wr (q := (b, .inr (t, nb, zrf (va_cpy f f' 0 0 k)))) ?_
  unfold xarr
  rw [h, h']
  have e0 : (0 : Int32).toNatClampNeg = 0 := by decide
  have e1 : ¬ ((0 : Int32) < 0) := by decide
  simp only [if_true, e0, e1, nI_pos (n := k) hk, nI_clamp (n := k) hk, Nat.zero_add, decide_false, Bool.not_false, Bool.and_self, decide_eq_true h1, decide_eq_true h2]
  refine (if_pos ?_).trans rfl
  rw [Bool.true_and, List.all_eq_true]
  intro i hi
  have hi := List.mem_range.mp hi
  cases hf : f i with
  | none => simp only [hf]
  | some y =>
    simp only [hf]
    exact hob i hi y hf
theorem c_lnT {t n a : Nat} {f : xK0} {K : Int32 → xM α} (h : σ.1 a = some (.inr (t, n, f))) : (xbd (xln a) K).1 σ = (K (nI n)).1 σ := c_ln h
theorem c_na2 {t n : Nat} {z : xK0} {K : Nat → xM α} (hn : n ≤ 65536) : (xbd (xna t z (nI n)) K).1 σ = (K σ.2.1).1 (zadd σ (.inr (t, n, z)) n) := c_na hn
theorem zadd_21 (σ : xS) (d : xC) (N : Nat) : (zadd σ d N).2.1 = σ.2.1 + 1 := rfl
theorem e_copy4 {n rf od dy st rs no ca di cr im fi : Int32} {ea k : Nat} {en : Nat → Nat} (hw : zWf σ) (h : σ.1 s = some (.inl (4, [.int n, .int rf, .int od, .int dy, .ref ea, .int st, .int rs, .int no, .int ca, .int di, .int cr, .int im, .int fi]))) (ha : σ.1 ea = some (.inr (4, k, zrf (zit en k)))) (hk : k ≤ 100) (hen : ∀ i, i < k → ∃ fs, σ.1 (en i) = some (.inl (9, fs))) (him : im = 0 ∨ im = 1) (hfi : fi = 0 ∨ fi = 1) :
    (f_X4_copy s).1 σ = some (σ.2.1 + 1, zadd (zadd σ (.inr (4, k, zrf (zit en k))) k) (.inl (4, [.int n, .int rf, .int od, .int dy, .ref σ.2.1, .int st, .int rs, .int no, .int ca, .int di, .int cr, .int im, .int fi])) 13) := by
  have hs := hw.lt h
  have hea := hw.lt ha
  have hd0 : ∀ d N, (zadd σ d N).1 s = some (.inl (4, [.int n, .int rf, .int od, .int dy, .ref ea, .int st, .int rs, .int no, .int ca, .int di, .int cr, .int im, .int fi])) := fun d N => (zadd_old σ d N hs).trans h
  have he0 : ∀ d N, (zadd σ d N).1 ea = some (.inr (4, k, zrf (zit en k))) := fun d N => (zadd_old σ d N hea).trans ha
  generalize hτ : zadd σ (.inr (4, k, zrf (zit en k))) k = τ
  have hτ1 : τ.2.1 = σ.2.1 + 1 := by rw [← hτ]; rfl
  have hd : ∀ d N, (zadd τ d N).1 s = some (.inl (4, [.int n, .int rf, .int od, .int dy, .ref ea, .int st, .int rs, .int no, .int ca, .int di, .int cr, .int im, .int fi])) := fun d N => by
    rw [zadd_old τ d N (by rw [hτ1]; omega), ← hτ]
    exact hd0 _ _
  have hi : (f_X4_init τ.2.1 n rf od dy σ.2.1).1 (zadd τ (.inl (4, [.int 0, .int 0, .int 0, .int 0, .null, .int 0, .int 0, .int 0, .int 0, .int 0, .int 0, .int 0, .int 0])) 13) = some ((), zadd τ (.inl (4, [.int n, .int rf, .int od, .int dy, .ref σ.2.1, .int 0, .int 0, .int (-5), .int (-5), .int (-5), .int (-5), .int 0, .int 0])) 13) := by
    unfold f_X4_init
    rw [c_pt (zadd_new _ _ _) (by simp), zadd_set, c_pt (zadd_new _ _ _) (by simp), zadd_set, c_pt (zadd_new _ _ _) (by simp), zadd_set, c_pt (zadd_new _ _ _) (by simp), zadd_set, c_pt (zadd_new _ _ _) (by simp), zadd_set, c_pt (zadd_new _ _ _) (by simp), zadd_set, c_pt (zadd_new _ _ _) (by simp), zadd_set, c_pt (zadd_new _ _ _) (by simp), zadd_set, c_pt (zadd_new _ _ _) (by simp), zadd_set, c_pt (zadd_new _ _ _) (by simp), zadd_set]
    rfl
  have e : (f_X4_copy_2 s).1 σ = some (τ.2.1, zadd τ (.inl (4, [.int n, .int rf, .int od, .int dy, .ref σ.2.1, .int st, .int rs, .int no, .int ca, .int di, .int cr, .int im, .int fi])) 13) := by
    unfold f_X4_copy_2
    rw [c_ck h, c_gN h rfl, c_ln ha, c_na2 (by omega), c_gN (hd0 _ _) rfl, c_ln (zadd_new _ _ _)]
    rw [c_cpyT (t := 4) (f := zit en k) (f' := fun _ => none) (he0 _ _) (zadd_new _ _ _) (Nat.le_refl _) (Nat.le_refl _) (by omega) (fun i hi y hy => by
      unfold zit at hy
      rw [if_pos hi] at hy
      cases hy
      obtain ⟨fs, h1⟩ := hen i hi
      unfold xobj
      rw [zadd_old _ _ _ (hw.lt h1), h1]
      rfl), zadd_set, zit_cp, hτ]
    rw [c_nw2 13 rfl, c_gI (hd _ _) rfl, c_gI (hd _ _) rfl, c_gI (hd _ _) rfl, c_gI (hd _ _) rfl]
    refine (xbd_at hi).trans ?_
    rw [c_gI (hd _ _) rfl, c_pt (zadd_new _ _ _) (by simp), zadd_set, c_gI (hd _ _) rfl, c_pt (zadd_new _ _ _) (by simp), zadd_set, c_gI (hd _ _) rfl, c_pt (zadd_new _ _ _) (by simp), zadd_set, c_gI (hd _ _) rfl, c_pt (zadd_new _ _ _) (by simp), zadd_set, c_gI (hd _ _) rfl, c_pt (zadd_new _ _ _) (by simp), zadd_set, c_gI (hd _ _) rfl, c_pt (zadd_new _ _ _) (by simp), zadd_set, c_gI (hd _ _) rfl, c_ptZ (zadd_new _ _ _) (by simp) him, zadd_set, c_gI (hd _ _) rfl, c_ptZ (zadd_new _ _ _) (by simp) hfi, zadd_set]
    rfl
  unfold f_X4_copy
  rw [c_ck h, xbd_at e, hτ1]
  rfl
end ZC4
