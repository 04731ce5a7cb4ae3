/-! copies of one object -/
set_option maxRecDepth 100000
/-- the picture with one more cell -/
def zadd (σ : xS) (d : xC) (N : Nat) : xS := (xup σ.1 σ.2.1 d, σ.2.1 + 1, σ.2.2.1 + N, σ.2.2.2)
section ZCP
variable {σ : xS} {s : Nat} {α : Type}
theorem xset_xset (s : xS) (a : Nat) (c d : xC) : xset (xset s a c) a d = xset s a d := by
  unfold xset
  rw [xup_xup]
theorem zadd_new (σ : xS) (d : xC) (N : Nat) : (zadd σ d N).1 σ.2.1 = some d := by
  show xup σ.1 σ.2.1 d σ.2.1 = _
  unfold xup
  rw [if_pos rfl]
theorem zadd_old (σ : xS) (d : xC) (N : Nat) {q : Nat} (h : q < σ.2.1) : (zadd σ d N).1 q = σ.1 q := by
  show xup σ.1 σ.2.1 d q = _
  unfold xup
  rw [if_neg (by omega)]
theorem zadd_set (σ : xS) (c d : xC) (N : Nat) : xset (zadd σ c N) σ.2.1 d = zadd σ d N := by
  unfold xset zadd
  rw [xup_xup]
theorem c_nw2 {c : Nat} {gs : List Value} {K : Nat → xM α} (N : Nat) (hN : gs.length = N) : (xbd (xnw c gs) K).1 σ = (K σ.2.1).1 (zadd σ (.inl (c, gs)) N) := by
  rw [← hN]
  exact c_nw
theorem e_copy7 {n t c ca no di bl : Int32} {p u : UInt64} (hw : zWf σ) (h : σ.1 s = some (.inl (7, [.int n, .double p, .double u, .int t, .int c, .int ca, .int no, .int di, .int bl]))) (hbl : bl = 0 ∨ bl = 1) :
    (f_X7_copy s).1 σ = some (σ.2.1, zadd σ (.inl (7, [.int n, .double p, .double u, .int t, .int c, .int ca, .int no, .int di, .int bl])) 9) := by
  have hs := hw.lt h
  have hd : ∀ d, (zadd σ d 9).1 s = some (.inl (7, [.int n, .double p, .double u, .int t, .int c, .int ca, .int no, .int di, .int bl])) := fun d => (zadd_old σ d 9 hs).trans h
  have hi : (f_X7_init σ.2.1 n p u t).1 (zadd σ (.inl (7, [.int 0, .double 0, .double 0, .int 0, .int 0, .int 0, .int 0, .int 0, .int 0])) 9) = some ((), zadd σ (.inl (7, [.int n, .double p, .double u, .int t, .int 0, .int 0, .int 0, .int 0, .int 0])) 9) := by
    unfold f_X7_init
    rw [c_pt (zadd_new _ _ _) (by simp), zadd_set, c_pt (zadd_new _ _ _) (by simp), zadd_set, c_pt (zadd_new _ _ _) (by simp), zadd_set, c_pt (zadd_new _ _ _) (by simp), zadd_set]
    rfl
  have e : (f_X7_copy_2 s).1 σ = some (σ.2.1, zadd σ (.inl (7, [.int n, .double p, .double u, .int t, .int c, .int ca, .int no, .int di, .int bl])) 9) := by
    unfold f_X7_copy_2
    rw [c_ck h, c_nw2 9 rfl, c_gI (hd _) rfl, c_gD (hd _) rfl, c_gD (hd _) rfl, c_gI (hd _) rfl]
    refine (xbd_at hi).trans ?_
    rw [c_gI (hd _) rfl, c_pt (zadd_new _ _ _) (by simp), zadd_set, c_gI (hd _) rfl, c_pt (zadd_new _ _ _) (by simp), zadd_set, c_gI (hd _) rfl, c_pt (zadd_new _ _ _) (by simp), zadd_set, c_gI (hd _) rfl, c_pt (zadd_new _ _ _) (by simp), zadd_set, c_gI (hd _) rfl, c_ptZ (zadd_new _ _ _) (by simp) hbl, zadd_set]
    rfl
  unfold f_X7_copy
  rw [c_ck h, xbd_at e]
  rfl
theorem e_copy5 {n p u t c ca no di bl : Int32} (hw : zWf σ) (h : σ.1 s = some (.inl (5, [.int n, .int p, .int u, .int t, .int c, .int ca, .int no, .int di, .int bl]))) :
    (f_X5_copy s).1 σ = some (σ.2.1, zadd σ (.inl (5, [.int n, .int p, .int u, .int t, .int c, .int ca, .int no, .int di, .int bl])) 9) := by
  have hs := hw.lt h
  have hd : ∀ d, (zadd σ d 9).1 s = some (.inl (5, [.int n, .int p, .int u, .int t, .int c, .int ca, .int no, .int di, .int bl])) := fun d => (zadd_old σ d 9 hs).trans h
  have hi : (f_X5_init σ.2.1 n p u t).1 (zadd σ (.inl (5, [.int 0, .int 0, .int 0, .int 0, .int 0, .int 0, .int 0, .int 0, .int 0])) 9) = some ((), zadd σ (.inl (5, [.int n, .int p, .int u, .int t, .int 0, .int 0, .int 0, .int 0, .int 0])) 9) := by
    unfold f_X5_init
    rw [c_pt (zadd_new _ _ _) (by simp), zadd_set, c_pt (zadd_new _ _ _) (by simp), zadd_set, c_pt (zadd_new _ _ _) (by simp), zadd_set, c_pt (zadd_new _ _ _) (by simp), zadd_set]
    rfl
  have e : (f_X5_copy_2 s).1 σ = some (σ.2.1, zadd σ (.inl (5, [.int n, .int p, .int u, .int t, .int c, .int ca, .int no, .int di, .int bl])) 9) := by
    unfold f_X5_copy_2
    rw [c_ck h, c_nw2 9 rfl, c_gI (hd _) rfl, c_gI (hd _) rfl, c_gI (hd _) rfl, c_gI (hd _) rfl]
    refine (xbd_at hi).trans ?_
    rw [c_gI (hd _) rfl, c_pt (zadd_new _ _ _) (by simp), zadd_set, c_gI (hd _) rfl, c_pt (zadd_new _ _ _) (by simp), zadd_set, c_gI (hd _) rfl, c_pt (zadd_new _ _ _) (by simp), zadd_set, c_gI (hd _) rfl, c_pt (zadd_new _ _ _) (by simp), zadd_set, c_gI (hd _) rfl, c_pt (zadd_new _ _ _) (by simp), zadd_set]
    rfl
  unfold f_X5_copy
  rw [c_ck h, xbd_at e]
  rfl
end ZCP
