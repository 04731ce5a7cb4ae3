/-! THE MODEL's CELLS: seven cells at m..m+6, and what each step does to them (printed by mkmod.py) -/
set_option maxRecDepth 100000
/-- ints (by their field), now, put, kept, was, text, told -/
abbrev zV : Type := (Nat → Int32) × (Nat → Int64) × (Nat → Int64) × (Nat → Int64) × (Nat → Int64) × (Nat → Int32) × (Nat → Int32)
def zmo (m : Nat) (i : Nat → Int32) : xC := .inl (3, [.int (i 0), .ref (m+1), .ref (m+2), .ref (m+3), .int (i 4), .ref (m+4), .int (i 6), .ref (m+5), .int (i 8), .int (i 9), .int (i 10), .ref (m+6)])
def zml (n : Nat) (f : Nat → Int64) : xC := .inr (1, n, .inr (.inl f))
def zmi (n : Nat) (f : Nat → Int32) : xC := .inr (0, n, .inl f)
def mp (σ : xS) (m : Nat) (v : zV) : xS := (fun q => if q = m then some (zmo m v.1) else if q = m+1 then some (zml 1411 v.2.1) else if q = m+2 then some (zml 1411 v.2.2.1) else if q = m+3 then some (zml 1411 v.2.2.2.1) else if q = m+4 then some (zml 5644 v.2.2.2.2.1) else if q = m+5 then some (zmi 60 v.2.2.2.2.2.1) else if q = m+6 then some (zmi 36 v.2.2.2.2.2.2) else σ.1 q, σ.2)
section ZM
variable {σ : xS} {m : Nat} {v : zV} {α : Type}
theorem mp_0 : (mp σ m v).1 m = some (zmo m v.1) := by simp [mp]
theorem mp_1 : (mp σ m v).1 (m+1) = some (zml 1411 v.2.1) := by simp [mp]
theorem mp_2 : (mp σ m v).1 (m+2) = some (zml 1411 v.2.2.1) := by simp [mp]
theorem mp_3 : (mp σ m v).1 (m+3) = some (zml 1411 v.2.2.2.1) := by simp [mp]
theorem mp_4 : (mp σ m v).1 (m+4) = some (zml 5644 v.2.2.2.2.1) := by simp [mp]
theorem mp_5 : (mp σ m v).1 (m+5) = some (zmi 60 v.2.2.2.2.2.1) := by simp [mp]
theorem mp_6 : (mp σ m v).1 (m+6) = some (zmi 36 v.2.2.2.2.2.2) := by simp [mp]
theorem mp_set0 (i : Nat → Int32) : xset (mp σ m v) m (zmo m i) = mp σ m (i, v.2) := by
  unfold xset mp xup
  refine Prod.ext ?_ rfl
  funext q
  by_cases h : q = m <;> simp [h]
theorem mp_set1 (f : Nat → Int64) : xset (mp σ m v) (m+1) (zml 1411 f) = mp σ m (v.1, f, v.2.2) := by
  unfold xset mp xup
  refine Prod.ext ?_ rfl
  funext q
  by_cases h : q = m+1
  · subst h; simp
  · simp [h]
theorem mp_set2 (f : Nat → Int64) : xset (mp σ m v) (m+2) (zml 1411 f) = mp σ m (v.1, v.2.1, f, v.2.2.2) := by
  unfold xset mp xup
  refine Prod.ext ?_ rfl
  funext q
  by_cases h : q = m+2
  · subst h; simp
  · simp [h]
theorem mp_set3 (f : Nat → Int64) : xset (mp σ m v) (m+3) (zml 1411 f) = mp σ m (v.1, v.2.1, v.2.2.1, f, v.2.2.2.2) := by
  unfold xset mp xup
  refine Prod.ext ?_ rfl
  funext q
  by_cases h : q = m+3
  · subst h; simp
  · simp [h]
theorem mp_set4 (f : Nat → Int64) : xset (mp σ m v) (m+4) (zml 5644 f) = mp σ m (v.1, v.2.1, v.2.2.1, v.2.2.2.1, f, v.2.2.2.2.2) := by
  unfold xset mp xup
  refine Prod.ext ?_ rfl
  funext q
  by_cases h : q = m+4
  · subst h; simp
  · simp [h]
theorem mp_set5 (f : Nat → Int32) : xset (mp σ m v) (m+5) (zmi 60 f) = mp σ m (v.1, v.2.1, v.2.2.1, v.2.2.2.1, v.2.2.2.2.1, f, v.2.2.2.2.2.2) := by
  unfold xset mp xup
  refine Prod.ext ?_ rfl
  funext q
  by_cases h : q = m+5
  · subst h; simp
  · simp [h]
theorem mp_set6 (f : Nat → Int32) : xset (mp σ m v) (m+6) (zmi 36 f) = mp σ m (v.1, v.2.1, v.2.2.1, v.2.2.2.1, v.2.2.2.2.1, v.2.2.2.2.2.1, f) := by
  unfold xset mp xup
  refine Prod.ext ?_ rfl
  funext q
  by_cases h : q = m+6
  · subst h; simp
  · simp [h]
theorem z_rd {β γ : Type} {f : xS → Option β} {k : β → xM γ} {s : xS} {a : β} (h : f s = some a) : (xbd (xrd f) k).1 s = (k a).1 s := by
  refine xbd_at ?_
  unfold xrd
  simp only [h]
theorem z_wr {γ : Type} {f : xS → Option (Nat × xC)} {k : Unit → xM γ} {s : xS} {q : Nat × xC} (h : f s = some q) : (xbd (xwr f) k).1 s = (k ()).1 (xset s q.1 q.2) := by
  refine xbd_at ?_
  unfold xwr
  simp only [h]
theorem z_al {γ : Type} {f : xS → Option (Nat × xC)} {k : Nat → xM γ} {s : xS} {q : Nat × xC} (h : f s = some q) : (xbd (xal f) k).1 s = (k s.2.1).1 (xup s.1 s.2.1 q.2, s.2.1 + 1, s.2.2.1 + q.1, s.2.2.2) := by
  refine xbd_at ?_
  unfold xal
  simp only [h]
theorem m_ck {K : Unit → xM α} : (xbd (xck 3 m) K).1 (mp σ m v) = (K ()).1 (mp σ m v) := z_rd (by simp only [mp_0, zmo, if_true])
theorem z_rt {β γ : Type} {a : β} {k : β → xM γ} {s : xS} : (xbd (xrt a) k).1 s = (k a).1 s := rfl
theorem z_rt1 {β : Type} {a : β} {s : xS} : (xrt a).1 s = some (a, s) := rfl
theorem m_fld (k : Nat) : xfld (mp σ m v) 3 k m = [Value.int (v.1 0), .ref (m+1), .ref (m+2), .ref (m+3), .int (v.1 4), .ref (m+4), .int (v.1 6), .ref (m+5), .int (v.1 8), .int (v.1 9), .int (v.1 10), .ref (m+6)][k]? := by
  unfold xfld
  rw [mp_0]
  rfl
theorem m_gI0 {K : Int32 → xM α} : (xbd (xgI 3 0 m) K).1 (mp σ m v) = (K (v.1 0)).1 (mp σ m v) := z_rd (by show xvI (xfld (mp σ m v) 3 0 m) = _; rw [m_fld]; rfl)
theorem m_pt0 {x : Int32} {K : Unit → xM α} : (xbd (xpt 3 0 m (.int x)) K).1 (mp σ m v) = (K ()).1 (mp σ m (upd v.1 0 x, v.2)) := by
  refine (z_wr (q := (m, zmo m (upd v.1 0 x))) ?_).trans ?_
  · simp [mp_0, zmo, upd]
  · rw [mp_set0]
theorem m_gI4 {K : Int32 → xM α} : (xbd (xgI 3 4 m) K).1 (mp σ m v) = (K (v.1 4)).1 (mp σ m v) := z_rd (by show xvI (xfld (mp σ m v) 3 4 m) = _; rw [m_fld]; rfl)
theorem m_pt4 {x : Int32} {K : Unit → xM α} : (xbd (xpt 3 4 m (.int x)) K).1 (mp σ m v) = (K ()).1 (mp σ m (upd v.1 4 x, v.2)) := by
  refine (z_wr (q := (m, zmo m (upd v.1 4 x))) ?_).trans ?_
  · simp [mp_0, zmo, upd]
  · rw [mp_set0]
theorem m_gI6 {K : Int32 → xM α} : (xbd (xgI 3 6 m) K).1 (mp σ m v) = (K (v.1 6)).1 (mp σ m v) := z_rd (by show xvI (xfld (mp σ m v) 3 6 m) = _; rw [m_fld]; rfl)
theorem m_pt6 {x : Int32} {K : Unit → xM α} : (xbd (xpt 3 6 m (.int x)) K).1 (mp σ m v) = (K ()).1 (mp σ m (upd v.1 6 x, v.2)) := by
  refine (z_wr (q := (m, zmo m (upd v.1 6 x))) ?_).trans ?_
  · simp [mp_0, zmo, upd]
  · rw [mp_set0]
theorem m_gI8 {K : Int32 → xM α} : (xbd (xgI 3 8 m) K).1 (mp σ m v) = (K (v.1 8)).1 (mp σ m v) := z_rd (by show xvI (xfld (mp σ m v) 3 8 m) = _; rw [m_fld]; rfl)
theorem m_pt8 {x : Int32} {K : Unit → xM α} : (xbd (xpt 3 8 m (.int x)) K).1 (mp σ m v) = (K ()).1 (mp σ m (upd v.1 8 x, v.2)) := by
  refine (z_wr (q := (m, zmo m (upd v.1 8 x))) ?_).trans ?_
  · simp [mp_0, zmo, upd]
  · rw [mp_set0]
theorem m_gI9 {K : Int32 → xM α} : (xbd (xgI 3 9 m) K).1 (mp σ m v) = (K (v.1 9)).1 (mp σ m v) := z_rd (by show xvI (xfld (mp σ m v) 3 9 m) = _; rw [m_fld]; rfl)
theorem m_pt9 {x : Int32} {K : Unit → xM α} : (xbd (xpt 3 9 m (.int x)) K).1 (mp σ m v) = (K ()).1 (mp σ m (upd v.1 9 x, v.2)) := by
  refine (z_wr (q := (m, zmo m (upd v.1 9 x))) ?_).trans ?_
  · simp [mp_0, zmo, upd]
  · rw [mp_set0]
theorem m_gI10 {K : Int32 → xM α} : (xbd (xgI 3 10 m) K).1 (mp σ m v) = (K (v.1 10)).1 (mp σ m v) := z_rd (by show xvI (xfld (mp σ m v) 3 10 m) = _; rw [m_fld]; rfl)
theorem m_pt10 {x : Int32} {K : Unit → xM α} : (xbd (xpt 3 10 m (.int x)) K).1 (mp σ m v) = (K ()).1 (mp σ m (upd v.1 10 x, v.2)) := by
  refine (z_wr (q := (m, zmo m (upd v.1 10 x))) ?_).trans ?_
  · simp [mp_0, zmo, upd]
  · rw [mp_set0]
theorem m_gN1 {K : Nat → xM α} : (xbd (xgN 3 1 m) K).1 (mp σ m v) = (K (m+1)).1 (mp σ m v) := z_rd (by show xvN (xfld (mp σ m v) 3 1 m) = _; rw [m_fld]; rfl)
theorem m_gN2 {K : Nat → xM α} : (xbd (xgN 3 2 m) K).1 (mp σ m v) = (K (m+2)).1 (mp σ m v) := z_rd (by show xvN (xfld (mp σ m v) 3 2 m) = _; rw [m_fld]; rfl)
theorem m_gN3 {K : Nat → xM α} : (xbd (xgN 3 3 m) K).1 (mp σ m v) = (K (m+3)).1 (mp σ m v) := z_rd (by show xvN (xfld (mp σ m v) 3 3 m) = _; rw [m_fld]; rfl)
theorem m_gN5 {K : Nat → xM α} : (xbd (xgN 3 5 m) K).1 (mp σ m v) = (K (m+4)).1 (mp σ m v) := z_rd (by show xvN (xfld (mp σ m v) 3 5 m) = _; rw [m_fld]; rfl)
theorem m_gN7 {K : Nat → xM α} : (xbd (xgN 3 7 m) K).1 (mp σ m v) = (K (m+5)).1 (mp σ m v) := z_rd (by show xvN (xfld (mp σ m v) 3 7 m) = _; rw [m_fld]; rfl)
theorem m_gN11 {K : Nat → xM α} : (xbd (xgN 3 11 m) K).1 (mp σ m v) = (K (m+6)).1 (mp σ m v) := z_rd (by show xvN (xfld (mp σ m v) 3 11 m) = _; rw [m_fld]; rfl)
theorem z_ok {i n : Nat} (h : i < n) (hn : n < 2 ^ 31) : xok (nI i) n = true := by
  unfold xok
  have h1 : ¬ nI i < 0 := nI_pos (by omega)
  have h2 := nI_clamp (n := i) (by omega)
  simp [h1, h2, h]
theorem m_ld1 {i : Nat} {K : Int64 → xM α} (h : i < 1411) : (xbd (xldL 1 (m+1) (nI i)) K).1 (mp σ m v) = (K (v.2.1 i)).1 (mp σ m v) := by
  refine z_rd ?_
  unfold xarr
  rw [mp_1]
  simp only [zml, if_true, z_ok h (by decide), nI_clamp (n := i) (by omega)]
theorem m_st1 {i : Nat} {x : Int64} {K : Unit → xM α} (h : i < 1411) : (xbd (xstL (m+1) (nI i) x) K).1 (mp σ m v) = (K ()).1 (mp σ m (v.1, vp_updL v.2.1 i x, v.2.2)) := by
  refine (z_wr (q := (m+1, zml 1411 (vp_updL v.2.1 i x))) ?_).trans ?_
  · unfold xarr
    rw [mp_1]
    simp only [zml, if_true, z_ok h (by decide), nI_clamp (n := i) (by omega)]
  · rw [mp_set1]
theorem m_ld2 {i : Nat} {K : Int64 → xM α} (h : i < 1411) : (xbd (xldL 1 (m+2) (nI i)) K).1 (mp σ m v) = (K (v.2.2.1 i)).1 (mp σ m v) := by
  refine z_rd ?_
  unfold xarr
  rw [mp_2]
  simp only [zml, if_true, z_ok h (by decide), nI_clamp (n := i) (by omega)]
theorem m_st2 {i : Nat} {x : Int64} {K : Unit → xM α} (h : i < 1411) : (xbd (xstL (m+2) (nI i) x) K).1 (mp σ m v) = (K ()).1 (mp σ m (v.1, v.2.1, vp_updL v.2.2.1 i x, v.2.2.2)) := by
  refine (z_wr (q := (m+2, zml 1411 (vp_updL v.2.2.1 i x))) ?_).trans ?_
  · unfold xarr
    rw [mp_2]
    simp only [zml, if_true, z_ok h (by decide), nI_clamp (n := i) (by omega)]
  · rw [mp_set2]
theorem m_ld3 {i : Nat} {K : Int64 → xM α} (h : i < 1411) : (xbd (xldL 1 (m+3) (nI i)) K).1 (mp σ m v) = (K (v.2.2.2.1 i)).1 (mp σ m v) := by
  refine z_rd ?_
  unfold xarr
  rw [mp_3]
  simp only [zml, if_true, z_ok h (by decide), nI_clamp (n := i) (by omega)]
theorem m_st3 {i : Nat} {x : Int64} {K : Unit → xM α} (h : i < 1411) : (xbd (xstL (m+3) (nI i) x) K).1 (mp σ m v) = (K ()).1 (mp σ m (v.1, v.2.1, v.2.2.1, vp_updL v.2.2.2.1 i x, v.2.2.2.2)) := by
  refine (z_wr (q := (m+3, zml 1411 (vp_updL v.2.2.2.1 i x))) ?_).trans ?_
  · unfold xarr
    rw [mp_3]
    simp only [zml, if_true, z_ok h (by decide), nI_clamp (n := i) (by omega)]
  · rw [mp_set3]
theorem m_ld4 {i : Nat} {K : Int64 → xM α} (h : i < 5644) : (xbd (xldL 1 (m+4) (nI i)) K).1 (mp σ m v) = (K (v.2.2.2.2.1 i)).1 (mp σ m v) := by
  refine z_rd ?_
  unfold xarr
  rw [mp_4]
  simp only [zml, if_true, z_ok h (by decide), nI_clamp (n := i) (by omega)]
theorem m_st4 {i : Nat} {x : Int64} {K : Unit → xM α} (h : i < 5644) : (xbd (xstL (m+4) (nI i) x) K).1 (mp σ m v) = (K ()).1 (mp σ m (v.1, v.2.1, v.2.2.1, v.2.2.2.1, vp_updL v.2.2.2.2.1 i x, v.2.2.2.2.2)) := by
  refine (z_wr (q := (m+4, zml 5644 (vp_updL v.2.2.2.2.1 i x))) ?_).trans ?_
  · unfold xarr
    rw [mp_4]
    simp only [zml, if_true, z_ok h (by decide), nI_clamp (n := i) (by omega)]
  · rw [mp_set4]
theorem m_ld5 {i : Nat} {K : Int32 → xM α} (h : i < 60) : (xbd (xldI 0 (m+5) (nI i)) K).1 (mp σ m v) = (K (v.2.2.2.2.2.1 i)).1 (mp σ m v) := by
  refine z_rd ?_
  unfold xarr
  rw [mp_5]
  simp only [zmi, if_true, z_ok h (by decide), nI_clamp (n := i) (by omega)]
theorem m_st5 {i : Nat} {x : Int32} {K : Unit → xM α} (h : i < 60) : (xbd (xstI (m+5) (nI i) x) K).1 (mp σ m v) = (K ()).1 (mp σ m (v.1, v.2.1, v.2.2.1, v.2.2.2.1, v.2.2.2.2.1, upd v.2.2.2.2.2.1 i x, v.2.2.2.2.2.2)) := by
  refine (z_wr (q := (m+5, zmi 60 (upd v.2.2.2.2.2.1 i x))) ?_).trans ?_
  · unfold xarr
    rw [mp_5]
    simp only [zmi, if_true, z_ok h (by decide), nI_clamp (n := i) (by omega)]
  · rw [mp_set5]
theorem m_ld6 {i : Nat} {K : Int32 → xM α} (h : i < 36) : (xbd (xldI 0 (m+6) (nI i)) K).1 (mp σ m v) = (K (v.2.2.2.2.2.2 i)).1 (mp σ m v) := by
  refine z_rd ?_
  unfold xarr
  rw [mp_6]
  simp only [zmi, if_true, z_ok h (by decide), nI_clamp (n := i) (by omega)]
theorem m_st6 {i : Nat} {x : Int32} {K : Unit → xM α} (h : i < 36) : (xbd (xstI (m+6) (nI i) x) K).1 (mp σ m v) = (K ()).1 (mp σ m (v.1, v.2.1, v.2.2.1, v.2.2.2.1, v.2.2.2.2.1, v.2.2.2.2.2.1, upd v.2.2.2.2.2.2 i x)) := by
  refine (z_wr (q := (m+6, zmi 36 (upd v.2.2.2.2.2.2 i x))) ?_).trans ?_
  · unfold xarr
    rw [mp_6]
    simp only [zmi, if_true, z_ok h (by decide), nI_clamp (n := i) (by omega)]
  · rw [mp_set6]
theorem zi_0 : (0 : Int32) = nI 0 := by decide +kernel
theorem zi_1 : (1 : Int32) = nI 1 := by decide +kernel
theorem zi_2 : (2 : Int32) = nI 2 := by decide +kernel
theorem zi_3 : (3 : Int32) = nI 3 := by decide +kernel
theorem zi_4 : (4 : Int32) = nI 4 := by decide +kernel
theorem zi_5 : (5 : Int32) = nI 5 := by decide +kernel
theorem zi_6 : (6 : Int32) = nI 6 := by decide +kernel
theorem zi_7 : (7 : Int32) = nI 7 := by decide +kernel
theorem zi_8 : (8 : Int32) = nI 8 := by decide +kernel
theorem zi_9 : (9 : Int32) = nI 9 := by decide +kernel
theorem zi_10 : (10 : Int32) = nI 10 := by decide +kernel
theorem zi_11 : (11 : Int32) = nI 11 := by decide +kernel
theorem zi_12 : (12 : Int32) = nI 12 := by decide +kernel
theorem zi_13 : (13 : Int32) = nI 13 := by decide +kernel
theorem zi_14 : (14 : Int32) = nI 14 := by decide +kernel
theorem zi_15 : (15 : Int32) = nI 15 := by decide +kernel
theorem zi_16 : (16 : Int32) = nI 16 := by decide +kernel
theorem zi_17 : (17 : Int32) = nI 17 := by decide +kernel
theorem zi_29 : (29 : Int32) = nI 29 := by decide +kernel
theorem zi_30 : (30 : Int32) = nI 30 := by decide +kernel
theorem zi_39 : (39 : Int32) = nI 39 := by decide +kernel
theorem zi_48 : (48 : Int32) = nI 48 := by decide +kernel
theorem zi_51 : (51 : Int32) = nI 51 := by decide +kernel
theorem zi_57 : (57 : Int32) = nI 57 := by decide +kernel
theorem zi_58 : (58 : Int32) = nI 58 := by decide +kernel
theorem zi_60 : (60 : Int32) = nI 60 := by decide +kernel
theorem zi_63 : (63 : Int32) = nI 63 := by decide +kernel
theorem zi_64 : (64 : Int32) = nI 64 := by decide +kernel
theorem zi_90 : (90 : Int32) = nI 90 := by decide +kernel
theorem zi_99 : (99 : Int32) = nI 99 := by decide +kernel
theorem zi_100 : (100 : Int32) = nI 100 := by decide +kernel
theorem zi_675 : (675 : Int32) = nI 675 := by decide +kernel
theorem zi_999 : (999 : Int32) = nI 999 := by decide +kernel
theorem zi_1371 : (1371 : Int32) = nI 1371 := by decide +kernel
theorem zi_1372 : (1372 : Int32) = nI 1372 := by decide +kernel
theorem zi_1373 : (1373 : Int32) = nI 1373 := by decide +kernel
theorem zi_1374 : (1374 : Int32) = nI 1374 := by decide +kernel
theorem zi_1411 : (1411 : Int32) = nI 1411 := by decide +kernel
theorem zi_4233 : (4233 : Int32) = nI 4233 := by decide +kernel
theorem zi_5644 : (5644 : Int32) = nI 5644 := by decide +kernel
theorem zi_9999 : (9999 : Int32) = nI 9999 := by decide +kernel
end ZM
