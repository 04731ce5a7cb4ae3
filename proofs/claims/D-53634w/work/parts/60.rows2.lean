/-! rows: made cells, arrays, casts -/
set_option maxRecDepth 100000
section XR2
variable {E : xE} {p : Program} {l : Launch} {e : Env} {R : Room} {s : State} {m : MethodId} {args : Array Value} {below : List Frame} {meth : Method} {c : Code} {H : Heap} {locs : List Loc} {cells slots : Nat} {Q : State → Prop}
variable {cc : ByteArray} {pc nL fr lc : Nat} {ls : Array Slot} {rest : List Value} {own nm : String} {ret : Option FieldType} {σ0 σ σ9 : xS} {α β : Type} {r : α}
/-- the picture after a cell is made -/
theorem xI_made {d : xC} {N : Nat} {H1 : Heap} (hX : xX E R p m c cc nL s args own nm meth ret fr lc σ0 σ9) (hI : xI E σ0 σ s H locs cells slots) (hd : ∀ w, d = .inr w → w.1 < 7) (he : va_at E.1 xcl (H.size, xcv E d) H1) (z : H1.size = H.size + 1) (oq : ∀ q : Nat, q < H.size → H1[q]? = H[q]?) : xI E σ0 (xup σ.1 σ.2.1 d, σ.2.1 + 1, σ.2.2.1 + N, σ.2.2.2) s H1 locs (cells + 1) (slots + N) := by
  obtain ⟨-, -, -, -, hs0, hb0, -⟩ := hX
  obtain ⟨⟨hz, hR⟩, hS, h1, h2, h3, h4, h5⟩ := hI
  refine ⟨⟨by rw [z, hz], fun q d' hq => ?_⟩, ⟨by rw [z]; exact Nat.le_succ_of_le hS.1, fun q g1 g2 => (oq q (Nat.lt_of_lt_of_le g1 hS.1)).trans (hS.2.1 q g1 g2), hS.2.2⟩, ?_, ?_, ?_, ?_, h5⟩
  · by_cases hqa : q = σ.2.1
    · subst hqa
      simp [xup] at hq
      subst hq
      rw [← hz]
      exact Or.inr ⟨he, Nat.le_trans hb0 (by rw [hz]; exact h3), hd⟩
    · simp [xup, hqa] at hq
      rcases hR q d' hq with h | ⟨h6, h7, h8⟩
      · exact Or.inl h
      · exact Or.inr ⟨h6.kept (oq q h6.lt), h7, h8⟩
  · show _ = σ.2.1 + 1 - σ0.2.1
    omega
  · show _ = σ.2.2.1 + N - σ0.2.2.1
    omega
  · show _ ≤ σ.2.1 + 1
    omega
  · show _ ≤ σ.2.2.1 + N
    omega
theorem xroom {N : Nat} {σ1 : xS} (hX : xX E R p m c cc nL s args own nm meth ret fr lc σ0 σ9) (hI : xI E σ0 σ s H locs cells slots) (h1 : σ.2.1 + 1 ≤ σ9.2.1) (h2 : σ.2.2.1 + N ≤ σ9.2.2.1) : cells + 1 ≤ R.cells ∧ slots + N ≤ R.slots := by
  obtain ⟨-, -, -, ⟨e1, e2, -⟩, -⟩ := hX
  obtain ⟨-, -, e3, e4, h3, h4, -⟩ := hI
  rw [e3, e4]
  omega
theorem xr_nw {idx ci : Nat} {fs : List Value} {kont : Nat → xM α} (h : (xbd (xnw ci fs) kont).1 σ = some (r, σ9)) (hX : xX E R p m c cc nL s args own nm meth ret fr lc σ0 σ9) (hI : xI E σ0 σ s H locs cells slots) (hl : xLn own idx ci fs) (hdg : decode cc pc = .ok (.new idx, 3))
    (kk : ∀ (q : Nat) (H1 : Heap) (σ1 : xS) (cells1 slots1 : Nat), (kont q).1 σ1 = some (r, σ9) → xI E σ0 σ1 s H1 locs cells1 slots1 → W p l e R s m args below meth c H1 locs cells1 slots1 Q (F0 m (pc + 3) ls (.ref q :: rest))) : W p l e R s m args below meth c H locs cells slots Q (F0 m pc ls rest) := by
  have hX0 := hX
  obtain ⟨⟨hx, hb, hml, hown, hts⟩, ⟨hK, hN⟩, -⟩ := hX
  obtain ⟨q, h1, h2⟩ := xal_bd h
  cases h1
  obtain ⟨C, T, N, tyf, ⟨hc, hin, hty, hnm⟩, hcl, hinst, hini, hlen, hdef⟩ := hl
  have hmono := (kont σ.2.1).2 _ _ _ h2
  have hKn := hK.1 ci _ hc
  obtain ⟨g1, g2⟩ := xroom (N := fs.length) (σ1 := σ) hX0 hI hmono.1 hmono.2.1
  have hz : H.size = σ.2.1 := hI.1.1
  rw [hlen] at g2
  refine W.newcK hx hb hown (hts _ hcl) (hts _ hinst) (hts _ hini) rfl hdg g1 g2 hKn.2.1 rfl fun H1 kC hkC e1 z1 o1 => ?_
  have hI1 := xI_made (d := .inl (ci, fs)) (N := fs.length) hX0 hI (fun w hw => by cases hw) ⟨_, hc, (u_born tyf hts hin hKn hkC e1 hty).to hdef⟩ z1 o1
  rw [hlen] at hI1
  have h3 := kk σ.2.1 H1 _ _ _ (by rw [hlen] at h2; exact h2) hI1
  rw [← hz] at h3
  exact h3
theorem xna_spec {t : Nat} {z : xK0} {n : Int32} {kont : Nat → xM α} (h : (xbd (xna t z n) kont).1 σ = some (r, σ9)) : ¬ n < 0 ∧ n.toNatClampNeg ≤ 65536 ∧ (kont σ.2.1).1 (xup σ.1 σ.2.1 (.inr (t, n.toNatClampNeg, z)), σ.2.1 + 1, σ.2.2.1 + n.toNatClampNeg, σ.2.2.2) = some (r, σ9) := by
  obtain ⟨q, h1, h2⟩ := xal_bd h
  by_cases hc : ¬ n < 0 ∧ n.toNatClampNeg ≤ 65536
  · rw [if_pos hc] at h1
    cases h1
    exact ⟨hc.1, hc.2, h2⟩
  · rw [if_neg hc] at h1
    cases h1
theorem xr_na {t : Nat} {z : xK0} {n : Int32} {atype : ArrayType} {kont : Nat → xM α} (h : (xbd (xna t z n) kont).1 σ = some (r, σ9)) (hX : xX E R p m c cc nL s args own nm meth ret fr lc σ0 σ9) (hI : xI E σ0 σ s H locs cells slots) (harr : Cond.arrayClass (newarray.typeOf atype) ∈ lw_all) (ht : t < 3) (hty : newarray.typeOf atype = xty t) (hz0 : ∀ (cA : ClassId) (N : Nat), vp_cell cA (N, z) = arrV cA N (fun _ => defaultValue (xty t))) (hb8 : componentBytes (xty t) ≤ 8) (hdg : decode cc pc = .ok (.newarray atype, 2))
    (kk : ∀ (q : Nat) (H1 : Heap) (σ1 : xS) (cells1 slots1 : Nat), (kont q).1 σ1 = some (r, σ9) → xI E σ0 σ1 s H1 locs cells1 slots1 → W p l e R s m args below meth c H1 locs cells1 slots1 Q (F0 m (pc + 2) ls (.ref q :: rest))) : W p l e R s m args below meth c H locs cells slots Q (F0 m pc ls (.int n :: rest)) := by
  have hX0 := hX
  obtain ⟨⟨hx, hb, hml, hown, hts⟩, ⟨hK, hN⟩, -⟩ := hX
  obtain ⟨hn, hN, h2⟩ := xna_spec h
  have hmono := (kont σ.2.1).2 _ _ _ h2
  obtain ⟨g1, g2⟩ := xroom (N := n.toNatClampNeg) (σ1 := σ) hX0 hI hmono.1 hmono.2.1
  have hz : H.size = σ.2.1 := hI.1.1
  refine va_newaK hx hb (hts _ harr) rfl hdg rfl hn rfl (by rw [hty]; exact Nat.le_trans (Nat.mul_le_mul hN hb8) (Nat.le_of_ble_eq_true rfl)) g1 g2 rfl fun H1 cA e1 z1 o1 hAr hNm => ?_
  have hdA : cA = E.2.1 t := by
    have h4 := (hK.2 t _ (xtys_at E (by omega))).2
    rw [hty] at hNm
    rcases (by omega : t = 0 ∨ t = 1 ∨ t = 2) with rfl | rfl | rfl
    · exact Option.some.inj (hNm.symm.trans h4)
    · exact Option.some.inj (hNm.symm.trans h4)
    · exact Option.some.inj (hNm.symm.trans h4)
  have he : va_at E.1 xcl (H.size, xcv E (.inr (t, n.toNatClampNeg, z))) H1 := by
    show H1[H.size]? = some (vp_cell (E.2.1 t) (n.toNatClampNeg, z))
    rw [hz0, ← hdA, ← hty]
    exact e1
  have hI1 := xI_made (d := .inr (t, n.toNatClampNeg, z)) (N := n.toNatClampNeg) hX0 hI (fun w hw => by cases hw; exact Nat.lt_of_lt_of_le ht (by decide)) he z1 o1
  have h3 := kk σ.2.1 H1 _ _ _ h2 hI1
  rw [← hz] at h3
  exact h3
theorem xr_nq {t idx : Nat} {n : Int32} {kont : Nat → xM α} (h : (xbd (xna t xzR n) kont).1 σ = some (r, σ9)) (hX : xX E R p m c cc nL s args own nm meth ret fr lc σ0 σ9) (hI : xI E σ0 σ s H locs cells slots) (hcl : Cond.classLink own idx (xtyn t) ∈ lw_all) (ht : t = 3 ∨ t = 4 ∨ t = 5 ∨ t = 6) (hdg : decode cc pc = .ok (.anewarray idx, 3))
    (kk : ∀ (q : Nat) (H1 : Heap) (σ1 : xS) (cells1 slots1 : Nat), (kont q).1 σ1 = some (r, σ9) → xI E σ0 σ1 s H1 locs cells1 slots1 → W p l e R s m args below meth c H1 locs cells1 slots1 Q (F0 m (pc + 3) ls (.ref q :: rest))) : W p l e R s m args below meth c H locs cells slots Q (F0 m pc ls (.int n :: rest)) := by
  have hX0 := hX
  obtain ⟨⟨hx, hb, hml, hown, hts⟩, ⟨hK, hN⟩, -⟩ := hX
  obtain ⟨hn, hNN, h2⟩ := xna_spec h
  have hmono := (kont σ.2.1).2 _ _ _ h2
  obtain ⟨g1, g2⟩ := xroom (N := n.toNatClampNeg) (σ1 := σ) hX0 hI hmono.1 hmono.2.1
  have hz : H.size = σ.2.1 := hI.1.1
  obtain ⟨a1, a2, a3, a4⟩ := hN.2.2.1
  have hover : va_AO (xtyn t) s := by rcases ht with rfl | rfl | rfl | rfl <;> assumption
  refine W.anew hx hb hown (hts _ hcl) (va_AO.use hover) rfl hdg rfl hn (Nat.le_trans (Nat.mul_le_mul_right 4 hNN) (Nat.le_of_ble_eq_true rfl)) g1 g2 fun cA kA comp f1 f2 f3 f4 => ?_
  generalize hH1 : H.push ({ cls := cA, slots := Array.replicate n.toNatClampNeg .null, vm := .none } : Cell) = H1
  have z1 : H1.size = H.size + 1 := by rw [← hH1, Array.size_push]
  have e1 : H1[H.size]? = some (arrV cA n.toNatClampNeg (fun _ => .null)) := by rw [← hH1, Array.getElem?_push_size, ← arrV_new]
  have o1 : ∀ q : Nat, q < H.size → H1[q]? = H[q]? := fun q hq => by rw [← hH1, Array.getElem?_push, if_neg (Nat.ne_of_lt hq)]
  have hdA : cA = E.2.1 t := by
    rcases ht with rfl | rfl | rfl | rfl
    · exact Option.some.inj (f1.symm.trans (va_nmO (hK.2 3 _ (xtys_at E (by decide))).2 rfl))
    · exact Option.some.inj (f1.symm.trans (va_nmO (hK.2 4 _ (xtys_at E (by decide))).2 rfl))
    · exact Option.some.inj (f1.symm.trans (va_nmO (hK.2 5 _ (xtys_at E (by decide))).2 rfl))
    · exact Option.some.inj (f1.symm.trans (va_nmO (hK.2 6 _ (xtys_at E (by decide))).2 rfl))
  have he : va_at E.1 xcl (H.size, xcv E (.inr (t, n.toNatClampNeg, xzR))) H1 := by
    show H1[H.size]? = some (vp_cell (E.2.1 t) (n.toNatClampNeg, xzR))
    rw [vp_cell_q, ← hdA]
    exact e1
  have hI1 := xI_made (d := .inr (t, n.toNatClampNeg, xzR)) (N := n.toNatClampNeg) hX0 hI (fun w hw => by cases hw; show t < 7; omega) he z1 o1
  have h3 := kk σ.2.1 H1 _ _ _ h2 hI1
  rw [← hz] at h3
  exact h3
theorem xarrOf {t : Nat} (hX : xX E R p m c cc nL s args own nm meth ret fr lc σ0 σ9) (ht : t < 7) : ArrOfT s (E.2.1 t) (xty t) := (hX.2.1.1.2 t _ (xtys_at E ht)).1
theorem xr_ldI {a : Nat} {i : Int32} {kont : Int32 → xM α} (h : (xbd (xldI 0 a i) kont).1 σ = some (r, σ9)) (hX : xX E R p m c cc nL s args own nm meth ret fr lc σ0 σ9) (hI : xI E σ0 σ s H locs cells slots) (hdg : decode cc pc = .ok (.iaload, 1))
    (kk : ∀ v : Int32, (kont v).1 σ = some (r, σ9) → W p l e R s m args below meth c H locs cells slots Q (F0 m (pc + 1) ls (.int v :: rest))) : W p l e R s m args below meth c H locs cells slots Q (F0 m pc ls (.int i :: .ref a :: rest)) := by
  obtain ⟨v, h1, h2⟩ := xrd_bd h
  cases h3 : xarr σ 0 a with
  | none => rw [h3] at h1; cases h1
  | some w =>
    obtain ⟨n, f⟩ := w
    rw [h3] at h1
    rcases f with f | f | f | f | f <;> try (cases h1; done)
    by_cases hok : xok i n = true
    · simp [hok] at h1
      subst h1
      have hin := xok_in.mp hok
      have hlt : i.toNatClampNeg < n := Nat.not_le.mp fun q => hin (Or.inr q)
      exact W.iald (v := .int (f i.toNatClampNeg)) hX.1.1 hX.1.2.1 (xat_arr hI (by decide) h3).1 (xarrOf hX (t := 0) (by decide) n (fun j => .int (f j))) (fun q => by cases q) (by show ¬ (i < 0 ∨ (arrV _ _ _).slots.size ≤ _); rw [arrV_size]; exact hin) (by show (arrV _ _ _).slots[_]? = _; rw [arrV_read _ _ hlt]) rfl rfl hdg (kk _ h2)
    · simp [hok] at h1
theorem xr_ldB {a : Nat} {i : Int32} {kont : Int32 → xM α} (h : (xbd (xldI 2 a i) kont).1 σ = some (r, σ9)) (hX : xX E R p m c cc nL s args own nm meth ret fr lc σ0 σ9) (hI : xI E σ0 σ s H locs cells slots) (hdg : decode cc pc = .ok (.baload, 1))
    (kk : ∀ v : Int32, (kont v).1 σ = some (r, σ9) → W p l e R s m args below meth c H locs cells slots Q (F0 m (pc + 1) ls (.int v :: rest))) : W p l e R s m args below meth c H locs cells slots Q (F0 m pc ls (.int i :: .ref a :: rest)) := by
  obtain ⟨v, h1, h2⟩ := xrd_bd h
  cases h3 : xarr σ 2 a with
  | none => rw [h3] at h1; cases h1
  | some w =>
    obtain ⟨n, f⟩ := w
    rw [h3] at h1
    rcases f with f | f | f | f | f <;> try (cases h1; done)
    by_cases hok : xok i n = true
    · simp [hok] at h1
      subst h1
      have hin := xok_in.mp hok
      have hlt : i.toNatClampNeg < n := Nat.not_le.mp fun q => hin (Or.inr q)
      exact W.bald (v := .int (f i.toNatClampNeg)) hX.1.1 hX.1.2.1 (xat_arr hI (by decide) h3).1 (xarrOf hX (t := 2) (by decide) n (fun j => .int (f j))) (fun q => by cases q) (by show ¬ (i < 0 ∨ (arrV _ _ _).slots.size ≤ _); rw [arrV_size]; exact hin) (by show (arrV _ _ _).slots[_]? = _; rw [arrV_read _ _ hlt]) rfl rfl hdg (kk _ h2)
    · simp [hok] at h1
theorem xr_ldL {a : Nat} {i : Int32} {kont : Int64 → xM α} (h : (xbd (xldL 1 a i) kont).1 σ = some (r, σ9)) (hX : xX E R p m c cc nL s args own nm meth ret fr lc σ0 σ9) (hI : xI E σ0 σ s H locs cells slots) (hdg : decode cc pc = .ok (.laload, 1))
    (kk : ∀ v : Int64, (kont v).1 σ = some (r, σ9) → W p l e R s m args below meth c H locs cells slots Q (F0 m (pc + 1) ls (.long v :: rest))) : W p l e R s m args below meth c H locs cells slots Q (F0 m pc ls (.int i :: .ref a :: rest)) := by
  obtain ⟨v, h1, h2⟩ := xrd_bd h
  cases h3 : xarr σ 1 a with
  | none => rw [h3] at h1; cases h1
  | some w =>
    obtain ⟨n, f⟩ := w
    rw [h3] at h1
    rcases f with f | f | f | f | f <;> try (cases h1; done)
    by_cases hok : xok i n = true
    · simp [hok] at h1
      subst h1
      have hin := xok_in.mp hok
      have hlt : i.toNatClampNeg < n := Nat.not_le.mp fun q => hin (Or.inr q)
      exact W.lald (v := .long (f i.toNatClampNeg)) hX.1.1 hX.1.2.1 (xat_arr hI (by decide) h3).1 (xarrOf hX (t := 1) (by decide) n (fun j => .long (f j))) (fun q => by cases q) (by show ¬ (i < 0 ∨ (arrV _ _ _).slots.size ≤ _); rw [arrV_size]; exact hin) (by show (arrV _ _ _).slots[_]? = _; rw [arrV_read _ _ hlt]) rfl rfl hdg (kk _ h2)
    · simp [hok] at h1
theorem xtyR {t : Nat} (ht : t = 3 ∨ t = 4 ∨ t = 5 ∨ t = 6) : xty t = .object (xtyn t) ∧ t < 7 := by rcases ht with rfl | rfl | rfl | rfl <;> exact ⟨rfl, by decide⟩
theorem xr_ldq {t a n : Nat} {f : Nat → Option Nat} {i : Int32} (hX : xX E R p m c cc nL s args own nm meth ret fr lc σ0 σ9) (hI : xI E σ0 σ s H locs cells slots) (ht : t = 3 ∨ t = 4 ∨ t = 5 ∨ t = 6) (h3 : xarr σ t a = some (n, .inr (.inr (.inr (.inr f))))) (hok : xok i n = true) (hdg : decode cc pc = .ok (.aaload, 1))
    (kk : W p l e R s m args below meth c H locs cells slots Q (F0 m (pc + 1) ls (va_rf (f i.toNatClampNeg) :: rest))) : W p l e R s m args below meth c H locs cells slots Q (F0 m pc ls (.int i :: .ref a :: rest)) := by
  obtain ⟨e1, e2⟩ := xtyR ht
  have hin := xok_in.mp hok
  have hlt : i.toNatClampNeg < n := Nat.not_le.mp fun q => hin (Or.inr q)
  exact W.aald (v := va_rf (f i.toNatClampNeg)) (ty := xty t) hX.1.1 hX.1.2.1 (xat_arr hI e2 h3).1 (xarrOf hX (t := t) e2 n (fun j => va_rf (f j))) (by rw [e1]; rfl) (fun q => by cases q) (by show ¬ (i < 0 ∨ (arrV _ _ _).slots.size ≤ _); rw [arrV_size]; exact hin) (by show (arrV _ _ _).slots[_]? = _; rw [arrV_read _ _ hlt]) rfl rfl hdg kk
theorem xr_ldN {t a : Nat} {i : Int32} {kont : Nat → xM α} (h : (xbd (xldN t a i) kont).1 σ = some (r, σ9)) (hX : xX E R p m c cc nL s args own nm meth ret fr lc σ0 σ9) (hI : xI E σ0 σ s H locs cells slots) (ht : t = 3 ∨ t = 4 ∨ t = 5 ∨ t = 6) (hdg : decode cc pc = .ok (.aaload, 1))
    (kk : ∀ v : Nat, (kont v).1 σ = some (r, σ9) → W p l e R s m args below meth c H locs cells slots Q (F0 m (pc + 1) ls (.ref v :: rest))) : W p l e R s m args below meth c H locs cells slots Q (F0 m pc ls (.int i :: .ref a :: rest)) := by
  obtain ⟨v, h1, h2⟩ := xrd_bd h
  cases h3 : xarr σ t a with
  | none => rw [h3] at h1; cases h1
  | some w =>
    obtain ⟨n, f⟩ := w
    rw [h3] at h1
    rcases f with f | f | f | f | f <;> try (cases h1; done)
    by_cases hok : xok i n = true
    · simp [hok] at h1
      have h4 := kk _ h2
      refine xr_ldq hX hI ht h3 hok hdg ?_
      rw [h1]
      exact h4
    · simp [hok] at h1
theorem xr_ldQ {t a : Nat} {i : Int32} {kont : Option Nat → xM α} (h : (xbd (xldQ t a i) kont).1 σ = some (r, σ9)) (hX : xX E R p m c cc nL s args own nm meth ret fr lc σ0 σ9) (hI : xI E σ0 σ s H locs cells slots) (ht : t = 3 ∨ t = 4 ∨ t = 5 ∨ t = 6) (hdg : decode cc pc = .ok (.aaload, 1))
    (kn : (kont none).1 σ = some (r, σ9) → W p l e R s m args below meth c H locs cells slots Q (F0 m (pc + 1) ls (.null :: rest)))
    (kk : ∀ v : Nat, (kont (some v)).1 σ = some (r, σ9) → W p l e R s m args below meth c H locs cells slots Q (F0 m (pc + 1) ls (.ref v :: rest))) : W p l e R s m args below meth c H locs cells slots Q (F0 m pc ls (.int i :: .ref a :: rest)) := by
  obtain ⟨v, h1, h2⟩ := xrd_bd h
  cases h3 : xarr σ t a with
  | none => rw [h3] at h1; cases h1
  | some w =>
    obtain ⟨n, f⟩ := w
    rw [h3] at h1
    rcases f with f | f | f | f | f <;> try (cases h1; done)
    by_cases hok : xok i n = true
    · simp [hok] at h1
      refine xr_ldq hX hI ht h3 hok hdg ?_
      rw [h1]
      cases v with
      | none => exact kn h2
      | some y => exact kk _ h2
    · simp [hok] at h1
theorem xr_ln {a : Nat} {kont : Int32 → xM α} (h : (xbd (xln a) kont).1 σ = some (r, σ9)) (hX : xX E R p m c cc nL s args own nm meth ret fr lc σ0 σ9) (hI : xI E σ0 σ s H locs cells slots) (hdg : decode cc pc = .ok (.arraylength, 1))
    (kk : ∀ v : Int32, (kont v).1 σ = some (r, σ9) → W p l e R s m args below meth c H locs cells slots Q (F0 m (pc + 1) ls (.int v :: rest))) : W p l e R s m args below meth c H locs cells slots Q (F0 m pc ls (.ref a :: rest)) := by
  obtain ⟨v, h1, h2⟩ := xrd_bd h
  cases h3 : σ.1 a with
  | none => rw [h3] at h1; cases h1
  | some w =>
    rw [h3] at h1
    rcases w with o | ⟨t, n, f⟩
    · cases h1
    · cases h1
      rcases hI.1.2 a _ h3 with ⟨h4, h5⟩ | ⟨h4, h5, h6⟩
      · cases h4
        have hZ := hX.2.2.1.1
        have e0 : a = σ0.2.2.2 := h5.trans hI.2.2.2.2.2.2
        subst e0
        exact va_tlen hX.1.1 hX.1.2.1 hZ.2.1 hI.2.1 rfl hdg (kk _ h2)
      · have ht := h6 _ rfl
        have hcell : H[a]? = some (vp_cell (E.2.1 t) (n, f)) := h4
        have hof : ∃ z, vp_cell (E.2.1 t) (n, f) = arrV (E.2.1 t) n z := by
          rcases f with f | f | f | f | f
          · exact ⟨_, vp_cell_i _ _ _⟩
          · exact ⟨_, vp_cell_l _ _ _⟩
          · exact ⟨_, vp_cell_f _ _ _⟩
          · exact ⟨_, vp_cell_d _ _ _⟩
          · exact ⟨_, vp_cell_q _ _ _⟩
        obtain ⟨z, hz⟩ := hof
        rw [hz] at hcell
        exact W.alen (n := Int32.ofNat n) hX.1.1 hX.1.2.1 hcell (xarrOf hX (t := t) ht n z) (by rw [arrV_size]) rfl rfl hdg (kk _ h2)
theorem xr_stI {a : Nat} {i v : Int32} {kont : Unit → xM α} (h : (xbd (xstI a i v) kont).1 σ = some (r, σ9)) (hX : xX E R p m c cc nL s args own nm meth ret fr lc σ0 σ9) (hI : xI E σ0 σ s H locs cells slots) (hdg : decode cc pc = .ok (.iastore, 1))
    (kk : ∀ (H1 : Heap) (locs1 : List Loc) (σ1 : xS), (kont ()).1 σ1 = some (r, σ9) → xI E σ0 σ1 s H1 locs1 cells slots → W p l e R s m args below meth c H1 locs1 cells slots Q (F0 m (pc + 1) ls rest)) : W p l e R s m args below meth c H locs cells slots Q (F0 m pc ls (.int v :: .int i :: .ref a :: rest)) := by
  obtain ⟨q, h1, h2⟩ := xwr_bd h
  cases h3 : xarr σ 0 a with
  | none => rw [h3] at h1; cases h1
  | some w =>
    obtain ⟨n, f⟩ := w
    rw [h3] at h1
    rcases f with f | f | f | f | f <;> try (cases h1; done)
    by_cases hok : xok i n = true
    · simp [hok] at h1
      subst h1
      have hin := xok_in.mp hok
      obtain ⟨g1, g2, g3⟩ := xat_arr hI (by decide) h3
      refine W.iast hX.1.1 hX.1.2.1 g1 (xarrOf hX (t := 0) (by decide) n (fun j => .int (f j))) (fun q => by cases q) (by show ¬ (i < 0 ∨ (arrV _ _ _).slots.size ≤ _); rw [arrV_size]; exact hin) rfl rfl hdg fun H1 e z oq => ?_
      refine kk H1 _ _ h2 (xI_store hX hI g2 (fun w hw => by cases hw; show _ < 7; exact Nat.le_of_ble_eq_true rfl) ?_ z oq)
      show H1[a]? = some (vp_cell _ _)
      rw [e]
      rw [vp_cell_i, vp_cell_i, arrV_store]
      congr 2
      funext q
      by_cases hq : q = i.toNatClampNeg
      · subst hq
        simp [updV, upd]
      · simp [updV, upd, hq]
    · simp [hok] at h1
theorem xr_stB {a : Nat} {i v : Int32} {kont : Unit → xM α} (h : (xbd (xstB a i v) kont).1 σ = some (r, σ9)) (hX : xX E R p m c cc nL s args own nm meth ret fr lc σ0 σ9) (hI : xI E σ0 σ s H locs cells slots) (hdg : decode cc pc = .ok (.bastore, 1))
    (kk : ∀ (H1 : Heap) (locs1 : List Loc) (σ1 : xS), (kont ()).1 σ1 = some (r, σ9) → xI E σ0 σ1 s H1 locs1 cells slots → W p l e R s m args below meth c H1 locs1 cells slots Q (F0 m (pc + 1) ls rest)) : W p l e R s m args below meth c H locs cells slots Q (F0 m pc ls (.int v :: .int i :: .ref a :: rest)) := by
  obtain ⟨q, h1, h2⟩ := xwr_bd h
  cases h3 : xarr σ 2 a with
  | none => rw [h3] at h1; cases h1
  | some w =>
    obtain ⟨n, f⟩ := w
    rw [h3] at h1
    rcases f with f | f | f | f | f <;> try (cases h1; done)
    by_cases hok : xok i n = true
    · simp [hok] at h1
      subst h1
      have hin := xok_in.mp hok
      obtain ⟨g1, g2, g3⟩ := xat_arr hI (by decide) h3
      refine W.bast hX.1.1 hX.1.2.1 g1 (xarrOf hX (t := 2) (by decide) n (fun j => .int (f j))) (fun q => by cases q) (by show ¬ (i < 0 ∨ (arrV _ _ _).slots.size ≤ _); rw [arrV_size]; exact hin) rfl rfl hdg fun H1 e z oq => ?_
      refine kk H1 _ _ h2 (xI_store hX hI g2 (fun w hw => by cases hw; show _ < 7; exact Nat.le_of_ble_eq_true rfl) ?_ z oq)
      show H1[a]? = some (vp_cell _ _)
      rw [e]
      rw [vp_cell_i, vp_cell_i, arrV_store]
      congr 2
      funext q
      have hnb : narrow .byte (.int v) = .int v.toInt8.toInt32 := rfl
      by_cases hq : q = i.toNatClampNeg
      · subst hq
        simp [updV, upd, hnb]
      · simp [updV, upd, hq]
    · simp [hok] at h1
theorem xr_stL {a : Nat} {i : Int32} {v : Int64} {kont : Unit → xM α} (h : (xbd (xstL a i v) kont).1 σ = some (r, σ9)) (hX : xX E R p m c cc nL s args own nm meth ret fr lc σ0 σ9) (hI : xI E σ0 σ s H locs cells slots) (hdg : decode cc pc = .ok (.lastore, 1))
    (kk : ∀ (H1 : Heap) (locs1 : List Loc) (σ1 : xS), (kont ()).1 σ1 = some (r, σ9) → xI E σ0 σ1 s H1 locs1 cells slots → W p l e R s m args below meth c H1 locs1 cells slots Q (F0 m (pc + 1) ls rest)) : W p l e R s m args below meth c H locs cells slots Q (F0 m pc ls (.long v :: .int i :: .ref a :: rest)) := by
  obtain ⟨q, h1, h2⟩ := xwr_bd h
  cases h3 : xarr σ 1 a with
  | none => rw [h3] at h1; cases h1
  | some w =>
    obtain ⟨n, f⟩ := w
    rw [h3] at h1
    rcases f with f | f | f | f | f <;> try (cases h1; done)
    by_cases hok : xok i n = true
    · simp [hok] at h1
      subst h1
      have hin := xok_in.mp hok
      obtain ⟨g1, g2, g3⟩ := xat_arr hI (by decide) h3
      refine W.last hX.1.1 hX.1.2.1 g1 (xarrOf hX (t := 1) (by decide) n (fun j => .long (f j))) (fun q => by cases q) (by show ¬ (i < 0 ∨ (arrV _ _ _).slots.size ≤ _); rw [arrV_size]; exact hin) rfl rfl hdg fun H1 e z oq => ?_
      refine kk H1 _ _ h2 (xI_store hX hI g2 (fun w hw => by cases hw; show _ < 7; exact Nat.le_of_ble_eq_true rfl) ?_ z oq)
      show H1[a]? = some (vp_cell _ _)
      rw [e]
      rw [vp_cell_l, vp_cell_l, arrV_store]
      congr 2
      funext q
      by_cases hq : q = i.toNatClampNeg
      · subst hq
        simp [updV, vp_updL]
      · simp [updV, vp_updL, hq]
    · simp [hok] at h1
theorem xobj_some {t v : Nat} (h : xobj σ t v = true) : ∃ ci vs, σ.1 v = some (.inl (ci, vs)) ∧ xcast ci t = true := by
  revert h
  unfold xobj
  cases h1 : σ.1 v with
  | none => intro h; cases h
  | some d =>
    cases d with
    | inr o => intro h; cases h
    | inl o => intro h; exact ⟨o.1, o.2, rfl, h⟩
theorem xobj_any {t v : Nat} (hX : xX E R p m c cc nL s args own nm meth ret fr lc σ0 σ9) (hI : xI E σ0 σ s H locs cells slots) (h : xobj σ t v = true) : va_Any (xtyn t) s H v := by
  obtain ⟨ci, vs, h1, h2⟩ := xobj_some h
  obtain ⟨g1, g2⟩ := xat_obj hI h1
  obtain ⟨⟨hx, hb, hml, hown, hts⟩, ⟨hK, hN⟩, -⟩ := hX
  obtain ⟨rr, hr1, cell, q1, q2, q3, q4⟩ := g1
  have hcls := (hK.1 ci rr hr1).2
  obtain ⟨kC, hkC, -⟩ := hcls.2
  refine ⟨cell, q1, by rw [q3]; rfl, ⟨kC, by rw [q2]; exact hkC⟩, fun comp hcomp => ?_⟩
  exact hN.2.2.2.2.2.1 ci t h2 rr comp cell.cls hr1 hcomp (by rw [q2]; exact hcls.1)
theorem xr_stR {t a v : Nat} {i : Int32} {kont : Unit → xM α} (h : (xbd (xstR t a i v) kont).1 σ = some (r, σ9)) (hX : xX E R p m c cc nL s args own nm meth ret fr lc σ0 σ9) (hI : xI E σ0 σ s H locs cells slots) (ht : t = 3 ∨ t = 4 ∨ t = 5 ∨ t = 6) (hdg : decode cc pc = .ok (.aastore, 1))
    (kk : ∀ (H1 : Heap) (locs1 : List Loc) (σ1 : xS), (kont ()).1 σ1 = some (r, σ9) → xI E σ0 σ1 s H1 locs1 cells slots → W p l e R s m args below meth c H1 locs1 cells slots Q (F0 m (pc + 1) ls rest)) : W p l e R s m args below meth c H locs cells slots Q (F0 m pc ls (.ref v :: .int i :: .ref a :: rest)) := by
  obtain ⟨q, h1, h2⟩ := xwr_bd h
  cases h3 : xarr σ t a with
  | none => rw [h3] at h1; cases h1
  | some w =>
    obtain ⟨n, f⟩ := w
    rw [h3] at h1
    rcases f with f | f | f | f | f <;> try (cases h1; done)
    by_cases hok : (xok i n && xobj σ t v) = true
    · simp only [hok, if_true] at h1
      cases h1
      simp at hok
      have hin := xok_in.mp hok.1
      have hlt : i.toNatClampNeg < n := Nat.not_le.mp fun q => hin (Or.inr q)
      have h0 : ¬ i < 0 := fun q => hin (Or.inl q)
      obtain ⟨e1, e2⟩ := xtyR ht
      obtain ⟨g1, g2, g3⟩ := xat_arr hI e2 h3
      obtain ⟨cellV, v1, v2, ⟨kC, hkC⟩, hasg⟩ := xobj_any hX hI hok.2
      have hRA := (hX.2.1.1.2 t _ (xtys_at E e2)).2
      rw [e1] at hRA
      obtain ⟨kA, comp, k1, k2, k3, -⟩ := hRA
      obtain ⟨kE, hkE, -⟩ := Vm.findClass_spec k3
      refine W.aast hX.1.1 hX.1.2.1 g1 (fun q h => by cases h) (fun h => by cases h) k1 k2 rfl hkE ⟨h0, by show _ < (arrV _ _ _).slots.size; rw [arrV_size]; exact hlt⟩ v1 (fun q h => by rw [h] at v2; cases v2) hkC (hasg _ k3) rfl rfl hdg fun H1 e z oq => ?_
      refine kk H1 _ _ h2 (xI_store hX hI g2 (fun w hw => by cases hw; exact e2) ?_ z oq)
      show H1[a]? = some (vp_cell _ _)
      rw [e]
      rw [vp_cell_q, vp_cell_q, arrV_store]
      congr 2
      funext q
      by_cases hq : q = i.toNatClampNeg
      · subst hq
        simp [updV, va_up, va_rf]
      · simp [updV, va_up, hq]
    · simp [hok] at h1
theorem xr_st0 {t a : Nat} {i : Int32} {kont : Unit → xM α} (h : (xbd (xst0 t a i) kont).1 σ = some (r, σ9)) (hX : xX E R p m c cc nL s args own nm meth ret fr lc σ0 σ9) (hI : xI E σ0 σ s H locs cells slots) (ht : t = 3 ∨ t = 4 ∨ t = 5 ∨ t = 6) (hdg : decode cc pc = .ok (.aastore, 1))
    (kk : ∀ (H1 : Heap) (locs1 : List Loc) (σ1 : xS), (kont ()).1 σ1 = some (r, σ9) → xI E σ0 σ1 s H1 locs1 cells slots → W p l e R s m args below meth c H1 locs1 cells slots Q (F0 m (pc + 1) ls rest)) : W p l e R s m args below meth c H locs cells slots Q (F0 m pc ls (.null :: .int i :: .ref a :: rest)) := by
  obtain ⟨q, h1, h2⟩ := xwr_bd h
  cases h3 : xarr σ t a with
  | none => rw [h3] at h1; cases h1
  | some w =>
    obtain ⟨n, f⟩ := w
    rw [h3] at h1
    rcases f with f | f | f | f | f <;> try (cases h1; done)
    by_cases hok : xok i n = true
    · simp only [hok, if_true] at h1
      cases h1
      have hin := xok_in.mp hok
      obtain ⟨e1, e2⟩ := xtyR ht
      obtain ⟨g1, g2, g3⟩ := xat_arr hI e2 h3
      have hof := xarrOf hX (t := t) e2 n (fun j => va_rf (f j))
      rw [e1] at hof
      refine va_WaastN (C := xtyn t) hX.1.1 hX.1.2.1 g1 hof (fun h => by cases h) (by show ¬ (i < 0 ∨ (arrV _ _ _).slots.size ≤ _); rw [arrV_size]; exact hin) rfl rfl hdg fun H1 e z oq => ?_
      refine kk H1 _ _ h2 (xI_store hX hI g2 (fun w hw => by cases hw; exact e2) ?_ z oq)
      show H1[a]? = some (vp_cell _ _)
      rw [e]
      rw [vp_cell_q, vp_cell_q, arrV_store]
      congr 2
      funext q
      by_cases hq : q = i.toNatClampNeg
      · subst hq
        simp [updV, va_up, va_rf]
      · simp [updV, va_up, hq]
    · simp [hok] at h1
/-- checkcast: the class is one of some, each of which may be cast -/
def xLc (own : String) (idx : Nat) (cs : List Nat) : Prop := ∃ nmc : String, Cond.classLink own idx nmc ∈ lw_all ∧ ∀ ci ∈ cs, ∃ r : vw_C, xcl[ci]? = some r ∧ (r.1 = nmc ∨ Cond.castable r.1 nmc ∈ lw_tbl)
theorem xr_cks {idx a : Nat} {cs : List Nat} {kont : Unit → xM α} (h : (xbd (xcks cs a) kont).1 σ = some (r, σ9)) (hX : xX E R p m c cc nL s args own nm meth ret fr lc σ0 σ9) (hI : xI E σ0 σ s H locs cells slots) (hl : xLc own idx cs) (hdg : decode cc pc = .ok (.checkcast idx, 3))
    (kk : (kont ()).1 σ = some (r, σ9) → W p l e R s m args below meth c H locs cells slots Q (F0 m (pc + 3) ls (.ref a :: rest))) : W p l e R s m args below meth c H locs cells slots Q (F0 m pc ls (.ref a :: rest)) := by
  obtain ⟨v, h1, h2⟩ := xrd_bd h
  cases h3 : σ.1 a with
  | none => rw [h3] at h1; cases h1
  | some d =>
    rw [h3] at h1
    cases d with
    | inr o => cases h1
    | inl o =>
      obtain ⟨ci, fs⟩ := o
      by_cases hc : ci ∈ cs
      · obtain ⟨g1, g2⟩ := xat_obj hI h3
        obtain ⟨⟨hx, hb, hml, hown, hts⟩, ⟨hK, hN⟩, -⟩ := hX
        obtain ⟨nmc, hlk, hcs⟩ := hl
        obtain ⟨rc, hrc, hor⟩ := hcs ci hc
        obtain ⟨rr, hr1, cell, q1, q2, q3, q4⟩ := g1
        cases hrc.symm.trans hr1
        have hcls := (hK.1 ci rc hrc).2
        have hr : ∃ cell : Cell, H[a]? = some cell ∧ cell.vm.isStatics = false ∧ s.vm.findClass rc.1 = some cell.cls := ⟨cell, q1, by rw [q3]; rfl, by rw [q2]; exact hcls.1⟩
        rcases hor with e1 | e1
        · subst e1
          exact va_castS hx hb hown (hts _ hlk) hcls hr hdg (kk h2)
        · exact va_castY hx hb hown (hts _ hlk) (hN.1 _ e1 rfl) hr hdg (kk h2)
      · simp [hc] at h1
end XR2
