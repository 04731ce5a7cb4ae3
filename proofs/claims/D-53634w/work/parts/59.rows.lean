/-! rows -/
set_option maxRecDepth 100000
section XR
variable {E : xE} {p : Program} {l : Launch} {e : Env} {R : Room} {s : State} {m : MethodId} {args : Array Value} {below : List Frame} {meth : Method} {c : Code} {H : Heap} {locs : List Loc} {cells slots : Nat} {Q : State → Prop}
variable {cc : ByteArray} {pc nL fr lc : Nat} {ls : Array Slot} {rest : List Value} {own nm : String} {ret : Option FieldType} {σ0 σ σ9 : xS} {α β : Type} {r : α}
theorem xat_obj {a ci : Nat} {fs : List Value} (hI : xI E σ0 σ s H locs cells slots) (h : σ.1 a = some (.inl (ci, fs))) : va_at E.1 xcl (a, .inr (ci, fs)) H ∧ E.2.2 ≤ a := by
  rcases hI.1.2 a _ h with ⟨h1, -⟩ | ⟨h1, h2, -⟩
  · cases h1
  · exact ⟨h1, h2⟩
theorem xat_arr {a t : Nat} {w : vp_A} (hI : xI E σ0 σ s H locs cells slots) (ht : t < 7) (h : xarr σ t a = some w) : H[a]? = some (vp_cell (E.2.1 t) w) ∧ E.2.2 ≤ a ∧ σ.1 a = some (.inr (t, w)) := by
  revert h
  unfold xarr
  cases h1 : σ.1 a with
  | none => intro h; cases h
  | some d =>
    cases d with
    | inl o => intro h; cases h
    | inr d =>
      obtain ⟨t', w'⟩ := d
      intro h
      by_cases e1 : t' = t
      · subst e1
        simp at h
        subst h
        rcases hI.1.2 a _ h1 with ⟨h2, -⟩ | ⟨h2, h3, -⟩
        · cases h2; omega
        · exact ⟨h2, h3, rfl⟩
      · simp [e1] at h
theorem xfld_some {a ci k : Nat} {v : Value} (h : xfld σ ci k a = some v) : ∃ fs, σ.1 a = some (.inl (ci, fs)) ∧ fs[k]? = some v := by
  revert h
  unfold xfld
  cases h1 : σ.1 a with
  | none => intro h; cases h
  | some d =>
    cases d with
    | inr o => intro h; cases h
    | inl d =>
      obtain ⟨t', w'⟩ := d
      intro h
      by_cases e1 : t' = ci
      · subst e1
        simp at h
        exact ⟨w', rfl, h⟩
      · simp [e1] at h
theorem xr_get {idx ci k a : Nat} {v : Value} (hX : xX E R p m c cc nL s args own nm meth ret fr lc σ0 σ9) (hI : xI E σ0 σ s H locs cells slots) (hl : xLg own idx ci k) (hv : xfld σ ci k a = some v) (hdg : decode cc pc = .ok (.getfield idx, 3))
    (kk : W p l e R s m args below meth c H locs cells slots Q (F0 m (pc + 3) ls (v :: rest))) : W p l e R s m args below meth c H locs cells slots Q (F0 m pc ls (.ref a :: rest)) := by
  obtain ⟨⟨hx, hb, hml, hown, hts⟩, ⟨hK, hN⟩, -⟩ := hX
  obtain ⟨C, T, N, tyf, ref, ⟨hc, hin, hty, hnm⟩, hk, hlink, hsame⟩ := hl
  obtain ⟨fs, hG, hfs⟩ := xfld_some hv
  have hP : va_P E.1 xcl [(a, .inr (ci, fs))] H := fun j q hj => by
    have hz : j < 1 := (List.getElem?_eq_some_iff.mp hj).1
    rw [show j = 0 by omega] at hj
    cases hj
    exact (xat_obj hI hG).1
  have hsm : ∀ x, s.fieldFound? (T k).1 (T k).2.1 (T k).2.2.1 = some x → s.fieldFound? ref (T k).2.1 (T k).2.2.1 = some x := by
    rcases hsame with e1 | e1
    · rw [e1]; exact fun _ h => h
    · exact u_same (hts _ e1)
  rcases hlink with hl1 | ⟨host, hl1⟩
  · exact va_get hx hb hts hin hown hK hP 0 rfl hc k hk (hts _ hl1) hsm hfs hdg kk
  · exact va_getN hx hb hts hin hown hK hP 0 rfl hc k hk (va_Nw.use (A := args) rfl (hN.1 _ hl1 rfl)) hsm hfs hdg kk
theorem xr_gI {idx ci k a : Nat} {kont : Int32 → xM α} (h : (xbd (xgI ci k a) kont).1 σ = some (r, σ9)) (hX : xX E R p m c cc nL s args own nm meth ret fr lc σ0 σ9) (hI : xI E σ0 σ s H locs cells slots) (hl : xLg own idx ci k) (hdg : decode cc pc = .ok (.getfield idx, 3))
    (kk : ∀ v : Int32, (kont v).1 σ = some (r, σ9) → W p l e R s m args below meth c H locs cells slots Q (F0 m (pc + 3) ls (.int v :: rest))) : W p l e R s m args below meth c H locs cells slots Q (F0 m pc ls (.ref a :: rest)) := by
  obtain ⟨v, h1, h2⟩ := xrd_bd h
  cases h3 : xfld σ ci k a with
  | none => rw [h3] at h1; cases h1
  | some w =>
    rw [h3] at h1
    cases w <;> try (cases h1; done)
    cases h1
    exact xr_get hX hI hl h3 hdg (kk _ h2)
theorem xr_gL {idx ci k a : Nat} {kont : Int64 → xM α} (h : (xbd (xgL ci k a) kont).1 σ = some (r, σ9)) (hX : xX E R p m c cc nL s args own nm meth ret fr lc σ0 σ9) (hI : xI E σ0 σ s H locs cells slots) (hl : xLg own idx ci k) (hdg : decode cc pc = .ok (.getfield idx, 3))
    (kk : ∀ v : Int64, (kont v).1 σ = some (r, σ9) → W p l e R s m args below meth c H locs cells slots Q (F0 m (pc + 3) ls (.long v :: rest))) : W p l e R s m args below meth c H locs cells slots Q (F0 m pc ls (.ref a :: rest)) := by
  obtain ⟨v, h1, h2⟩ := xrd_bd h
  cases h3 : xfld σ ci k a with
  | none => rw [h3] at h1; cases h1
  | some w =>
    rw [h3] at h1
    cases w <;> try (cases h1; done)
    cases h1
    exact xr_get hX hI hl h3 hdg (kk _ h2)
theorem xr_gD {idx ci k a : Nat} {kont : UInt64 → xM α} (h : (xbd (xgD ci k a) kont).1 σ = some (r, σ9)) (hX : xX E R p m c cc nL s args own nm meth ret fr lc σ0 σ9) (hI : xI E σ0 σ s H locs cells slots) (hl : xLg own idx ci k) (hdg : decode cc pc = .ok (.getfield idx, 3))
    (kk : ∀ v : UInt64, (kont v).1 σ = some (r, σ9) → W p l e R s m args below meth c H locs cells slots Q (F0 m (pc + 3) ls (.double v :: rest))) : W p l e R s m args below meth c H locs cells slots Q (F0 m pc ls (.ref a :: rest)) := by
  obtain ⟨v, h1, h2⟩ := xrd_bd h
  cases h3 : xfld σ ci k a with
  | none => rw [h3] at h1; cases h1
  | some w =>
    rw [h3] at h1
    cases w <;> try (cases h1; done)
    cases h1
    exact xr_get hX hI hl h3 hdg (kk _ h2)
theorem xr_gN {idx ci k a : Nat} {kont : Nat → xM α} (h : (xbd (xgN ci k a) kont).1 σ = some (r, σ9)) (hX : xX E R p m c cc nL s args own nm meth ret fr lc σ0 σ9) (hI : xI E σ0 σ s H locs cells slots) (hl : xLg own idx ci k) (hdg : decode cc pc = .ok (.getfield idx, 3))
    (kk : ∀ v : Nat, (kont v).1 σ = some (r, σ9) → W p l e R s m args below meth c H locs cells slots Q (F0 m (pc + 3) ls (.ref v :: rest))) : W p l e R s m args below meth c H locs cells slots Q (F0 m pc ls (.ref a :: rest)) := by
  obtain ⟨v, h1, h2⟩ := xrd_bd h
  cases h3 : xfld σ ci k a with
  | none => rw [h3] at h1; cases h1
  | some w =>
    rw [h3] at h1
    cases w <;> try (cases h1; done)
    cases h1
    exact xr_get hX hI hl h3 hdg (kk _ h2)
theorem xr_gQ {idx ci k a : Nat} {kont : Option Nat → xM α} (h : (xbd (xgQ ci k a) kont).1 σ = some (r, σ9)) (hX : xX E R p m c cc nL s args own nm meth ret fr lc σ0 σ9) (hI : xI E σ0 σ s H locs cells slots) (hl : xLg own idx ci k) (hdg : decode cc pc = .ok (.getfield idx, 3))
    (kn : (kont none).1 σ = some (r, σ9) → W p l e R s m args below meth c H locs cells slots Q (F0 m (pc + 3) ls (.null :: rest)))
    (kk : ∀ v : Nat, (kont (some v)).1 σ = some (r, σ9) → W p l e R s m args below meth c H locs cells slots Q (F0 m (pc + 3) ls (.ref v :: rest))) : W p l e R s m args below meth c H locs cells slots Q (F0 m pc ls (.ref a :: rest)) := by
  obtain ⟨v, h1, h2⟩ := xrd_bd h
  cases h3 : xfld σ ci k a with
  | none => rw [h3] at h1; cases h1
  | some w =>
    rw [h3] at h1
    cases w <;> try (cases h1; done)
    · cases h1
      exact xr_get hX hI hl h3 hdg (kn h2)
    · cases h1
      exact xr_get hX hI hl h3 hdg (kk _ h2)
/-- the picture after a store at a -/
theorem xI_store {a : Nat} {d : xC} {j : Nat} {H1 : Heap} (hX : xX E R p m c cc nL s args own nm meth ret fr lc σ0 σ9) (hI : xI E σ0 σ s H locs cells slots) (ha : E.2.2 ≤ a) (hd : ∀ w, d = .inr w → w.1 < 7) (he : va_at E.1 xcl (a, xcv E d) H1) (z : H1.size = H.size) (oq : ∀ q : Nat, q ≠ a → H1[q]? = H[q]?) : xI E σ0 (xset σ a d) s H1 (locs ++ [⟨a, j⟩]) cells slots := by
  obtain ⟨⟨hz, hR⟩, hS, h1, h2, h3, h4, h5⟩ := hI
  refine ⟨⟨z.trans hz, fun q d' hq => ?_⟩, hS.put z oq ha, h1, h2, h3, h4, h5⟩
  by_cases hqa : q = a
  · subst hqa
    simp [xset, xup] at hq
    subst hq
    exact Or.inr ⟨he, ha, hd⟩
  · simp [xset, xup, hqa] at hq
    rcases hR q d' hq with h | ⟨h6, h7, h8⟩
    · exact Or.inl h
    · exact Or.inr ⟨h6.kept (oq q hqa), h7, h8⟩
theorem xr_pt {idx ci k a : Nat} {v : Value} {ty : FieldType} {fin : Bool} {kont : Unit → xM α} (h : (xbd (xpt ci k a v) kont).1 σ = some (r, σ9)) (hX : xX E R p m c cc nL s args own nm meth ret fr lc σ0 σ9) (hI : xI E σ0 σ s H locs cells slots) (hl : xLk own idx ci k ty fin) (hfin : fin = false ∨ nm = "<init>") (hn : narrow ty v = v) (hfit : fits ty v = true) (hdg : decode cc pc = .ok (.putfield idx, 3))
    (kk : ∀ (H1 : Heap) (locs1 : List Loc) (σ1 : xS), (kont ()).1 σ1 = some (r, σ9) → xI E σ0 σ1 s H1 locs1 cells slots → W p l e R s m args below meth c H1 locs1 cells slots Q (F0 m (pc + 3) ls rest)) : W p l e R s m args below meth c H locs cells slots Q (F0 m pc ls (v :: .ref a :: rest)) := by
  have hX0 := hX
  obtain ⟨⟨hx, hb, hml, hown, hts⟩, ⟨hK, hN⟩, -, -, -, -, hmn, -⟩ := hX
  obtain ⟨q, h1, h2⟩ := xwr_bd h
  obtain ⟨C, T, N, tyf, ref, ⟨hc, hin, hty, hnm⟩, hk, htk, hfl, hfo, hlink, hsame⟩ := hl
  cases h3 : σ.1 a with
  | none => simp [h3] at h1
  | some d =>
    cases d with
    | inr o => simp [h3] at h1
    | inl o =>
      obtain ⟨ci', fs⟩ := o
      simp only [h3] at h1
      by_cases hcd : ci' = ci ∧ k < fs.length
      · obtain ⟨hci, hlen⟩ := hcd
        subst hci
        rw [if_pos ⟨rfl, hlen⟩] at h1
        cases h1
        obtain ⟨hat, hba⟩ := xat_obj hI h3
        have hsm : ∀ x, s.fieldFound? (T k).1 (T k).2.1 (T k).2.2.1 = some x → s.fieldFound? ref (T k).2.1 (T k).2.2.1 = some x := by
          rcases hsame with e1 | e1
          · rw [e1]; exact fun _ h => h
          · exact u_same (hts _ e1)
        have hap := va_apart (own := own) hts hin tyf hty hnm hK hc
        obtain ⟨rr, hr1, cell, q1, q2, q3, q4⟩ := hat
        have hr : rr = (C, T, N) := Option.some.inj (hr1.symm.trans hc)
        subst hr
        obtain ⟨hS, hfc, kC, hkC, hkind⟩ := hK.1 ci' _ hc
        obtain ⟨cf, kf, fi, f, hi, hsl⟩ := hS k hk
        have hlay := hts _ (hin _ (u_in_lay hk))
        unfold u_lay at hlay
        have hst := (u_facts hfc hkC (u_lays hts hin hk) hi).1
        have hd : parseFieldDescriptor (T k).2.2.1 = some ty := by rw [← htk]; exact hty k hk
        have fin_ : ∀ H' : Heap, H'[a]? = some (cell.setSlot f.slot v) → H'.size = H.size → (∀ q, q ≠ a → H'[q]? = H[q]?) → W p l e R s m args below meth c H' (locs ++ [⟨a, f.slot⟩]) cells slots Q (F0 m (pc + 3) ls rest) := by
          intro H' e1 e2 e3
          refine kk H' _ _ h2 (xI_store hX0 hI hba (fun w hw => by cases hw) ?_ e2 e3)
          rw [hsl] at e1
          exact ⟨_, hc, t_OB.to (V := updV (vp_V fs) k v) ⟨_, e1, q2, q3, t_set q4 hap hk v⟩ (fun j _ => vp_updV_set hlen v j)⟩
        have hlt : f.slot < cell.slots.size := by rw [hsl]; exact k2_hasslot (q4 k hk)
        rcases hlink with hl1 | ⟨hfn, host, hl1⟩
        · by_cases hff : fin = true
          · rw [if_pos (hfl.trans hff)] at hlay
            have hdecl := hfo hff
            have hcf : m.cls = cf := by
              obtain ⟨_, _, c', _, _, _, -, -, hf', -, -, -, hown2, -⟩ := Cond.laysFinal_spec hlay
              have e1 : c' = cf := by have := hi.symm.trans hf'; simp at this; exact this.1.symm
              rw [hdecl] at hown2
              rw [← e1]; exact Option.some.inj (hown.symm.trans hown2)
            have h6 := u_fits hfc hkC hkind (Or.inr hlay) hi hd hn hfit
            have hin2 : meth.name = "<init>" := by
              rcases hfin with e1 | e1
              · rw [hff] at e1; cases e1
              · rw [hmn, e1]
            exact W.putFinK hx hb hown (hts _ hl1) (hsm _ hi) hst hcf hin2 (by rw [q2]; exact h6) q1 q3 hlt rfl rfl hdg fin_
          · have hff : fin = false := by cases fin <;> simp_all
            rw [if_neg (by rw [hfl, hff]; decide)] at hlay
            have h6 := u_store hfc hkC hkind hlay hi hd hn hfit
            exact W.putK hx hb (f := f) ⟨hown, hts _ hl1, ⟨_, _, _, hsm _ hi⟩, hst⟩ (by rw [q2]; exact h6) q1 q3 hlt rfl rfl hdg fin_
        · rw [if_neg (by rw [hfl, hfn]; decide)] at hlay
          have h6 := u_store hfc hkC hkind hlay hi hd hn hfit
          exact va_WputK hx hb (f := f) hown (va_Nw.use (A := args) rfl (hN.1 _ hl1 rfl)) (hsm _ hi) hst (by rw [q2]; exact h6) q1 q3 hlt rfl rfl hdg fin_
      · rw [if_neg hcd] at h1
        cases h1
theorem xas_bd {b : Bool} {kont : Unit → xM α} (h : (xbd (xas b) kont).1 σ = some (r, σ9)) : b = true ∧ (kont ()).1 σ = some (r, σ9) := by
  obtain ⟨v, h1, h2⟩ := xrd_bd h
  cases b with
  | false => simp at h1
  | true => exact ⟨rfl, h2⟩
theorem xbd_assoc {γ : Type} {f : xM β} {g : β → xM γ} {kont : γ → xM α} : (xbd (xbd f g) kont).1 σ = (xbd f (fun b => xbd (g b) kont)).1 σ := by
  show (match (xbd f g).1 σ with
    | none => none
    | some (a, t) => (kont a).1 t) = (match f.1 σ with
    | none => none
    | some (a, t) => (xbd (g a) kont).1 t)
  show (match (match f.1 σ with
    | none => none
    | some (a, t) => (g a).1 t) with
    | none => none
    | some (a, t) => (kont a).1 t) = _
  cases f.1 σ with
  | none => rfl
  | some q => rfl
theorem xr_ptZ {idx ci k a : Nat} {v : Int32} {fin : Bool} {kont : Unit → xM α} (h : (xbd (xptZ ci k a v) kont).1 σ = some (r, σ9)) (hX : xX E R p m c cc nL s args own nm meth ret fr lc σ0 σ9) (hI : xI E σ0 σ s H locs cells slots) (hl : xLk own idx ci k .boolean fin) (hfin : fin = false ∨ nm = "<init>") (hdg : decode cc pc = .ok (.putfield idx, 3))
    (kk : ∀ (H1 : Heap) (locs1 : List Loc) (σ1 : xS), (kont ()).1 σ1 = some (r, σ9) → xI E σ0 σ1 s H1 locs1 cells slots → W p l e R s m args below meth c H1 locs1 cells slots Q (F0 m (pc + 3) ls rest)) : W p l e R s m args below meth c H locs cells slots Q (F0 m pc ls (.int v :: .ref a :: rest)) := by
  unfold xptZ at h
  rw [xbd_assoc] at h
  obtain ⟨h1, h2⟩ := xas_bd h
  simp at h1
  refine xr_pt h2 hX hI hl hfin ?_ ?_ hdg kk
  · rcases h1 with rfl | rfl <;> rfl
  · rcases h1 with rfl | rfl <;> rfl
theorem xr_ptB {idx ci k a : Nat} {v : Int32} {fin : Bool} {kont : Unit → xM α} (h : (xbd (xptB ci k a v) kont).1 σ = some (r, σ9)) (hX : xX E R p m c cc nL s args own nm meth ret fr lc σ0 σ9) (hI : xI E σ0 σ s H locs cells slots) (hl : xLk own idx ci k .byte fin) (hfin : fin = false ∨ nm = "<init>") (hdg : decode cc pc = .ok (.putfield idx, 3))
    (kk : ∀ (H1 : Heap) (locs1 : List Loc) (σ1 : xS), (kont ()).1 σ1 = some (r, σ9) → xI E σ0 σ1 s H1 locs1 cells slots → W p l e R s m args below meth c H1 locs1 cells slots Q (F0 m (pc + 3) ls rest)) : W p l e R s m args below meth c H locs cells slots Q (F0 m pc ls (.int v :: .ref a :: rest)) := by
  unfold xptB at h
  rw [xbd_assoc] at h
  obtain ⟨h1, h2⟩ := xas_bd h
  simp at h1
  have h3 := pk_nb v
  rw [h1] at h3
  have h4 := pk_fb v
  rw [h1] at h4
  exact xr_pt h2 hX hI hl hfin h3 h4 hdg kk
end XR
