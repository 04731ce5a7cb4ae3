/-! THE SHALLOW LAYER: pictures of the heap, pure functions over them, and the machine's rows for them -/
set_option maxRecDepth 100000
/-- a cell of the picture: an object (number of its class, its fields), or an array (number of its kind, length, contents) -/
abbrev xC : Type := (Nat × List Value) ⊕ (Nat × vp_A)
/-- a picture: the cells, the next address, the slots used, the address of ArrayList's shared empty array -/
abbrev xS : Type := (Nat → Option xC) × Nat × Nat × Nat
def xOk {α : Type} (f : xS → Option (α × xS)) : Prop := ∀ s r t, f s = some (r, t) → s.2.1 ≤ t.2.1 ∧ s.2.2.1 ≤ t.2.2.1 ∧ t.2.2.2 = s.2.2.2
def xM (α : Type) : Type := { f : xS → Option (α × xS) // xOk f }
def xrt {α : Type} (a : α) : xM α := ⟨fun s => some (a, s), fun s r t h => by cases h; exact ⟨Nat.le_refl _, Nat.le_refl _, rfl⟩⟩
def xno {α : Type} : xM α := ⟨fun _ => none, fun s r t h => by cases h⟩
def xbd {α β : Type} (m : xM α) (k : α → xM β) : xM β := ⟨fun s => match m.1 s with
    | none => none
    | some (a, t) => (k a).1 t, fun s r t h => by
  revert h
  show (match m.1 s with
    | none => none
    | some (a, t) => (k a).1 t) = some (r, t) → _
  cases h1 : m.1 s with
  | none => intro h; cases h
  | some p =>
    obtain ⟨a, u⟩ := p
    intro h
    have e1 := m.2 _ _ _ h1
    have e2 := (k a).2 _ _ _ h
    exact ⟨Nat.le_trans e1.1 e2.1, Nat.le_trans e1.2.1 e2.2.1, e2.2.2.trans e1.2.2⟩⟩
def xrd {α : Type} (f : xS → Option α) : xM α := ⟨fun s => match f s with
    | none => none
    | some a => some (a, s), fun s r t h => by
  revert h
  show (match f s with
    | none => none
    | some a => some (a, s)) = some (r, t) → _
  cases f s with
  | none => intro h; cases h
  | some a => intro h; cases h; exact ⟨Nat.le_refl _, Nat.le_refl _, rfl⟩⟩
def xup (G : Nat → Option xC) (a : Nat) (c : xC) : Nat → Option xC := fun q => if q = a then some c else G q
def xset (s : xS) (a : Nat) (c : xC) : xS := (xup s.1 a c, s.2)
def xwr (f : xS → Option (Nat × xC)) : xM Unit := ⟨fun s => match f s with
    | none => none
    | some q => some ((), xset s q.1 q.2), fun s r t h => by
  revert h
  show (match f s with
    | none => none
    | some q => some ((), xset s q.1 q.2)) = some (r, t) → _
  cases f s with
  | none => intro h; cases h
  | some a => intro h; cases h; exact ⟨Nat.le_refl _, Nat.le_refl _, rfl⟩⟩
def xal (f : xS → Option (Nat × xC)) : xM Nat := ⟨fun s => match f s with
    | none => none
    | some q => some (s.2.1, (xup s.1 s.2.1 q.2, s.2.1 + 1, s.2.2.1 + q.1, s.2.2.2)), fun s r t h => by
  revert h
  show (match f s with
    | none => none
    | some q => some (s.2.1, (xup s.1 s.2.1 q.2, s.2.1 + 1, s.2.2.1 + q.1, s.2.2.2))) = some (r, t) → _
  cases f s with
  | none => intro h; cases h
  | some a => intro h; cases h; exact ⟨Nat.le_succ _, Nat.le_add_right _ _, rfl⟩⟩
/-- reads -/
def xfld (s : xS) (c k a : Nat) : Option Value := match s.1 a with
  | some (.inl o) => if o.1 = c then o.2[k]? else none
  | _ => none
def xvI (v : Option Value) : Option Int32 := match v with
  | some (.int x) => some x
  | _ => none
def xvL (v : Option Value) : Option Int64 := match v with
  | some (.long x) => some x
  | _ => none
def xvD (v : Option Value) : Option UInt64 := match v with
  | some (.double x) => some x
  | _ => none
def xvN (v : Option Value) : Option Nat := match v with
  | some (.ref x) => some x
  | _ => none
def xvQ (v : Option Value) : Option (Option Nat) := match v with
  | some (.ref x) => some (some x)
  | some .null => some none
  | _ => none
def xgI (c k a : Nat) : xM Int32 := xrd fun s => xvI (xfld s c k a)
def xgL (c k a : Nat) : xM Int64 := xrd fun s => xvL (xfld s c k a)
def xgD (c k a : Nat) : xM UInt64 := xrd fun s => xvD (xfld s c k a)
def xgN (c k a : Nat) : xM Nat := xrd fun s => xvN (xfld s c k a)
def xgQ (c k a : Nat) : xM (Option Nat) := xrd fun s => xvQ (xfld s c k a)
/-- the class of an object is one of these -/
def xcks (cs : List Nat) (a : Nat) : xM Unit := xrd fun s => match s.1 a with
  | some (.inl o) => if o.1 ∈ cs then some () else none
  | _ => none
def xck (c a : Nat) : xM Unit := xrd fun s => match s.1 a with
  | some (.inl o) => if o.1 = c then some () else none
  | _ => none
/-- a field is written -/
def xpt (c k a : Nat) (v : Value) : xM Unit := xwr fun s => match s.1 a with
  | some (.inl o) => if o.1 = c ∧ k < o.2.length then some (a, .inl (c, o.2.set k v)) else none
  | _ => none
/-- a field of a small type is written: the value is within the type -/
def xas (b : Bool) : xM Unit := xrd fun _ => if b then some () else none
def xptZ (c k a : Nat) (v : Int32) : xM Unit := xbd (xas (v == 0 || v == 1)) fun _ => xpt c k a (.int v)
def xptB (c k a : Nat) (v : Int32) : xM Unit := xbd (xas (v.toInt8.toInt32 == v)) fun _ => xpt c k a (.int v)
def xrtZ (v : Int32) : xM Int32 := xbd (xas (v == 0 || v == 1)) fun _ => xrt v
def xrtC (v : Int32) : xM Int32 := xbd (xas ((v.toUInt32 % 65536).toInt32 == v)) fun _ => xrt v
def xrtB (v : Int32) : xM Int32 := xbd (xas (v.toInt8.toInt32 == v)) fun _ => xrt v
/-- new objects, arrays -/
def xnw (c : Nat) (fs : List Value) : xM Nat := xal fun _ => some (fs.length, .inl (c, fs))
abbrev xK0 : Type := (Nat → Int32) ⊕ (Nat → Int64) ⊕ (Nat → UInt32) ⊕ (Nat → UInt64) ⊕ (Nat → Option Nat)
def xna (t : Nat) (z : xK0) (n : Int32) : xM Nat := xal fun _ => if ¬ n < 0 ∧ n.toNatClampNeg ≤ 65536 then some (n.toNatClampNeg, .inr (t, n.toNatClampNeg, z)) else none
abbrev xzI : xK0 := .inl (fun _ => 0)
abbrev xzL : xK0 := .inr (.inl (fun _ => 0))
abbrev xzR : xK0 := .inr (.inr (.inr (.inr (fun _ => none))))
def xarr (s : xS) (t a : Nat) : Option vp_A := match s.1 a with
  | some (.inr c) => if c.1 = t then some c.2 else none
  | _ => none
def xok (i : Int32) (n : Nat) : Bool := !(decide (i < 0)) && decide (i.toNatClampNeg < n)
theorem xok_in {i : Int32} {n : Nat} : xok i n = true ↔ vp_in i n := by
  unfold xok vp_in
  simp [Nat.not_le]
def xldI (t a : Nat) (i : Int32) : xM Int32 := xrd fun s => match xarr s t a with
  | some (n, .inl f) => if xok i n then some (f i.toNatClampNeg) else none
  | _ => none
def xldL (t a : Nat) (i : Int32) : xM Int64 := xrd fun s => match xarr s t a with
  | some (n, .inr (.inl f)) => if xok i n then some (f i.toNatClampNeg) else none
  | _ => none
def xldQ (t a : Nat) (i : Int32) : xM (Option Nat) := xrd fun s => match xarr s t a with
  | some (n, .inr (.inr (.inr (.inr f)))) => if xok i n then some (f i.toNatClampNeg) else none
  | _ => none
def xldN (t a : Nat) (i : Int32) : xM Nat := xrd fun s => match xarr s t a with
  | some (n, .inr (.inr (.inr (.inr f)))) => if xok i n then f i.toNatClampNeg else none
  | _ => none
def xln (a : Nat) : xM Int32 := xrd fun s => match s.1 a with
  | some (.inr c) => some (Int32.ofNat c.2.1)
  | _ => none
def xstI (a : Nat) (i v : Int32) : xM Unit := xwr fun s => match xarr s 0 a with
  | some (n, .inl f) => if xok i n then some (a, .inr (0, n, .inl (upd f i.toNatClampNeg v))) else none
  | _ => none
def xstB (a : Nat) (i v : Int32) : xM Unit := xwr fun s => match xarr s 2 a with
  | some (n, .inl f) => if xok i n then some (a, .inr (2, n, .inl (upd f i.toNatClampNeg v.toInt8.toInt32))) else none
  | _ => none
def xstL (a : Nat) (i : Int32) (v : Int64) : xM Unit := xwr fun s => match xarr s 1 a with
  | some (n, .inr (.inl f)) => if xok i n then some (a, .inr (1, n, .inr (.inl (vp_updL f i.toNatClampNeg v)))) else none
  | _ => none
/-- which class may stand in which kind of array of references: 3 Object, 4 Entry, 5 Order, 6 Invoice -/
def xcast (c t : Nat) : Bool := (t == 3 && decide (c < 20)) || (t == 4 && c == 9) || (t == 5 && c == 6) || (t == 6 && c == 4)
def xobj (s : xS) (t a : Nat) : Bool := match s.1 a with
  | some (.inl o) => xcast o.1 t
  | _ => false
def xstR (t a : Nat) (i : Int32) (v : Nat) : xM Unit := xwr fun s => match xarr s t a with
  | some (n, .inr (.inr (.inr (.inr f)))) => if xok i n && xobj s t v then some (a, .inr (t, n, .inr (.inr (.inr (.inr (va_up f i.toNatClampNeg (some v))))))) else none
  | _ => none
def xst0 (t a : Nat) (i : Int32) : xM Unit := xwr fun s => match xarr s t a with
  | some (n, .inr (.inr (.inr (.inr f)))) => if xok i n then some (a, .inr (t, n, .inr (.inr (.inr (.inr (va_up f i.toNatClampNeg none)))))) else none
  | _ => none
/-- System.arraycopy of references -/
def xcpy (t a0 : Nat) (sp : Int32) (a : Nat) (dp n : Int32) : xM Unit := xwr fun s => match xarr s t a0, xarr s t a with
  | some (n0, .inr (.inr (.inr (.inr f)))), some (n1, .inr (.inr (.inr (.inr g)))) =>
    if (!(decide (sp < 0)) && !(decide (dp < 0)) && !(decide (n < 0)) && decide (sp.toNatClampNeg + n.toNatClampNeg ≤ n0) && decide (dp.toNatClampNeg + n.toNatClampNeg ≤ n1) && (List.range n.toNatClampNeg).all (fun i => match f (sp.toNatClampNeg + i) with
      | none => true
      | some y => xobj s t y)) then some (a, .inr (t, n1, .inr (.inr (.inr (.inr (va_cpy f g sp.toNatClampNeg dp.toNatClampNeg n.toNatClampNeg)))))) else none
  | _, _ => none
/-- the shared empty array -/
def xe0 : xM Nat := xrd fun s => some s.2.2.2
/-- doubles: no NaN comes out -/
def xdb (x : UInt64) : xM UInt64 := xrd fun _ => if x &&& 0x7fffffffffffffff ≤ 0x7ff0000000000000 then some x else none
def xl2d (b : Int64) : xM UInt64 := xrd fun _ => if vn_snl2d b = false then some b.toUInt64 else none
def xmax (x y : Int32) : Int32 := if x < y then y else x
def xmin (x y : Int32) : Int32 := if y < x then y else x
/-- what a bind says -/
theorem xbd_some {α β : Type} {m : xM α} {k : α → xM β} {s t : xS} {r : β} (h : (xbd m k).1 s = some (r, t)) : ∃ a u, m.1 s = some (a, u) ∧ (k a).1 u = some (r, t) := by
  revert h
  show (match m.1 s with
    | none => none
    | some (a, t) => (k a).1 t) = some (r, t) → _
  cases h1 : m.1 s with
  | none => intro h; cases h
  | some p =>
    obtain ⟨a, u⟩ := p
    intro h
    exact ⟨a, u, rfl, h⟩
theorem xrd_some {α : Type} {f : xS → Option α} {s t : xS} {r : α} (h : (xrd f).1 s = some (r, t)) : f s = some r ∧ t = s := by
  revert h
  show (match f s with
    | none => none
    | some a => some (a, s)) = some (r, t) → _
  cases h1 : f s with
  | none => intro h; cases h
  | some a => intro h; cases h; exact ⟨rfl, rfl⟩
theorem xwr_some {f : xS → Option (Nat × xC)} {s t : xS} {r : Unit} (h : (xwr f).1 s = some (r, t)) : ∃ q, f s = some q ∧ t = xset s q.1 q.2 := by
  revert h
  show (match f s with
    | none => none
    | some q => some ((), xset s q.1 q.2)) = some (r, t) → _
  cases h1 : f s with
  | none => intro h; cases h
  | some a => intro h; cases h; exact ⟨a, rfl, rfl⟩
theorem xal_some {f : xS → Option (Nat × xC)} {s t : xS} {r : Nat} (h : (xal f).1 s = some (r, t)) : ∃ q, f s = some q ∧ r = s.2.1 ∧ t = (xup s.1 s.2.1 q.2, s.2.1 + 1, s.2.2.1 + q.1, s.2.2.2) := by
  revert h
  show (match f s with
    | none => none
    | some q => some (s.2.1, (xup s.1 s.2.1 q.2, s.2.1 + 1, s.2.2.1 + q.1, s.2.2.2))) = some (r, t) → _
  cases h1 : f s with
  | none => intro h; cases h
  | some a => intro h; cases h; exact ⟨a, rfl, rfl, rfl⟩
/-- a read at the head of a bind -/
theorem xrd_bd {α β : Type} {f : xS → Option α} {k : α → xM β} {s t : xS} {r : β} (h : (xbd (xrd f) k).1 s = some (r, t)) : ∃ a, f s = some a ∧ (k a).1 s = some (r, t) := by
  obtain ⟨a, u, h1, h2⟩ := xbd_some h
  obtain ⟨h3, rfl⟩ := xrd_some h1
  exact ⟨a, h3, h2⟩
theorem xwr_bd {β : Type} {f : xS → Option (Nat × xC)} {k : Unit → xM β} {s t : xS} {r : β} (h : (xbd (xwr f) k).1 s = some (r, t)) : ∃ q, f s = some q ∧ (k ()).1 (xset s q.1 q.2) = some (r, t) := by
  obtain ⟨a, u, h1, h2⟩ := xbd_some h
  obtain ⟨q, h3, rfl⟩ := xwr_some h1
  exact ⟨q, h3, h2⟩
theorem xal_bd {β : Type} {f : xS → Option (Nat × xC)} {k : Nat → xM β} {s t : xS} {r : β} (h : (xbd (xal f) k).1 s = some (r, t)) : ∃ q, f s = some q ∧ (k s.2.1).1 (xup s.1 s.2.1 q.2, s.2.1 + 1, s.2.2.1 + q.1, s.2.2.2) = some (r, t) := by
  obtain ⟨a, u, h1, h2⟩ := xbd_some h
  obtain ⟨q, h3, rfl, rfl⟩ := xal_some h1
  exact ⟨q, h3, h2⟩
theorem xck_of {α : Type} {c a : Nat} {k : Unit → xM α} {s t : xS} {r : α} (h : (xbd (xck c a) k).1 s = some (r, t)) : ∃ fs, s.1 a = some (.inl (c, fs)) := by
  obtain ⟨_, h1, -⟩ := xrd_bd h
  revert h1
  cases h2 : s.1 a with
  | none => intro h; cases h
  | some o =>
    cases o with
    | inr b => intro h; cases h
    | inl o =>
      obtain ⟨c', fs⟩ := o
      intro h
      by_cases hc : c' = c
      · subst hc; exact ⟨fs, rfl⟩
      · simp [hc] at h
theorem xbd_at {α β : Type} {m : xM α} {k : α → xM β} {s t : xS} {a : α} (h : m.1 s = some (a, t)) : (xbd m k).1 s = (k a).1 t := by
  unfold xbd
  simp only [h]
theorem xup_xup (G : Nat → Option xC) (a : Nat) (c d : xC) : xup (xup G a c) a d = xup G a d := by
  funext q
  unfold xup
  by_cases h : q = a <;> simp [h]
/-- a new Fault, its place filled in by its constructor -/
def xnf (v : Int32) : xM Nat := xal fun _ => some (7, .inl (11, [.int v]))
/-- what the store of v into the array of references a comes to: 5, 6: v is stored (Order[], Invoice[]); 1, 2: ArrayStoreException -/
def xak (a v : Nat) : xM Nat := xrd fun s => match s.1 a, s.1 v with
  | some (.inr c), some (.inl o) => if 0 < c.2.1 then (if c.1 = 5 ∧ o.1 = 6 then some 5 else if c.1 = 6 ∧ o.1 = 4 then some 6 else if c.1 = 5 ∧ o.1 = 4 then some 1 else if c.1 = 6 ∧ o.1 = 6 then some 2 else none) else none
  | _, _ => none
/-- three cells (26 slots and fewer) that no picture shows -/
def xbump : xM Unit := ⟨fun s => some ((), (s.1, s.2.1 + 3, s.2.2.1 + 26, s.2.2.2)), fun s r t h => by cases h; exact ⟨Nat.le_add_right _ _, Nat.le_add_right _ _, rfl⟩⟩
def xaki (a : Nat) (i : Int32) (v : Nat) : xM Nat := xbd (xas (i == 0)) fun _ => xak a v
def xckR (t a : Nat) : xM Unit := xrd fun s => match xarr s t a with
  | none => none
  | some _ => some ()
/-- a loop's fuel -/
def xFU : Nat := 100000
/-- the shared empty array -/
def xem : xC := .inr (7, 0, .inr (.inr (.inr (.inr (fun _ => none)))))
/-- the picture at the law's start: the shared empty array alone -/
def z0 (n e0 : Nat) : xS := (fun q => if q = e0 then some xem else none, n, 0, e0)
