/-! Book.copy, whatever its papers are -/
set_option maxRecDepth 100000
def zL (cp : Nat → xM Nat) : Nat → Nat → Nat → xM Nat
  | 0, _, _ => xno
  | n+1, b, it => xbd (f_J10_hasNext it) fun v8 => if v8 = 0 then xrt b else xbd (f_J10_next it) fun v9 => xbd (xcks [4, 5, 6, 7] v9) fun _ => xbd (cp v9) fun v10 => xbd (f_X2_add b v10) fun _ => zL cp n b it
theorem zL_7 : ∀ n b it, f_X2_copy_7_L18 n b it = zL f_X7_copy n b it := by
  intro n
  induction n with
  | zero => intro b it; rfl
  | succ n ih =>
    intro b it
    have e : f_X2_copy_7_L18 n = zL f_X7_copy n := by funext b it; exact ih b it
    show f_X2_copy_7_b18 (f_X2_copy_7_L18 n) b it = _
    rw [e]
    rfl
theorem zL_5 : ∀ n b it, f_X2_copy_5_L18 n b it = zL f_X5_copy n b it := by
  intro n
  induction n with
  | zero => intro b it; rfl
  | succ n ih =>
    intro b it
    have e : f_X2_copy_5_L18 n = zL f_X5_copy n := by funext b it; exact ih b it
    show f_X2_copy_5_b18 (f_X2_copy_5_L18 n) b it = _
    rw [e]
    rfl
theorem zL_6 : ∀ n b it, f_X2_copy_6_L18 n b it = zL f_X6_copy n b it := by
  intro n
  induction n with
  | zero => intro b it; rfl
  | succ n ih =>
    intro b it
    have e : f_X2_copy_6_L18 n = zL f_X6_copy n := by funext b it; exact ih b it
    show f_X2_copy_6_b18 (f_X2_copy_6_L18 n) b it = _
    rw [e]
    rfl
theorem zL_4 : ∀ n b it, f_X2_copy_4_L18 n b it = zL f_X4_copy n b it := by
  intro n
  induction n with
  | zero => intro b it; rfl
  | succ n ih =>
    intro b it
    have e : f_X2_copy_4_L18 n = zL f_X4_copy n := by funext b it; exact ih b it
    show f_X2_copy_4_b18 (f_X2_copy_4_L18 n) b it = _
    rw [e]
    rfl
