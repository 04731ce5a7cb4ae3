theorem z_claim (L : Nat) (hL : L ≤ 144) (xs : Nat → Int32) (n e0 : Nat) (he : e0 < n) : ∃ σ9, (f_law L xs).1 (z0 n e0) = some ((1 : Int32), σ9) ∧ σ9.2.1 ≤ n + 1200144 ∧ σ9.2.2.1 ≤ 5496250 := by
  sorry
