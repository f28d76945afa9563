set_option maxRecDepth 100000
theorem law_true (L : Nat) (xs : Nat → Int32) (hL : L ≤ 320) : f_law L xs = some () := by
  sorry
