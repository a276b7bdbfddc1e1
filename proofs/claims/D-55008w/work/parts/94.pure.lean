theorem pure_law (h : AH) (b L : Nat) (xs : Nat → Int32) (hL : L ≤ 96) (S : St0 h b L xs) : ∃ hF, f_law b h = some (1, hF) ∧ aZ hF ≤ aZ h + 1200144 ∧ aS hF ≤ aS h + 5494330 := by
  sorry
