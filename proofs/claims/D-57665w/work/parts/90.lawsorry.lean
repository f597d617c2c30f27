theorem law_ok (x : gV) (hd : ∀ i j, i < g_tN → j < g_tN → x.2.2.1 i = x.2.2.1 j → i = j) (zL : Nat) (zx : Nat → Int32) (hL : zL ≤ 144) (n : Nat) : f_L_law x zL zx (fun _ => none) n = some (1 : Int32) := by
  sorry
