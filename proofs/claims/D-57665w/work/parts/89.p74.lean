/-! THE CONSTRUCTORS: the reference -/
theorem mH_ot2 {h : gH} {o b : Nat} {aM aS aB aR aT aC aH aE aQ aK : Nat → Int32} {iU iL iE iP iW iT iA iY iF iV : Int32} (hb : ¬ (o ≤ b ∧ b ≤ o + 10)) : mH h o aM aS iU aB iL iE iP aR iW iT aT aC aH aE aQ iA iY iF iV aK b = h b := mH_ot (M := (aM, aS, iU, aB, iL, iE, iP, aR, iW, iT, aT, aC, aH, aE, aQ, iA, iY, iF, iV, aK)) hb
section CM
variable {x : gV} {o n : Nat} {hb : gH}
theorem ctM (hd : ∀ i j, i < g_tN → j < g_tN → x.2.2.1 i = x.2.2.1 j → i = j) : ∀ (d i fu : Nat), i + d = 91 → d < fu → gL2 (f_X6_init_L142 x o (x.2.2.1 0) n) fu (iI i) (mH hb o (fun _ => 0) (fun _ => 0) 0 (fb0 i) 0 0 (-1) (fun _ => 0) 0 0 (fun _ => 0) (fun _ => 0) (fun _ => 0) (fun _ => 0) (fun _ => 0) 0 0 0 0 (fun _ => 0)) = f_X6_init_J167 x o (x.2.2.1 0) (mH hb o (fun _ => 0) (fun _ => 0) 0 (fb0 91) 0 0 (-1) (fun _ => 0) 0 0 (fun _ => 0) (fun _ => 0) (fun _ => 0) (fun _ => 0) (fun _ => 0) 0 0 0 0 (fun _ => 0)) n := by
  have hl := wL_ok (x := x) hd (i := 0) (by decide)
  rw [w0_len] at hl
  intro d
  induction d with
  | zero =>
    intro i fu hi hfu
    obtain ⟨fu, rfl⟩ : ∃ k', fu = k' + 1 := ⟨fu - 1, by omega⟩
    have : i = 91 := by omega
    subst this
    show f_X6_init_L142 x o (x.2.2.1 0) n (gL2 (f_X6_init_L142 x o (x.2.2.1 0) n) fu) _ _ = _
    generalize gL2 (f_X6_init_L142 x o (x.2.2.1 0) n) fu = r
    unfold f_X6_init_L142
    rw [hl, gB_s, if_pos (Int32.le_refl _)]
  | succ d ih =>
    intro i fu hi hfu
    obtain ⟨fu, rfl⟩ : ∃ k', fu = k' + 1 := ⟨fu - 1, by omega⟩
    have ih := ih (i + 1) fu (by omega) (by omega)
    obtain ⟨b1, b2, b3⟩ := b0_ok i (by omega)
    show f_X6_init_L142 x o (x.2.2.1 0) n (gL2 (f_X6_init_L142 x o (x.2.2.1 0) n) fu) _ _ = _
    generalize gL2 (f_X6_init_L142 x o (x.2.2.1 0) n) fu = r at ih ⊢
    unfold f_X6_init_L142
    have e5 := wB_ok (x := x) hd (i := 0) (j := i) (by decide) (by rw [w0_len]; omega) (by rw [w0_len]; omega)
    rw [hl, gB_s, if_neg (by rw [iI_le (by omega) (by omega) (by omega) (by omega)]; omega), fA_at mH_0 rfl, gB_s, e5, gB_s, b2, sI_at (j := i) mH_aaB rfl (by omega) (by decide), gB_s, mH_saB, fb0_up, iI_1, iI_add]
    exact ih
theorem mCtor {S' : gS} (hd : ∀ i j, i < g_tN → j < g_tN → x.2.2.1 i = x.2.2.1 j → i = j) (hS : pSet B0 91 = .inr S') : ∃ m' aB a1 a2 a3 a4, f_X6_init x o (g_up hb o (.inr (4, [.null, .null, .int 0, .null, .int 0, .int 0, .int 0, .null, .int 0, .int 0, .null, .null, .null, .null, .null, .int 0, .int 0, .int 0, .int 0, .null]))) (o + 1) = some (mH hb o m' (fun _ => 0) 0 aB 0 0 (-1) (fun _ => 0) 0 0 (fun _ => 0) (fun _ => 0) (fun _ => 0) (fun _ => 0) (fun _ => 0) a1 a2 a3 a4 (fun _ => 0), o + 11) ∧ BlkAt m' 0 S' := by
  generalize ez : g_up hb o (.inr (4, [.null, .null, .int 0, .null, .int 0, .int 0, .int 0, .null, .int 0, .int 0, .null, .null, .null, .null, .null, .int 0, .int 0, .int 0, .int 0, .null])) = hz
  generalize e1 : g_up hz (o + 1) (.inl (0, 2120, .inl fun _ => 0)) = h1
  have q1 : h1 o = some (.inr (4, [.null, .null, .int 0, .null, .int 0, .int 0, .int 0, .null, .int 0, .int 0, .null, .null, .null, .null, .null, .int 0, .int 0, .int 0, .int 0, .null])) := by rw [← e1, g_up_n (by omega), ← ez, g_up_s]
  generalize e2 : g_up h1 o (.inr (4, [.ref (o + 1), .null, .int 0, .null, .int 0, .int 0, .int 0, .null, .int 0, .int 0, .null, .null, .null, .null, .null, .int 0, .int 0, .int 0, .int 0, .null])) = h2
  generalize e3 : g_up h2 (o + 2) (.inl (2, 2, .inl fun _ => 0)) = h3
  have q2 : h3 o = some (.inr (4, [.ref (o + 1), .null, .int 0, .null, .int 0, .int 0, .int 0, .null, .int 0, .int 0, .null, .null, .null, .null, .null, .int 0, .int 0, .int 0, .int 0, .null])) := by rw [← e3, g_up_n (by omega), ← e2, g_up_s]
  generalize e4 : g_up h3 o (.inr (4, [.ref (o + 1), .ref (o + 2), .int 0, .null, .int 0, .int 0, .int 0, .null, .int 0, .int 0, .null, .null, .null, .null, .null, .int 0, .int 0, .int 0, .int 0, .null])) = h4
  have q3 : h4 o = some (.inr (4, [.ref (o + 1), .ref (o + 2), .int 0, .null, .int 0, .int 0, .int 0, .null, .int 0, .int 0, .null, .null, .null, .null, .null, .int 0, .int 0, .int 0, .int 0, .null])) := by rw [← e4, g_up_s]
  generalize e5 : g_up h4 o (.inr (4, [.ref (o + 1), .ref (o + 2), .int 0, .null, .int 0, .int 0, .int 0, .null, .int 0, .int 0, .null, .null, .null, .null, .null, .int 0, .int 0, .int 0, .int 0, .null])) = h5
  generalize e6 : g_up h5 (o + 3) (.inl (0, 600, .inl fun _ => 0)) = h6
  have q4 : h6 o = some (.inr (4, [.ref (o + 1), .ref (o + 2), .int 0, .null, .int 0, .int 0, .int 0, .null, .int 0, .int 0, .null, .null, .null, .null, .null, .int 0, .int 0, .int 0, .int 0, .null])) := by rw [← e6, g_up_n (by omega), ← e5, g_up_s]
  generalize e7 : g_up h6 o (.inr (4, [.ref (o + 1), .ref (o + 2), .int 0, .ref (o + 3), .int 0, .int 0, .int 0, .null, .int 0, .int 0, .null, .null, .null, .null, .null, .int 0, .int 0, .int 0, .int 0, .null])) = h7
  have q5 : h7 o = some (.inr (4, [.ref (o + 1), .ref (o + 2), .int 0, .ref (o + 3), .int 0, .int 0, .int 0, .null, .int 0, .int 0, .null, .null, .null, .null, .null, .int 0, .int 0, .int 0, .int 0, .null])) := by rw [← e7, g_up_s]
  generalize e8 : g_up h7 o (.inr (4, [.ref (o + 1), .ref (o + 2), .int 0, .ref (o + 3), .int 0, .int 0, .int 0, .null, .int 0, .int 0, .null, .null, .null, .null, .null, .int 0, .int 0, .int 0, .int 0, .null])) = h8
  have q6 : h8 o = some (.inr (4, [.ref (o + 1), .ref (o + 2), .int 0, .ref (o + 3), .int 0, .int 0, .int 0, .null, .int 0, .int 0, .null, .null, .null, .null, .null, .int 0, .int 0, .int 0, .int 0, .null])) := by rw [← e8, g_up_s]
  generalize e9 : g_up h8 o (.inr (4, [.ref (o + 1), .ref (o + 2), .int 0, .ref (o + 3), .int 0, .int 0, .int 0, .null, .int 0, .int 0, .null, .null, .null, .null, .null, .int 0, .int 0, .int 0, .int 0, .null])) = h9
  have q7 : h9 o = some (.inr (4, [.ref (o + 1), .ref (o + 2), .int 0, .ref (o + 3), .int 0, .int 0, .int 0, .null, .int 0, .int 0, .null, .null, .null, .null, .null, .int 0, .int 0, .int 0, .int 0, .null])) := by rw [← e9, g_up_s]
  generalize e10 : g_up h9 o (.inr (4, [.ref (o + 1), .ref (o + 2), .int 0, .ref (o + 3), .int 0, .int 0, .int (-1), .null, .int 0, .int 0, .null, .null, .null, .null, .null, .int 0, .int 0, .int 0, .int 0, .null])) = h10
  generalize e11 : g_up h10 (o + 4) (.inl (0, 240, .inl fun _ => 0)) = h11
  have q8 : h11 o = some (.inr (4, [.ref (o + 1), .ref (o + 2), .int 0, .ref (o + 3), .int 0, .int 0, .int (-1), .null, .int 0, .int 0, .null, .null, .null, .null, .null, .int 0, .int 0, .int 0, .int 0, .null])) := by rw [← e11, g_up_n (by omega), ← e10, g_up_s]
  generalize e12 : g_up h11 o (.inr (4, [.ref (o + 1), .ref (o + 2), .int 0, .ref (o + 3), .int 0, .int 0, .int (-1), .ref (o + 4), .int 0, .int 0, .null, .null, .null, .null, .null, .int 0, .int 0, .int 0, .int 0, .null])) = h12
  have q9 : h12 o = some (.inr (4, [.ref (o + 1), .ref (o + 2), .int 0, .ref (o + 3), .int 0, .int 0, .int (-1), .ref (o + 4), .int 0, .int 0, .null, .null, .null, .null, .null, .int 0, .int 0, .int 0, .int 0, .null])) := by rw [← e12, g_up_s]
  generalize e13 : g_up h12 o (.inr (4, [.ref (o + 1), .ref (o + 2), .int 0, .ref (o + 3), .int 0, .int 0, .int (-1), .ref (o + 4), .int 0, .int 0, .null, .null, .null, .null, .null, .int 0, .int 0, .int 0, .int 0, .null])) = h13
  have q10 : h13 o = some (.inr (4, [.ref (o + 1), .ref (o + 2), .int 0, .ref (o + 3), .int 0, .int 0, .int (-1), .ref (o + 4), .int 0, .int 0, .null, .null, .null, .null, .null, .int 0, .int 0, .int 0, .int 0, .null])) := by rw [← e13, g_up_s]
  generalize e14 : g_up h13 o (.inr (4, [.ref (o + 1), .ref (o + 2), .int 0, .ref (o + 3), .int 0, .int 0, .int (-1), .ref (o + 4), .int 0, .int 0, .null, .null, .null, .null, .null, .int 0, .int 0, .int 0, .int 0, .null])) = h14
  generalize e15 : g_up h14 (o + 5) (.inl (0, 6, .inl fun _ => 0)) = h15
  have q11 : h15 o = some (.inr (4, [.ref (o + 1), .ref (o + 2), .int 0, .ref (o + 3), .int 0, .int 0, .int (-1), .ref (o + 4), .int 0, .int 0, .null, .null, .null, .null, .null, .int 0, .int 0, .int 0, .int 0, .null])) := by rw [← e15, g_up_n (by omega), ← e14, g_up_s]
  generalize e16 : g_up h15 o (.inr (4, [.ref (o + 1), .ref (o + 2), .int 0, .ref (o + 3), .int 0, .int 0, .int (-1), .ref (o + 4), .int 0, .int 0, .ref (o + 5), .null, .null, .null, .null, .int 0, .int 0, .int 0, .int 0, .null])) = h16
  generalize e17 : g_up h16 (o + 6) (.inl (0, 6, .inl fun _ => 0)) = h17
  have q12 : h17 o = some (.inr (4, [.ref (o + 1), .ref (o + 2), .int 0, .ref (o + 3), .int 0, .int 0, .int (-1), .ref (o + 4), .int 0, .int 0, .ref (o + 5), .null, .null, .null, .null, .int 0, .int 0, .int 0, .int 0, .null])) := by rw [← e17, g_up_n (by omega), ← e16, g_up_s]
  generalize e18 : g_up h17 o (.inr (4, [.ref (o + 1), .ref (o + 2), .int 0, .ref (o + 3), .int 0, .int 0, .int (-1), .ref (o + 4), .int 0, .int 0, .ref (o + 5), .ref (o + 6), .null, .null, .null, .int 0, .int 0, .int 0, .int 0, .null])) = h18
  generalize e19 : g_up h18 (o + 7) (.inl (2, 6, .inl fun _ => 0)) = h19
  have q13 : h19 o = some (.inr (4, [.ref (o + 1), .ref (o + 2), .int 0, .ref (o + 3), .int 0, .int 0, .int (-1), .ref (o + 4), .int 0, .int 0, .ref (o + 5), .ref (o + 6), .null, .null, .null, .int 0, .int 0, .int 0, .int 0, .null])) := by rw [← e19, g_up_n (by omega), ← e18, g_up_s]
  generalize e20 : g_up h19 o (.inr (4, [.ref (o + 1), .ref (o + 2), .int 0, .ref (o + 3), .int 0, .int 0, .int (-1), .ref (o + 4), .int 0, .int 0, .ref (o + 5), .ref (o + 6), .ref (o + 7), .null, .null, .int 0, .int 0, .int 0, .int 0, .null])) = h20
  generalize e21 : g_up h20 (o + 8) (.inl (0, 1600, .inl fun _ => 0)) = h21
  have q14 : h21 o = some (.inr (4, [.ref (o + 1), .ref (o + 2), .int 0, .ref (o + 3), .int 0, .int 0, .int (-1), .ref (o + 4), .int 0, .int 0, .ref (o + 5), .ref (o + 6), .ref (o + 7), .null, .null, .int 0, .int 0, .int 0, .int 0, .null])) := by rw [← e21, g_up_n (by omega), ← e20, g_up_s]
  generalize e22 : g_up h21 o (.inr (4, [.ref (o + 1), .ref (o + 2), .int 0, .ref (o + 3), .int 0, .int 0, .int (-1), .ref (o + 4), .int 0, .int 0, .ref (o + 5), .ref (o + 6), .ref (o + 7), .ref (o + 8), .null, .int 0, .int 0, .int 0, .int 0, .null])) = h22
  generalize e23 : g_up h22 (o + 9) (.inl (0, 6, .inl fun _ => 0)) = h23
  have q15 : h23 o = some (.inr (4, [.ref (o + 1), .ref (o + 2), .int 0, .ref (o + 3), .int 0, .int 0, .int (-1), .ref (o + 4), .int 0, .int 0, .ref (o + 5), .ref (o + 6), .ref (o + 7), .ref (o + 8), .null, .int 0, .int 0, .int 0, .int 0, .null])) := by rw [← e23, g_up_n (by omega), ← e22, g_up_s]
  generalize e24 : g_up h23 o (.inr (4, [.ref (o + 1), .ref (o + 2), .int 0, .ref (o + 3), .int 0, .int 0, .int (-1), .ref (o + 4), .int 0, .int 0, .ref (o + 5), .ref (o + 6), .ref (o + 7), .ref (o + 8), .ref (o + 9), .int 0, .int 0, .int 0, .int 0, .null])) = h24
  have q16 : h24 o = some (.inr (4, [.ref (o + 1), .ref (o + 2), .int 0, .ref (o + 3), .int 0, .int 0, .int (-1), .ref (o + 4), .int 0, .int 0, .ref (o + 5), .ref (o + 6), .ref (o + 7), .ref (o + 8), .ref (o + 9), .int 0, .int 0, .int 0, .int 0, .null])) := by rw [← e24, g_up_s]
  generalize e25 : g_up h24 o (.inr (4, [.ref (o + 1), .ref (o + 2), .int 0, .ref (o + 3), .int 0, .int 0, .int (-1), .ref (o + 4), .int 0, .int 0, .ref (o + 5), .ref (o + 6), .ref (o + 7), .ref (o + 8), .ref (o + 9), .int 0, .int 0, .int 0, .int 0, .null])) = h25
  have q17 : h25 o = some (.inr (4, [.ref (o + 1), .ref (o + 2), .int 0, .ref (o + 3), .int 0, .int 0, .int (-1), .ref (o + 4), .int 0, .int 0, .ref (o + 5), .ref (o + 6), .ref (o + 7), .ref (o + 8), .ref (o + 9), .int 0, .int 0, .int 0, .int 0, .null])) := by rw [← e25, g_up_s]
  generalize e26 : g_up h25 o (.inr (4, [.ref (o + 1), .ref (o + 2), .int 0, .ref (o + 3), .int 0, .int 0, .int (-1), .ref (o + 4), .int 0, .int 0, .ref (o + 5), .ref (o + 6), .ref (o + 7), .ref (o + 8), .ref (o + 9), .int 0, .int 0, .int 0, .int 0, .null])) = h26
  have q18 : h26 o = some (.inr (4, [.ref (o + 1), .ref (o + 2), .int 0, .ref (o + 3), .int 0, .int 0, .int (-1), .ref (o + 4), .int 0, .int 0, .ref (o + 5), .ref (o + 6), .ref (o + 7), .ref (o + 8), .ref (o + 9), .int 0, .int 0, .int 0, .int 0, .null])) := by rw [← e26, g_up_s]
  generalize e27 : g_up h26 o (.inr (4, [.ref (o + 1), .ref (o + 2), .int 0, .ref (o + 3), .int 0, .int 0, .int (-1), .ref (o + 4), .int 0, .int 0, .ref (o + 5), .ref (o + 6), .ref (o + 7), .ref (o + 8), .ref (o + 9), .int 0, .int 0, .int 0, .int 0, .null])) = h27
  have q19 : h27 o = some (.inr (4, [.ref (o + 1), .ref (o + 2), .int 0, .ref (o + 3), .int 0, .int 0, .int (-1), .ref (o + 4), .int 0, .int 0, .ref (o + 5), .ref (o + 6), .ref (o + 7), .ref (o + 8), .ref (o + 9), .int 0, .int 0, .int 0, .int 0, .null])) := by rw [← e27, g_up_s]
  generalize e28 : g_up h27 o (.inr (4, [.ref (o + 1), .ref (o + 2), .int 0, .ref (o + 3), .int 0, .int 0, .int (-1), .ref (o + 4), .int 0, .int 0, .ref (o + 5), .ref (o + 6), .ref (o + 7), .ref (o + 8), .ref (o + 9), .int 0, .int 0, .int 0, .int 0, .null])) = h28
  generalize e29 : g_up h28 (o + 10) (.inl (0, 120, .inl fun _ => 0)) = h29
  have q20 : h29 o = some (.inr (4, [.ref (o + 1), .ref (o + 2), .int 0, .ref (o + 3), .int 0, .int 0, .int (-1), .ref (o + 4), .int 0, .int 0, .ref (o + 5), .ref (o + 6), .ref (o + 7), .ref (o + 8), .ref (o + 9), .int 0, .int 0, .int 0, .int 0, .null])) := by rw [← e29, g_up_n (by omega), ← e28, g_up_s]
  generalize e30 : g_up h29 o (.inr (4, [.ref (o + 1), .ref (o + 2), .int 0, .ref (o + 3), .int 0, .int 0, .int (-1), .ref (o + 4), .int 0, .int 0, .ref (o + 5), .ref (o + 6), .ref (o + 7), .ref (o + 8), .ref (o + 9), .int 0, .int 0, .int 0, .int 0, .ref (o + 10)])) = h30
  have eF : h30 = mH hb o (fun _ => 0) (fun _ => 0) 0 (fun _ => 0) 0 0 (-1) (fun _ => 0) 0 0 (fun _ => 0) (fun _ => 0) (fun _ => 0) (fun _ => 0) (fun _ => 0) 0 0 0 0 (fun _ => 0) := by
    funext b
    by_cases c0 : b = o
    · rw [c0, show h30 o = some (.inr (4, [.ref (o + 1), .ref (o + 2), .int 0, .ref (o + 3), .int 0, .int 0, .int (-1), .ref (o + 4), .int 0, .int 0, .ref (o + 5), .ref (o + 6), .ref (o + 7), .ref (o + 8), .ref (o + 9), .int 0, .int 0, .int 0, .int 0, .ref (o + 10)])) from by rw [← e30, g_up_s]]
      exact mH_0.symm
    by_cases c1 : b = o + 1
    · rw [c1, show h30 (o + 1) = some (.inl (0, 2120, .inl fun _ => 0)) from by rw [← e30, g_up_n (by omega), ← e29, g_up_n (by omega), ← e28, g_up_n (by omega), ← e27, g_up_n (by omega), ← e26, g_up_n (by omega), ← e25, g_up_n (by omega), ← e24, g_up_n (by omega), ← e23, g_up_n (by omega), ← e22, g_up_n (by omega), ← e21, g_up_n (by omega), ← e20, g_up_n (by omega), ← e19, g_up_n (by omega), ← e18, g_up_n (by omega), ← e17, g_up_n (by omega), ← e16, g_up_n (by omega), ← e15, g_up_n (by omega), ← e14, g_up_n (by omega), ← e13, g_up_n (by omega), ← e12, g_up_n (by omega), ← e11, g_up_n (by omega), ← e10, g_up_n (by omega), ← e9, g_up_n (by omega), ← e8, g_up_n (by omega), ← e7, g_up_n (by omega), ← e6, g_up_n (by omega), ← e5, g_up_n (by omega), ← e4, g_up_n (by omega), ← e3, g_up_n (by omega), ← e2, g_up_n (by omega), ← e1, g_up_s]]
      exact mH_aaM.symm
    by_cases c2 : b = o + 2
    · rw [c2, show h30 (o + 2) = some (.inl (2, 2, .inl fun _ => 0)) from by rw [← e30, g_up_n (by omega), ← e29, g_up_n (by omega), ← e28, g_up_n (by omega), ← e27, g_up_n (by omega), ← e26, g_up_n (by omega), ← e25, g_up_n (by omega), ← e24, g_up_n (by omega), ← e23, g_up_n (by omega), ← e22, g_up_n (by omega), ← e21, g_up_n (by omega), ← e20, g_up_n (by omega), ← e19, g_up_n (by omega), ← e18, g_up_n (by omega), ← e17, g_up_n (by omega), ← e16, g_up_n (by omega), ← e15, g_up_n (by omega), ← e14, g_up_n (by omega), ← e13, g_up_n (by omega), ← e12, g_up_n (by omega), ← e11, g_up_n (by omega), ← e10, g_up_n (by omega), ← e9, g_up_n (by omega), ← e8, g_up_n (by omega), ← e7, g_up_n (by omega), ← e6, g_up_n (by omega), ← e5, g_up_n (by omega), ← e4, g_up_n (by omega), ← e3, g_up_s]]
      exact mH_aaS.symm
    by_cases c3 : b = o + 3
    · rw [c3, show h30 (o + 3) = some (.inl (0, 600, .inl fun _ => 0)) from by rw [← e30, g_up_n (by omega), ← e29, g_up_n (by omega), ← e28, g_up_n (by omega), ← e27, g_up_n (by omega), ← e26, g_up_n (by omega), ← e25, g_up_n (by omega), ← e24, g_up_n (by omega), ← e23, g_up_n (by omega), ← e22, g_up_n (by omega), ← e21, g_up_n (by omega), ← e20, g_up_n (by omega), ← e19, g_up_n (by omega), ← e18, g_up_n (by omega), ← e17, g_up_n (by omega), ← e16, g_up_n (by omega), ← e15, g_up_n (by omega), ← e14, g_up_n (by omega), ← e13, g_up_n (by omega), ← e12, g_up_n (by omega), ← e11, g_up_n (by omega), ← e10, g_up_n (by omega), ← e9, g_up_n (by omega), ← e8, g_up_n (by omega), ← e7, g_up_n (by omega), ← e6, g_up_s]]
      exact mH_aaB.symm
    by_cases c4 : b = o + 4
    · rw [c4, show h30 (o + 4) = some (.inl (0, 240, .inl fun _ => 0)) from by rw [← e30, g_up_n (by omega), ← e29, g_up_n (by omega), ← e28, g_up_n (by omega), ← e27, g_up_n (by omega), ← e26, g_up_n (by omega), ← e25, g_up_n (by omega), ← e24, g_up_n (by omega), ← e23, g_up_n (by omega), ← e22, g_up_n (by omega), ← e21, g_up_n (by omega), ← e20, g_up_n (by omega), ← e19, g_up_n (by omega), ← e18, g_up_n (by omega), ← e17, g_up_n (by omega), ← e16, g_up_n (by omega), ← e15, g_up_n (by omega), ← e14, g_up_n (by omega), ← e13, g_up_n (by omega), ← e12, g_up_n (by omega), ← e11, g_up_s]]
      exact mH_aaR.symm
    by_cases c5 : b = o + 5
    · rw [c5, show h30 (o + 5) = some (.inl (0, 6, .inl fun _ => 0)) from by rw [← e30, g_up_n (by omega), ← e29, g_up_n (by omega), ← e28, g_up_n (by omega), ← e27, g_up_n (by omega), ← e26, g_up_n (by omega), ← e25, g_up_n (by omega), ← e24, g_up_n (by omega), ← e23, g_up_n (by omega), ← e22, g_up_n (by omega), ← e21, g_up_n (by omega), ← e20, g_up_n (by omega), ← e19, g_up_n (by omega), ← e18, g_up_n (by omega), ← e17, g_up_n (by omega), ← e16, g_up_n (by omega), ← e15, g_up_s]]
      exact mH_aaT.symm
    by_cases c6 : b = o + 6
    · rw [c6, show h30 (o + 6) = some (.inl (0, 6, .inl fun _ => 0)) from by rw [← e30, g_up_n (by omega), ← e29, g_up_n (by omega), ← e28, g_up_n (by omega), ← e27, g_up_n (by omega), ← e26, g_up_n (by omega), ← e25, g_up_n (by omega), ← e24, g_up_n (by omega), ← e23, g_up_n (by omega), ← e22, g_up_n (by omega), ← e21, g_up_n (by omega), ← e20, g_up_n (by omega), ← e19, g_up_n (by omega), ← e18, g_up_n (by omega), ← e17, g_up_s]]
      exact mH_aaC.symm
    by_cases c7 : b = o + 7
    · rw [c7, show h30 (o + 7) = some (.inl (2, 6, .inl fun _ => 0)) from by rw [← e30, g_up_n (by omega), ← e29, g_up_n (by omega), ← e28, g_up_n (by omega), ← e27, g_up_n (by omega), ← e26, g_up_n (by omega), ← e25, g_up_n (by omega), ← e24, g_up_n (by omega), ← e23, g_up_n (by omega), ← e22, g_up_n (by omega), ← e21, g_up_n (by omega), ← e20, g_up_n (by omega), ← e19, g_up_s]]
      exact mH_aaH.symm
    by_cases c8 : b = o + 8
    · rw [c8, show h30 (o + 8) = some (.inl (0, 1600, .inl fun _ => 0)) from by rw [← e30, g_up_n (by omega), ← e29, g_up_n (by omega), ← e28, g_up_n (by omega), ← e27, g_up_n (by omega), ← e26, g_up_n (by omega), ← e25, g_up_n (by omega), ← e24, g_up_n (by omega), ← e23, g_up_n (by omega), ← e22, g_up_n (by omega), ← e21, g_up_s]]
      exact mH_aaE.symm
    by_cases c9 : b = o + 9
    · rw [c9, show h30 (o + 9) = some (.inl (0, 6, .inl fun _ => 0)) from by rw [← e30, g_up_n (by omega), ← e29, g_up_n (by omega), ← e28, g_up_n (by omega), ← e27, g_up_n (by omega), ← e26, g_up_n (by omega), ← e25, g_up_n (by omega), ← e24, g_up_n (by omega), ← e23, g_up_s]]
      exact mH_aaQ.symm
    by_cases c10 : b = o + 10
    · rw [c10, show h30 (o + 10) = some (.inl (0, 120, .inl fun _ => 0)) from by rw [← e30, g_up_n (by omega), ← e29, g_up_s]]
      exact mH_aaK.symm
    rw [← e30, g_up_n (by omega), ← e29, g_up_n (by omega), ← e28, g_up_n (by omega), ← e27, g_up_n (by omega), ← e26, g_up_n (by omega), ← e25, g_up_n (by omega), ← e24, g_up_n (by omega), ← e23, g_up_n (by omega), ← e22, g_up_n (by omega), ← e21, g_up_n (by omega), ← e20, g_up_n (by omega), ← e19, g_up_n (by omega), ← e18, g_up_n (by omega), ← e17, g_up_n (by omega), ← e16, g_up_n (by omega), ← e15, g_up_n (by omega), ← e14, g_up_n (by omega), ← e13, g_up_n (by omega), ← e12, g_up_n (by omega), ← e11, g_up_n (by omega), ← e10, g_up_n (by omega), ← e9, g_up_n (by omega), ← e8, g_up_n (by omega), ← e7, g_up_n (by omega), ← e6, g_up_n (by omega), ← e5, g_up_n (by omega), ← e4, g_up_n (by omega), ← e3, g_up_n (by omega), ← e2, g_up_n (by omega), ← e1, g_up_n (by omega), ← ez, g_up_n (by omega), mH_ot2 (by omega)]
  have fc0 : fb0 0 = fun _ => 0 := by funext j; unfold fb0; rw [if_neg (Nat.not_lt_zero j)]
  have hloop := ctM (o := o) (n := o + 11) (hb := hb) hd 91 0 gN (by omega) (by unfold gN; omega)
  rw [fc0] at hloop
  have hloop' : gL2 (f_X6_init_L142 x o (x.2.2.1 0) (o + 11)) gN (0 : Int32) (mH hb o (fun _ => 0) (fun _ => 0) 0 (fun _ => 0) 0 0 (-1) (fun _ => 0) 0 0 (fun _ => 0) (fun _ => 0) (fun _ => 0) (fun _ => 0) (fun _ => 0) 0 0 0 0 (fun _ => 0)) = f_X6_init_J167 x o (x.2.2.1 0) (mH hb o (fun _ => 0) (fun _ => 0) 0 (fb0 91) 0 0 (-1) (fun _ => 0) 0 0 (fun _ => 0) (fun _ => 0) (fun _ => 0) (fun _ => 0) (fun _ => 0) 0 0 0 0 (fun _ => 0)) (o + 11) := hloop
  have hl := wL_ok (x := x) hd (i := 0) (by decide)
  rw [w0_len] at hl
  obtain ⟨iV', t1, t2⟩ := mTk (iY := 0) (iF := 0) (iV := 0) fb0_by (by omega) (Nat.zero_le 91)
  have t1' : f_X6_token (fb0 91) (iI (91 : Nat)) (0 : Int32) 0 0 0 = some (iI (tkZ B0 91 0).e, iI (kM B0 (tkZ B0 91 0)), iI (tkZ B0 91 0).s, iV') := t1
  have hset := mSet (x := x) (m := fun _ => 0) (iE := 0) (iP := -1) hd fb0_by (by omega) (iA := iI (tkZ B0 91 0).e) (iY := iI (kM B0 (tkZ B0 91 0))) (iF := iI (tkZ B0 91 0).s) (iV := iV') ⟨rfl, rfl, rfl, t2⟩
  rw [hS] at hset
  obtain ⟨m', a1, a2, a3, a4, y1, y2, y3, -⟩ := hset
  have hR : mR (mH hb o (fun _ => 0) (fun _ => 0) 0 (fb0 91) (iI (91 : Nat)) 0 (-1) (fun _ => 0) 0 0 (fun _ => 0) (fun _ => 0) (fun _ => 0) (fun _ => 0) (fun _ => 0) 0 0 0 0 (fun _ => 0)) o = some (fun _ => 0, fun _ => 0, 0, fb0 91, iI (91 : Nat), 0, -1, fun _ => 0, 0, 0, fun _ => 0, fun _ => 0, fun _ => 0, fun _ => 0, fun _ => 0, 0, 0, 0, 0, fun _ => 0) := mR_s (M := (fun _ => 0, fun _ => 0, 0, fb0 91, iI (91 : Nat), 0, -1, fun _ => 0, 0, 0, fun _ => 0, fun _ => 0, fun _ => 0, fun _ => 0, fun _ => 0, 0, 0, 0, 0, fun _ => 0))
  refine ⟨m', fb0 91, a1, a2, a3, a4, ?_, y3⟩
  unfold f_X6_init
  rw [show g_nI hz (o + 1) 0 2120 (2120 : Int32) = some ((o + 1), h1, o + 2) from by rw [← e1]; exact nI_at (z := 2120) (by decide) (by decide) (by decide), gT3_s, show g_pf h1 o 4 0 (.ref (o + 1)) = some h2 from by rw [pf_at q1 (by show _ < 20; decide), ← e2]; rfl, gB_s, show g_nI h2 (o + 2) 2 2 (2 : Int32) = some ((o + 2), h3, o + 3) from by rw [← e3]; exact nI_at (z := 2) (by decide) (by decide) (by decide), gT3_s, show g_pf h3 o 4 1 (.ref (o + 2)) = some h4 from by rw [pf_at q2 (by show _ < 20; decide), ← e4]; rfl, gB_s, show g_pf h4 o 4 2 (.int 0) = some h5 from by rw [pf_at q3 (by show _ < 20; decide), ← e5]; rfl, gB_s, show g_nI h5 (o + 3) 0 600 (600 : Int32) = some ((o + 3), h6, o + 4) from by rw [← e6]; exact nI_at (z := 600) (by decide) (by decide) (by decide), gT3_s, show g_pf h6 o 4 3 (.ref (o + 3)) = some h7 from by rw [pf_at q4 (by show _ < 20; decide), ← e7]; rfl, gB_s, show g_pf h7 o 4 4 (.int 0) = some h8 from by rw [pf_at q5 (by show _ < 20; decide), ← e8]; rfl, gB_s, show g_pf h8 o 4 5 (.int 0) = some h9 from by rw [pf_at q6 (by show _ < 20; decide), ← e9]; rfl, gB_s, show g_pf h9 o 4 6 (.int (-1)) = some h10 from by rw [pf_at q7 (by show _ < 20; decide), ← e10]; rfl, gB_s, show g_nI h10 (o + 4) 0 240 (240 : Int32) = some ((o + 4), h11, o + 5) from by rw [← e11]; exact nI_at (z := 240) (by decide) (by decide) (by decide), gT3_s, show g_pf h11 o 4 7 (.ref (o + 4)) = some h12 from by rw [pf_at q8 (by show _ < 20; decide), ← e12]; rfl, gB_s, show g_pf h12 o 4 8 (.int 0) = some h13 from by rw [pf_at q9 (by show _ < 20; decide), ← e13]; rfl, gB_s, show g_pf h13 o 4 9 (.int 0) = some h14 from by rw [pf_at q10 (by show _ < 20; decide), ← e14]; rfl, gB_s, show g_nI h14 (o + 5) 0 6 (6 : Int32) = some ((o + 5), h15, o + 6) from by rw [← e15]; exact nI_at (z := 6) (by decide) (by decide) (by decide), gT3_s, show g_pf h15 o 4 10 (.ref (o + 5)) = some h16 from by rw [pf_at q11 (by show _ < 20; decide), ← e16]; rfl, gB_s, show g_nI h16 (o + 6) 0 6 (6 : Int32) = some ((o + 6), h17, o + 7) from by rw [← e17]; exact nI_at (z := 6) (by decide) (by decide) (by decide), gT3_s, show g_pf h17 o 4 11 (.ref (o + 6)) = some h18 from by rw [pf_at q12 (by show _ < 20; decide), ← e18]; rfl, gB_s, show g_nI h18 (o + 7) 2 6 (6 : Int32) = some ((o + 7), h19, o + 8) from by rw [← e19]; exact nI_at (z := 6) (by decide) (by decide) (by decide), gT3_s, show g_pf h19 o 4 12 (.ref (o + 7)) = some h20 from by rw [pf_at q13 (by show _ < 20; decide), ← e20]; rfl, gB_s, show g_nI h20 (o + 8) 0 1600 (1600 : Int32) = some ((o + 8), h21, o + 9) from by rw [← e21]; exact nI_at (z := 1600) (by decide) (by decide) (by decide), gT3_s, show g_pf h21 o 4 13 (.ref (o + 8)) = some h22 from by rw [pf_at q14 (by show _ < 20; decide), ← e22]; rfl, gB_s, show g_nI h22 (o + 9) 0 6 (6 : Int32) = some ((o + 9), h23, o + 10) from by rw [← e23]; exact nI_at (z := 6) (by decide) (by decide) (by decide), gT3_s, show g_pf h23 o 4 14 (.ref (o + 9)) = some h24 from by rw [pf_at q15 (by show _ < 20; decide), ← e24]; rfl, gB_s, show g_pf h24 o 4 15 (.int 0) = some h25 from by rw [pf_at q16 (by show _ < 20; decide), ← e25]; rfl, gB_s, show g_pf h25 o 4 16 (.int 0) = some h26 from by rw [pf_at q17 (by show _ < 20; decide), ← e26]; rfl, gB_s, show g_pf h26 o 4 17 (.int 0) = some h27 from by rw [pf_at q18 (by show _ < 20; decide), ← e27]; rfl, gB_s, show g_pf h27 o 4 18 (.int 0) = some h28 from by rw [pf_at q19 (by show _ < 20; decide), ← e28]; rfl, gB_s, show g_nI h28 (o + 10) 0 120 (120 : Int32) = some ((o + 10), h29, o + 11) from by rw [← e29]; exact nI_at (z := 120) (by decide) (by decide) (by decide), gT3_s, show g_pf h29 o 4 19 (.ref (o + 10)) = some h30 from by rw [pf_at q20 (by show _ < 20; decide), ← e30]; rfl, gB_s, eF, hloop']
  unfold f_X6_init_J167 f_X6_begin
  rw [hl, gB_s, pf_at mH_0 (by show _ < 20; decide), gB_s, mH_iL, hR, gB_s]
  show gT6 (gT4 (f_X6_token (fb0 91) (iI (91 : Nat)) (0 : Int32) 0 0 0) _) _ = _
  rw [t1', gT4_s, gT6_s]
  show gT8 (f_X6_parseSetup x (fun _ => 0) (fb0 91) (iI (91 : Nat)) 0 (-1) (iI (tkZ B0 91 0).e) (iI (kM B0 (tkZ B0 91 0))) (iI (tkZ B0 91 0).s) iV') _ = _
  rw [y1, gT8_s, pf_at mH_0 (by show _ < 20; decide), gB_s, mH_iL]
  exact congrArg (fun z => some (z, o + 11)) (mH_idem (h := hb) (o := o) (m', fun _ => 0, 0, fb0 91, 0, 0, -1, fun _ => 0, 0, 0, fun _ => 0, fun _ => 0, fun _ => 0, fun _ => 0, fun _ => 0, a1, a2, a3, a4, fun _ => 0) (fun _ => 0, fun _ => 0, 0, fb0 91, iI (91 : Nat), 0, -1, fun _ => 0, 0, 0, fun _ => 0, fun _ => 0, fun _ => 0, fun _ => 0, fun _ => 0, 0, 0, 0, 0, fun _ => 0))
end CM
