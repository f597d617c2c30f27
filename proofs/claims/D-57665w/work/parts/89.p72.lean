/-! THE LAW, CASES: contiguous shares -/
theorem lc_greatestContiguousWelfare {x : gV} {zL : Nat} {zx : Nat → Int32} {r28 : Int32 → gH → Nat → Option Int32} {cd o i : Nat} {h : gH} {n : Nat} (w : gWx cd o h n) (hi : i + 6 ≤ zL) (hz : zL ≤ 144) (hr : ∀ h n, gWx cd o h n → r28 (iI i + (6 : Int32)) h n = some (1 : Int32)) : f_L_law_J1762 x zL zx r28 cd o (o + 11) (o + 12) (iI i) h n = some (1 : Int32) := by
  obtain ⟨M, st, S, sa, len, hd, hs, HS, fv, VS, w⟩ := w
  obtain ⟨v, h', n', t, aE', u, e1, e2⟩ := p_greatestContiguousWelfare w M.iT M.aE
  obtain ⟨fs0, ob⟩ := w.2.2.2.2.1.ob
  have hw := w.rd (M' := (M.aM, M.aS, M.iU, M.aB, M.iL, M.iE, M.iP, M.aR, M.iW, t, M.aT, M.aC, M.aH, aE', M.aQ, M.iA, M.iY, M.iF, M.iV, M.aK)) u.no (w.2.2.2.1.mono w.1 u) ⟨fun _ _ => rfl, rfl, rfl, rfl, rfl, rfl, rfl, rfl, rfl⟩
  have hM := w.mR' u.no
  have hJ : f_L_law_J2884 x zL zx r28 cd o (o + 11) (o + 12) (iI i) (gMS.H (M.aM, M.aS, M.iU, M.aB, M.iL, M.iE, M.iP, M.aR, M.iW, t, M.aT, M.aC, M.aH, aE', M.aQ, M.iA, M.iY, M.iF, M.iV, M.aK) h' o) n' = some (1 : Int32) := hr _ _ ⟨_, _, _, _, _, _, _, _, _, _, hw⟩
  unfold f_L_law_J1762
  simp only [ob, gB_s, e1, gT3_s, hM, e2]
  exact (if_pos trivial).trans hJ

theorem lc_bestLeastWelfare {x : gV} {zL : Nat} {zx : Nat → Int32} {r28 : Int32 → gH → Nat → Option Int32} {cd o i : Nat} {h : gH} {n : Nat} (w : gWx cd o h n) (hi : i + 6 ≤ zL) (hz : zL ≤ 144) (hr : ∀ h n, gWx cd o h n → r28 (iI i + (6 : Int32)) h n = some (1 : Int32)) : f_L_law_J1775 x zL zx r28 cd o (o + 11) (o + 12) (iI i) h n = some (1 : Int32) := by
  obtain ⟨M, st, S, sa, len, hd, hs, HS, fv, VS, w⟩ := w
  obtain ⟨v, h', n', t, aQ', u, e1, e2⟩ := p_bestLeastWelfare w M.iT M.aQ
  obtain ⟨fs0, ob⟩ := w.2.2.2.2.1.ob
  have hw := w.rd (M' := (M.aM, M.aS, M.iU, M.aB, M.iL, M.iE, M.iP, M.aR, M.iW, t, M.aT, M.aC, M.aH, M.aE, aQ', M.iA, M.iY, M.iF, M.iV, M.aK)) u.no (w.2.2.2.1.mono w.1 u) ⟨fun _ _ => rfl, rfl, rfl, rfl, rfl, rfl, rfl, rfl, rfl⟩
  have hM := w.mR' u.no
  have hJ : f_L_law_J2884 x zL zx r28 cd o (o + 11) (o + 12) (iI i) (gMS.H (M.aM, M.aS, M.iU, M.aB, M.iL, M.iE, M.iP, M.aR, M.iW, t, M.aT, M.aC, M.aH, M.aE, aQ', M.iA, M.iY, M.iF, M.iV, M.aK) h' o) n' = some (1 : Int32) := hr _ _ ⟨_, _, _, _, _, _, _, _, _, _, hw⟩
  unfold f_L_law_J1775
  simp only [ob, gB_s, e1, gT3_s, hM, e2]
  exact (if_pos trivial).trans hJ

