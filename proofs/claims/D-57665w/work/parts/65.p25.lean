/-! THE LAW, CASES 2: reads that run an algorithm on a copy -/
theorem lc_nameByte {x : gV} {zL : Nat} {zx : Nat → Int32} {r28 : Int32 → gH → Nat → Option Int32} {cd o i : Nat} {h : gH} {n : Nat} (w : gWx cd o h n) (hi : i + 6 ≤ zL) (hz : zL ≤ 144) (hr : ∀ h n, gWx cd o h n → r28 (iI i + (6 : Int32)) h n = some (1 : Int32)) : f_L_law_J544 x zL zx r28 cd o (o + 11) (o + 12) (iI i) h n = some (1 : Int32) := by
  obtain ⟨M, st, S, sa, len, hd, hs, HS, fv, VS, w⟩ := w
  obtain ⟨c, v, r, e5⟩ := p_nameByte w (zx (i + 1)) (zx (i + 2)) M.iT
  obtain ⟨h', n', e1, e2, e3, e4⟩ := rd_pr (M' := (M.aM, M.aS, M.iU, M.aB, M.iL, M.iE, M.iP, M.aR, M.iW, c, M.aT, M.aC, M.aH, M.aE, M.aQ, M.iA, M.iY, M.iF, M.iV, M.aK)) w r ⟨fun _ _ => rfl, rfl, rfl, rfl, rfl, rfl, rfl, rfl, rfl⟩
  unfold f_L_law_J544
  simp only [raZ1 hi hz, raZ2 hi hz, gB_s, e1, gTX_l, e2, e5, gT2_s]
  exact tlI rfl (fun hc => (aL_H (M := (M.aM, M.aS, M.iU, M.aB, M.iL, M.iE, M.iP, M.aR, M.iW, c, M.aT, M.aC, M.aH, M.aE, M.aQ, M.iA, M.iY, M.iF, M.iV, M.aK)) (by omega)).trans (e3 hc)) (hr _ _ e4)

theorem lc_outputByte {x : gV} {zL : Nat} {zx : Nat → Int32} {r28 : Int32 → gH → Nat → Option Int32} {cd o i : Nat} {h : gH} {n : Nat} (w : gWx cd o h n) (hi : i + 6 ≤ zL) (hz : zL ≤ 144) (hr : ∀ h n, gWx cd o h n → r28 (iI i + (6 : Int32)) h n = some (1 : Int32)) : f_L_law_J2828 x zL zx r28 cd o (o + 11) (o + 12) (iI i) h n = some (1 : Int32) := by
  obtain ⟨M, st, S, sa, len, hd, hs, HS, fv, VS, w⟩ := w
  obtain ⟨c, v, r, e5⟩ := p_outputByte w (zx (i + 1)) M.iT
  obtain ⟨h', n', e1, e2, e3, e4⟩ := rd_pr (M' := (M.aM, M.aS, M.iU, M.aB, M.iL, M.iE, M.iP, M.aR, M.iW, c, M.aT, M.aC, M.aH, M.aE, M.aQ, M.iA, M.iY, M.iF, M.iV, M.aK)) w r ⟨fun _ _ => rfl, rfl, rfl, rfl, rfl, rfl, rfl, rfl, rfl⟩
  unfold f_L_law_J2828
  simp only [raZ1 hi hz, gB_s, e1, gTX_l, e2, e5, gT2_s]
  exact tlI rfl (fun hc => (aL_H (M := (M.aM, M.aS, M.iU, M.aB, M.iL, M.iE, M.iP, M.aR, M.iW, c, M.aT, M.aC, M.aH, M.aE, M.aQ, M.iA, M.iY, M.iF, M.iV, M.aK)) (by omega)).trans (e3 hc)) (hr _ _ e4)

theorem lc_welfareByKnife {x : gV} {zL : Nat} {zx : Nat → Int32} {r28 : Int32 → gH → Nat → Option Int32} {cd o i : Nat} {h : gH} {n : Nat} (w : gWx cd o h n) (hi : i + 6 ≤ zL) (hz : zL ≤ 144) (hr : ∀ h n, gWx cd o h n → r28 (iI i + (6 : Int32)) h n = some (1 : Int32)) : f_L_law_J1989 x zL zx r28 cd o (o + 11) (o + 12) (iI i) h n = some (1 : Int32) := by
  obtain ⟨M, st, S, sa, len, hd, hs, HS, fv, VS, w⟩ := w
  obtain ⟨c, v, aM', aH', r, e5, eM⟩ := p_welfareByKnife w (zx (i + 1)) M.iT M.aH
  obtain ⟨h', n', e1, e2, e3, e4⟩ := rd_pr (M' := (aM', M.aS, M.iU, M.aB, M.iL, M.iE, M.iP, M.aR, M.iW, c, M.aT, M.aC, aH', M.aE, M.aQ, M.iA, M.iY, M.iF, M.iV, M.aK)) w r ⟨eM, rfl, rfl, rfl, rfl, rfl, rfl, rfl, rfl⟩
  unfold f_L_law_J1989
  simp only [raZ1 hi hz, gB_s, e1, gTX_l, e2, e5, gT4_s]
  exact tlI rfl (fun hc => (aL_H (M := (aM', M.aS, M.iU, M.aB, M.iL, M.iE, M.iP, M.aR, M.iW, c, M.aT, M.aC, aH', M.aE, M.aQ, M.iA, M.iY, M.iF, M.iV, M.aK)) (by omega)).trans (e3 hc)) (hr _ _ e4)

theorem lc_welfareByRobin {x : gV} {zL : Nat} {zx : Nat → Int32} {r28 : Int32 → gH → Nat → Option Int32} {cd o i : Nat} {h : gH} {n : Nat} (w : gWx cd o h n) (hi : i + 6 ≤ zL) (hz : zL ≤ 144) (hr : ∀ h n, gWx cd o h n → r28 (iI i + (6 : Int32)) h n = some (1 : Int32)) : f_L_law_J2045 x zL zx r28 cd o (o + 11) (o + 12) (iI i) h n = some (1 : Int32) := by
  obtain ⟨M, st, S, sa, len, hd, hs, HS, fv, VS, w⟩ := w
  obtain ⟨c, v, aM', r, e5, eM⟩ := p_welfareByRobin w (zx (i + 1)) (zx (i + 2)) M.iT
  obtain ⟨h', n', e1, e2, e3, e4⟩ := rd_pr (M' := (aM', M.aS, M.iU, M.aB, M.iL, M.iE, M.iP, M.aR, M.iW, c, M.aT, M.aC, M.aH, M.aE, M.aQ, M.iA, M.iY, M.iF, M.iV, M.aK)) w r ⟨eM, rfl, rfl, rfl, rfl, rfl, rfl, rfl, rfl⟩
  unfold f_L_law_J2045
  simp only [raZ1 hi hz, raZ2 hi hz, gB_s, e1, gTX_l, e2, e5, gT3_s]
  exact tlI rfl (fun hc => (aL_H (M := (aM', M.aS, M.iU, M.aB, M.iL, M.iE, M.iP, M.aR, M.iW, c, M.aT, M.aC, M.aH, M.aE, M.aQ, M.iA, M.iY, M.iF, M.iV, M.aK)) (by omega)).trans (e3 hc)) (hr _ _ e4)

theorem lc_bestFirst {x : gV} {zL : Nat} {zx : Nat → Int32} {r28 : Int32 → gH → Nat → Option Int32} {cd o i : Nat} {h : gH} {n : Nat} (w : gWx cd o h n) (hi : i + 6 ≤ zL) (hz : zL ≤ 144) (hr : ∀ h n, gWx cd o h n → r28 (iI i + (6 : Int32)) h n = some (1 : Int32)) : f_L_law_J2113 x zL zx r28 cd o (o + 11) (o + 12) (iI i) h n = some (1 : Int32) := by
  obtain ⟨M, st, S, sa, len, hd, hs, HS, fv, VS, w⟩ := w
  obtain ⟨v, h', n', t, aM', u, e1, e2, eM⟩ := p_bestFirst w M.iT
  obtain ⟨fs0, ob⟩ := w.2.2.2.2.1.ob
  have hw := w.rd (M' := (aM', M.aS, M.iU, M.aB, M.iL, M.iE, M.iP, M.aR, M.iW, t, M.aT, M.aC, M.aH, M.aE, M.aQ, M.iA, M.iY, M.iF, M.iV, M.aK)) u.no (w.2.2.2.1.mono w.1 u) ⟨eM, rfl, rfl, rfl, rfl, rfl, rfl, rfl, rfl⟩
  have hM := w.mR' u.no
  have hJ : f_L_law_J2884 x zL zx r28 cd o (o + 11) (o + 12) (iI i) (gMS.H (aM', M.aS, M.iU, M.aB, M.iL, M.iE, M.iP, M.aR, M.iW, t, M.aT, M.aC, M.aH, M.aE, M.aQ, M.iA, M.iY, M.iF, M.iV, M.aK) h' o) n' = some (1 : Int32) := hr _ _ ⟨_, _, _, _, _, _, _, _, _, _, hw⟩
  unfold f_L_law_J2113
  simp only [ob, gB_s, e1, gT3_s, hM, e2]
  exact (if_pos trivial).trans hJ

