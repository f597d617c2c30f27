/-! THE LAW, CASES 7: envy cycles -/
theorem lc_rotate {x : gV} {zL : Nat} {zx : Nat → Int32} {r28 : Int32 → gH → Nat → Option Int32} {cd o i : Nat} {h : gH} {n : Nat} (w : gWx cd o h n) (hi : i + 6 ≤ zL) (hz : zL ≤ 144) (hr : ∀ h n, gWx cd o h n → r28 (iI i + (6 : Int32)) h n = some (1 : Int32)) : f_L_law_J2559 x zL zx r28 cd o (o + 11) (o + 12) (iI i) h n = some (1 : Int32) := by
  obtain ⟨M, st, S, sa, len, hd, hs, HS, fv, VS, w⟩ := w
  obtain ⟨c, v, aM', iU', aT', aC', ⟨h', n', e1, e2, e3, e4⟩, e5⟩ := p_rotate w (zx (i + 1)) M.iT
  unfold f_L_law_J2559
  simp only [raZ1 hi hz, gB_s, e1, gTX_l, e2, e5, gT6_s]
  exact tlI rfl (fun hc => (aL_H (M := (aM', M.aS, iU', M.aB, M.iL, M.iE, M.iP, M.aR, M.iW, c, aT', aC', M.aH, M.aE, M.aQ, M.iA, M.iY, M.iF, M.iV, M.aK)) (by omega)).trans (e3 hc)) (hr _ _ e4)

theorem lc_envyCycleLength {x : gV} {zL : Nat} {zx : Nat → Int32} {r28 : Int32 → gH → Nat → Option Int32} {cd o i : Nat} {h : gH} {n : Nat} (w : gWx cd o h n) (hi : i + 6 ≤ zL) (hz : zL ≤ 144) (hr : ∀ h n, gWx cd o h n → r28 (iI i + (6 : Int32)) h n = some (1 : Int32)) : f_L_law_J1510 x zL zx r28 cd o (o + 11) (o + 12) (iI i) h n = some (1 : Int32) := by
  obtain ⟨M, st, S, sa, len, hd, hs, HS, fv, VS, w⟩ := w
  obtain ⟨c, v, aT', aC', r, e5⟩ := p_envyCycleLength w (zx (i + 1)) M.iT M.aT M.aC
  obtain ⟨h', n', e1, e2, e3, e4⟩ := rd_pr (M' := (M.aM, M.aS, M.iU, M.aB, M.iL, M.iE, M.iP, M.aR, M.iW, c, aT', aC', M.aH, M.aE, M.aQ, M.iA, M.iY, M.iF, M.iV, M.aK)) w r ⟨fun _ _ => rfl, rfl, rfl, rfl, rfl, rfl, rfl, rfl, rfl⟩
  unfold f_L_law_J1510
  simp only [raZ1 hi hz, gB_s, e1, gTX_l, e2, e5, gT4_s]
  exact tlI rfl (fun hc => (aL_H (M := (M.aM, M.aS, M.iU, M.aB, M.iL, M.iE, M.iP, M.aR, M.iW, c, aT', aC', M.aH, M.aE, M.aQ, M.iA, M.iY, M.iF, M.iV, M.aK)) (by omega)).trans (e3 hc)) (hr _ _ e4)

theorem lc_envyCycleMember {x : gV} {zL : Nat} {zx : Nat → Int32} {r28 : Int32 → gH → Nat → Option Int32} {cd o i : Nat} {h : gH} {n : Nat} (w : gWx cd o h n) (hi : i + 6 ≤ zL) (hz : zL ≤ 144) (hr : ∀ h n, gWx cd o h n → r28 (iI i + (6 : Int32)) h n = some (1 : Int32)) : f_L_law_J1566 x zL zx r28 cd o (o + 11) (o + 12) (iI i) h n = some (1 : Int32) := by
  obtain ⟨M, st, S, sa, len, hd, hs, HS, fv, VS, w⟩ := w
  obtain ⟨c, v, aT', aC', r, e5⟩ := p_envyCycleMember w (zx (i + 1)) (zx (i + 2)) M.iT M.aT M.aC
  obtain ⟨h', n', e1, e2, e3, e4⟩ := rd_pr (M' := (M.aM, M.aS, M.iU, M.aB, M.iL, M.iE, M.iP, M.aR, M.iW, c, aT', aC', M.aH, M.aE, M.aQ, M.iA, M.iY, M.iF, M.iV, M.aK)) w r ⟨fun _ _ => rfl, rfl, rfl, rfl, rfl, rfl, rfl, rfl, rfl⟩
  unfold f_L_law_J1566
  simp only [raZ1 hi hz, raZ2 hi hz, gB_s, e1, gTX_l, e2, e5, gT4_s]
  exact tlI rfl (fun hc => (aL_H (M := (M.aM, M.aS, M.iU, M.aB, M.iL, M.iE, M.iP, M.aR, M.iW, c, aT', aC', M.aH, M.aE, M.aQ, M.iA, M.iY, M.iF, M.iV, M.aK)) (by omega)).trans (e3 hc)) (hr _ _ e4)

