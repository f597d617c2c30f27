/-! THE LAW, CASES 3: changes -/
theorem lc_give {x : gV} {zL : Nat} {zx : Nat → Int32} {r28 : Int32 → gH → Nat → Option Int32} {cd o i : Nat} {h : gH} {n : Nat} (w : gWx cd o h n) (hi : i + 6 ≤ zL) (hz : zL ≤ 144) (hr : ∀ h n, gWx cd o h n → r28 (iI i + (6 : Int32)) h n = some (1 : Int32)) : f_L_law_J2126 x zL zx r28 cd o (o + 11) (o + 12) (iI i) h n = some (1 : Int32) := by
  obtain ⟨M, st, S, sa, len, hd, hs, HS, fv, VS, w⟩ := w
  obtain ⟨c, v, aM', iU', ⟨h', n', e1, e2, e3, e4⟩, e5⟩ := p_give w (zx (i + 1)) (zx (i + 2)) (zx (i + 3)) M.iT
  unfold f_L_law_J2126
  simp only [raZ1 hi hz, raZ2 hi hz, raZ3 hi hz, gB_s, e1, gTX_l, e2, e5, gT4_s]
  exact tlI rfl (fun hc => (aL_H (M := (aM', M.aS, iU', M.aB, M.iL, M.iE, M.iP, M.aR, M.iW, c, M.aT, M.aC, M.aH, M.aE, M.aQ, M.iA, M.iY, M.iF, M.iV, M.aK)) (by omega)).trans (e3 hc)) (hr _ _ e4)

theorem lc_release {x : gV} {zL : Nat} {zx : Nat → Int32} {r28 : Int32 → gH → Nat → Option Int32} {cd o i : Nat} {h : gH} {n : Nat} (w : gWx cd o h n) (hi : i + 6 ≤ zL) (hz : zL ≤ 144) (hr : ∀ h n, gWx cd o h n → r28 (iI i + (6 : Int32)) h n = some (1 : Int32)) : f_L_law_J2206 x zL zx r28 cd o (o + 11) (o + 12) (iI i) h n = some (1 : Int32) := by
  obtain ⟨M, st, S, sa, len, hd, hs, HS, fv, VS, w⟩ := w
  obtain ⟨c, v, aM', iU', ⟨h', n', e1, e2, e3, e4⟩, e5⟩ := p_release w (zx (i + 1)) (zx (i + 2)) M.iT
  unfold f_L_law_J2206
  simp only [raZ1 hi hz, raZ2 hi hz, gB_s, e1, gTX_l, e2, e5, gT4_s]
  exact tlI rfl (fun hc => (aL_H (M := (aM', M.aS, iU', M.aB, M.iL, M.iE, M.iP, M.aR, M.iW, c, M.aT, M.aC, M.aH, M.aE, M.aQ, M.iA, M.iY, M.iF, M.iV, M.aK)) (by omega)).trans (e3 hc)) (hr _ _ e4)

theorem lc_swapShares {x : gV} {zL : Nat} {zx : Nat → Int32} {r28 : Int32 → gH → Nat → Option Int32} {cd o i : Nat} {h : gH} {n : Nat} (w : gWx cd o h n) (hi : i + 6 ≤ zL) (hz : zL ≤ 144) (hr : ∀ h n, gWx cd o h n → r28 (iI i + (6 : Int32)) h n = some (1 : Int32)) : f_L_law_J2274 x zL zx r28 cd o (o + 11) (o + 12) (iI i) h n = some (1 : Int32) := by
  obtain ⟨M, st, S, sa, len, hd, hs, HS, fv, VS, w⟩ := w
  obtain ⟨c, v, aM', iU', ⟨h', n', e1, e2, e3, e4⟩, e5⟩ := p_swapShares w (zx (i + 1)) (zx (i + 2)) M.iT
  unfold f_L_law_J2274
  simp only [raZ1 hi hz, raZ2 hi hz, gB_s, e1, gTX_l, e2, e5, gT4_s]
  exact tlI rfl (fun hc => (aL_H (M := (aM', M.aS, iU', M.aB, M.iL, M.iE, M.iP, M.aR, M.iW, c, M.aT, M.aC, M.aH, M.aE, M.aQ, M.iA, M.iY, M.iF, M.iV, M.aK)) (by omega)).trans (e3 hc)) (hr _ _ e4)

theorem lc_setValue {x : gV} {zL : Nat} {zx : Nat → Int32} {r28 : Int32 → gH → Nat → Option Int32} {cd o i : Nat} {h : gH} {n : Nat} (w : gWx cd o h n) (hi : i + 6 ≤ zL) (hz : zL ≤ 144) (hr : ∀ h n, gWx cd o h n → r28 (iI i + (6 : Int32)) h n = some (1 : Int32)) : f_L_law_J2342 x zL zx r28 cd o (o + 11) (o + 12) (iI i) h n = some (1 : Int32) := by
  obtain ⟨M, st, S, sa, len, hd, hs, HS, fv, VS, w⟩ := w
  obtain ⟨c, v, aM', iU', ⟨h', n', e1, e2, e3, e4⟩, e5⟩ := p_setValue w (zx (i + 1)) (zx (i + 2)) (zx (i + 3)) M.iT
  unfold f_L_law_J2342
  simp only [raZ1 hi hz, raZ2 hi hz, raZ3 hi hz, gB_s, e1, gTX_l, e2, e5, gT4_s]
  exact tlI rfl (fun hc => (aL_H (M := (aM', M.aS, iU', M.aB, M.iL, M.iE, M.iP, M.aR, M.iW, c, M.aT, M.aC, M.aH, M.aE, M.aQ, M.iA, M.iY, M.iF, M.iV, M.aK)) (by omega)).trans (e3 hc)) (hr _ _ e4)

theorem lc_divideAndChoose {x : gV} {zL : Nat} {zx : Nat → Int32} {r28 : Int32 → gH → Nat → Option Int32} {cd o i : Nat} {h : gH} {n : Nat} (w : gWx cd o h n) (hi : i + 6 ≤ zL) (hz : zL ≤ 144) (hr : ∀ h n, gWx cd o h n → r28 (iI i + (6 : Int32)) h n = some (1 : Int32)) : f_L_law_J2422 x zL zx r28 cd o (o + 11) (o + 12) (iI i) h n = some (1 : Int32) := by
  obtain ⟨M, st, S, sa, len, hd, hs, HS, fv, VS, w⟩ := w
  obtain ⟨c, v, aM', iU', ⟨h', n', e1, e2, e3, e4⟩, e5⟩ := p_divideAndChoose w (zx (i + 1)) (zx (i + 2)) M.iT
  unfold f_L_law_J2422
  simp only [raZ1 hi hz, raZ2 hi hz, gB_s, e1, gTX_l, e2, e5, gT4_s]
  exact tlI rfl (fun hc => (aL_H (M := (aM', M.aS, iU', M.aB, M.iL, M.iE, M.iP, M.aR, M.iW, c, M.aT, M.aC, M.aH, M.aE, M.aQ, M.iA, M.iY, M.iF, M.iV, M.aK)) (by omega)).trans (e3 hc)) (hr _ _ e4)

theorem lc_roundRobin {x : gV} {zL : Nat} {zx : Nat → Int32} {r28 : Int32 → gH → Nat → Option Int32} {cd o i : Nat} {h : gH} {n : Nat} (w : gWx cd o h n) (hi : i + 6 ≤ zL) (hz : zL ≤ 144) (hr : ∀ h n, gWx cd o h n → r28 (iI i + (6 : Int32)) h n = some (1 : Int32)) : f_L_law_J2503 x zL zx r28 cd o (o + 11) (o + 12) (iI i) h n = some (1 : Int32) := by
  obtain ⟨M, st, S, sa, len, hd, hs, HS, fv, VS, w⟩ := w
  obtain ⟨c, v, aM', iU', ⟨h', n', e1, e2, e3, e4⟩, e5⟩ := p_roundRobin w (zx (i + 1)) M.iT
  unfold f_L_law_J2503
  simp only [raZ1 hi hz, gB_s, e1, gTX_l, e2, e5, gT4_s]
  exact tlI rfl (fun hc => (aL_H (M := (aM', M.aS, iU', M.aB, M.iL, M.iE, M.iP, M.aR, M.iW, c, M.aT, M.aC, M.aH, M.aE, M.aQ, M.iA, M.iY, M.iF, M.iV, M.aK)) (by omega)).trans (e3 hc)) (hr _ _ e4)

theorem lc_movingKnife {x : gV} {zL : Nat} {zx : Nat → Int32} {r28 : Int32 → gH → Nat → Option Int32} {cd o i : Nat} {h : gH} {n : Nat} (w : gWx cd o h n) (hi : i + 6 ≤ zL) (hz : zL ≤ 144) (hr : ∀ h n, gWx cd o h n → r28 (iI i + (6 : Int32)) h n = some (1 : Int32)) : f_L_law_J2490 x zL zx r28 cd o (o + 11) (o + 12) (iI i) h n = some (1 : Int32) := by
  obtain ⟨M, st, S, sa, len, hd, hs, HS, fv, VS, w⟩ := w
  obtain ⟨v, h', n', aM', iU', t, aH', e1, e2, hM, hw⟩ := p_movingKnife w M.iT
  obtain ⟨fs0, ob⟩ := w.2.2.2.2.1.ob
  have hJ : f_L_law_J2884 x zL zx r28 cd o (o + 11) (o + 12) (iI i) (gMS.H (aM', M.aS, iU', M.aB, M.iL, M.iE, M.iP, M.aR, M.iW, t, M.aT, M.aC, aH', M.aE, M.aQ, M.iA, M.iY, M.iF, M.iV, M.aK) h' o) n' = some (1 : Int32) := hr _ _ hw
  unfold f_L_law_J2490
  simp only [ob, gB_s, e1, gT3_s, hM, e2, gT5_s]
  exact (if_pos trivial).trans hJ

