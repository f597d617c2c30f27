/-! THE LAW, CASES 5: append, truncate -/
theorem lc_append {x : gV} {zL : Nat} {zx : Nat → Int32} {r28 : Int32 → gH → Nat → Option Int32} {cd o i : Nat} {h : gH} {n : Nat} (w : gWx cd o h n) (hi : i + 6 ≤ zL) (hz : zL ≤ 144) (hr : ∀ h n, gWx cd o h n → r28 (iI i + (6 : Int32)) h n = some (1 : Int32)) : f_L_law_J288 x zL zx r28 cd o (o + 11) (o + 12) (iI i) h n = some (1 : Int32) := by
  obtain ⟨M, st, S, sa, len, hd, hs, HS, fv, VS, w⟩ := w
  obtain ⟨c, v, aB', iL', ⟨h', n', e1, e2, e3, e4⟩, e5⟩ := p_append w (zx (i + 1)) (zx (i + 2)) (zx (i + 3)) (zx (i + 4)) (zx (i + 5)) M.iT
  unfold f_L_law_J288
  simp only [raZ1 hi hz, raZ2 hi hz, raZ3 hi hz, raZ4 hi hz, raZ5 hi hz, gB_s, e1, gTX_l, e2, e5, gT4_s]
  exact tlI rfl (fun hc => (aL_H (M := (M.aM, M.aS, M.iU, aB', iL', M.iE, M.iP, M.aR, M.iW, c, M.aT, M.aC, M.aH, M.aE, M.aQ, M.iA, M.iY, M.iF, M.iV, M.aK)) (by omega)).trans (e3 hc)) (hr _ _ e4)

theorem lc_truncate {x : gV} {zL : Nat} {zx : Nat → Int32} {r28 : Int32 → gH → Nat → Option Int32} {cd o i : Nat} {h : gH} {n : Nat} (w : gWx cd o h n) (hi : i + 6 ≤ zL) (hz : zL ≤ 144) (hr : ∀ h n, gWx cd o h n → r28 (iI i + (6 : Int32)) h n = some (1 : Int32)) : f_L_law_J392 x zL zx r28 cd o (o + 11) (o + 12) (iI i) h n = some (1 : Int32) := by
  obtain ⟨M, st, S, sa, len, hd, hs, HS, fv, VS, w⟩ := w
  obtain ⟨c, v, iL', ⟨h', n', e1, e2, e3, e4⟩, e5⟩ := p_truncate w (zx (i + 1)) M.iT
  unfold f_L_law_J392
  simp only [raZ1 hi hz, gB_s, e1, gTX_l, e2, e5, gT3_s]
  exact tlI rfl (fun hc => (aL_H (M := (M.aM, M.aS, M.iU, M.aB, iL', M.iE, M.iP, M.aR, M.iW, c, M.aT, M.aC, M.aH, M.aE, M.aQ, M.iA, M.iY, M.iF, M.iV, M.aK)) (by omega)).trans (e3 hc)) (hr _ _ e4)

