/-! THE LAW, CASES: load -/
theorem lc_load {x : gV} {zL : Nat} {zx : Nat → Int32} {r28 : Int32 → gH → Nat → Option Int32} {cd o i : Nat} {h : gH} {n : Nat} (w : gWx cd o h n) (hi : i + 6 ≤ zL) (hz : zL ≤ 144) (hdd : ∀ i j, i < g_tN → j < g_tN → x.2.2.1 i = x.2.2.1 j → i = j) (hr : ∀ h n, gWx cd o h n → r28 (iI i + (6 : Int32)) h n = some (1 : Int32)) : f_L_law_J448 x zL zx r28 cd o (o + 11) (o + 12) (iI i) h n = some (1 : Int32) := by
  obtain ⟨M, st, S, sa, len, hd, hs, HS, fv, VS, w⟩ := w
  obtain ⟨c, v, aM', aS', iU', iL', iE', iP', iA', iY', iF', iV', ⟨h', n', e1, e2, e3, e4⟩, e5⟩ := p_load hdd w M.iT
  unfold f_L_law_J448
  simp only [gB_s, e1, gTX_l, e2, e5, gT12_s]
  exact tlI rfl (fun hc => (aL_H (M := (aM', aS', iU', M.aB, iL', iE', iP', M.aR, M.iW, c, M.aT, M.aC, M.aH, M.aE, M.aQ, iA', iY', iF', iV', M.aK)) (by omega)).trans (e3 hc)) (hr _ _ e4)

