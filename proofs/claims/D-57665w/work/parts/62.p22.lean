/-! THE READS, 3: without arguments; what a case of the law needs -/
section RD3
variable {h : gH} {cd o n : Nat} {M M' : gMS} {st : Nat} {S : gS} {sa : Nat → Nat} {len hd : Nat} {hs : Nat → Nat} {HS : Nat → gS} {fv : Nat → Option Nat} {VS : Nat → gS}
def gPr (X : Option ((Int32 ⊕ gX) × gH × Nat)) (cd o : Nat) (M M' : gMS) (c : Int32) (v : Int64) : Prop := ∃ h' n', X = some (.inl c, h', n') ∧ mR h' o = some M ∧ (c = 0 → g_aL h' (o + 11) 5 (0 : Int32) = some v) ∧ gWx cd o (M'.H h' o) n'
theorem gW.mR' {h' : gH} {n' : Nat} (w : gW cd o h n M st S sa len hd hs HS fv VS) (u : gPas h n h' n' fun b => b = o + 11 ∨ b = o + 12) : mR h' o = some M := by
  obtain ⟨F, w1, w2, w3, -⟩ := w
  have hlt := w3.lt F
  exact mR_st w2 fun b r => u.2.2 b (by unfold rgn at r; omega) (by unfold rgn at r; omega)
theorem rd_pr {X : Option ((Int32 ⊕ gX) × gH × Nat)} {c : Int32} {v : Int64} (w : gW cd o h n M st S sa len hd hs HS fv VS) (r : gRd X c v h n o) (e : (∀ j, j < 1908 → M'.aM j = M.aM j) ∧ M'.aS = M.aS ∧ M'.iU = M.iU ∧ M'.aB = M.aB ∧ M'.iL = M.iL ∧ M'.iE = M.iE ∧ M'.iP = M.iP ∧ M'.aR = M.aR ∧ M'.iW = M.iW) : gPr X cd o M M' c v := by
  obtain ⟨h', n', e1, u, e3, e4⟩ := r
  exact ⟨h', n', e1, w.mR' u, e4, _, _, _, _, _, _, _, _, _, _, w.rd u e3 e⟩
theorem aL_H {q : Nat} {z : Int32} (hq : o + 10 < q) : g_aL (M.H h o) q 5 z = g_aL h q 5 z := by
  unfold g_aL g_arr
  rw [mH_ot (by unfold rgn; omega)]
theorem aD_H {q : Nat} {z : Int32} (hq : o + 10 < q) : g_aD (M.H h o) q 6 z = g_aD h q 6 z := by
  unfold g_aD g_arr
  rw [mH_ot (by unfold rgn; omega)]
theorem lg_self {v : Int64} : lg_cmp v v = (0 : Int32) := by
  unfold lg_cmp
  rw [if_neg Int64.lt_irrefl, if_pos rfl]
theorem tlI {t c : Int32} {H : gH} {q : Nat} {v : Int32} {J : Option Int32} (e : t = c) (hv : c = 0 → g_aL H q 5 (0 : Int32) = some v.toInt64) (hJ : J = some (1 : Int32)) : (Option.bind (f_X6_thrown t) fun y => (if y = c then (if c = 0 then (Option.bind (g_aL H q 5 (0 : Int32)) fun y2 => (if (lg_cmp y2 v.toInt64) = 0 then J else some (0 : Int32))) else J) else some (0 : Int32))) = some (1 : Int32) := by
  unfold f_X6_thrown
  rw [gB_s, if_pos e]
  by_cases hc : c = 0
  · rw [if_pos hc, hv hc, gB_s, if_pos lg_self]; exact hJ
  · rw [if_neg hc]; exact hJ
theorem tlB {t c : Int32} {H : gH} {q : Nat} {v : Int32} {J : Option Int32} (e : t = c) (hv : c = 0 → g_aL H q 5 (0 : Int32) = some (if v = 0 then (0 : Int64) else 1)) (hJ : J = some (1 : Int32)) : (Option.bind (f_X6_thrown t) fun y => (if y = c then (if c = 0 then (Option.bind (g_aL H q 5 (0 : Int32)) fun y2 => (if v = 0 then (if (lg_cmp y2 (0 : Int64)) = 0 then J else some (0 : Int32)) else (if (lg_cmp y2 (1 : Int64)) = 0 then J else some (0 : Int32)))) else J) else some (0 : Int32))) = some (1 : Int32) := by
  unfold f_X6_thrown
  rw [gB_s, if_pos e]
  by_cases hc : c = 0
  · rw [if_pos hc, hv hc, gB_s]
    by_cases q : v = 0
    · rw [if_pos q, if_pos q, if_pos lg_self]; exact hJ
    · rw [if_neg q, if_neg q, if_pos lg_self]; exact hJ
  · rw [if_neg hc]; exact hJ
theorem raZ1 {zL i : Nat} {zx : Nat → Int32} (hi : i + 6 ≤ zL) (hz : zL ≤ 144) : g_ra zL zx (iI i + (1 : Int32)) = some (zx (i + 1)) := by
  rw [iI_1, iI_add]
  exact ra_at (j := i + 1) (by omega) (by omega) (by omega) rfl
theorem raZ2 {zL i : Nat} {zx : Nat → Int32} (hi : i + 6 ≤ zL) (hz : zL ≤ 144) : g_ra zL zx (iI i + (2 : Int32)) = some (zx (i + 2)) := by
  rw [iI_2, iI_add]
  exact ra_at (j := i + 2) (by omega) (by omega) (by omega) rfl
theorem raZ3 {zL i : Nat} {zx : Nat → Int32} (hi : i + 6 ≤ zL) (hz : zL ≤ 144) : g_ra zL zx (iI i + (3 : Int32)) = some (zx (i + 3)) := by
  rw [iI_3, iI_add]
  exact ra_at (j := i + 3) (by omega) (by omega) (by omega) rfl
theorem raZ4 {zL i : Nat} {zx : Nat → Int32} (hi : i + 6 ≤ zL) (hz : zL ≤ 144) : g_ra zL zx (iI i + (4 : Int32)) = some (zx (i + 4)) := by
  rw [iI_4, iI_add]
  exact ra_at (j := i + 4) (by omega) (by omega) (by omega) rfl
theorem raZ5 {zL i : Nat} {zx : Nat → Int32} (hi : i + 6 ≤ zL) (hz : zL ≤ 144) : g_ra zL zx (iI i + (5 : Int32)) = some (zx (i + 5)) := by
  rw [iI_5, iI_add]
  exact ra_at (j := i + 5) (by omega) (by omega) (by omega) rfl
theorem n_errorCode (w : gW cd o h n M st S sa len hd hs HS fv VS) (iT : Int32) : ∃ v t, f_X1_errorCode cd h = some v ∧ f_X6_errorCode M.iE iT = some (v, t) := by
  obtain ⟨F, w1, w2, w3, w4, ⟨w5, w6, w7⟩, -⟩ := w
  obtain ⟨fs, o1, o2⟩ := w4.cur
  obtain ⟨fs2, o3⟩ := a_obj w5
  have hn := w6.2.1
  refine ⟨M.iE, 0, ?_, ?_⟩
  · unfold f_X1_errorCode; rw [fI_at w4.1 rfl, gB_s]
  · rfl
theorem n_errorPosition (w : gW cd o h n M st S sa len hd hs HS fv VS) (iT : Int32) : ∃ v t, f_X1_errorPosition cd h = some v ∧ f_X6_errorPosition M.iP iT = some (v, t) := by
  obtain ⟨F, w1, w2, w3, w4, ⟨w5, w6, w7⟩, -⟩ := w
  obtain ⟨fs, o1, o2⟩ := w4.cur
  obtain ⟨fs2, o3⟩ := a_obj w5
  have hn := w6.2.1
  refine ⟨M.iP, 0, ?_, ?_⟩
  · unfold f_X1_errorPosition; rw [fI_at w4.1 rfl, gB_s]
  · rfl
theorem n_cellCount (w : gW cd o h n M st S sa len hd hs HS fv VS) (iT : Int32) : ∃ v t, f_X1_cellCount cd h = some v ∧ f_X6_cellCount M.aM iT = some (v, t) := by
  obtain ⟨F, w1, w2, w3, w4, ⟨w5, w6, w7⟩, -⟩ := w
  obtain ⟨fs, o1, o2⟩ := w4.cur
  obtain ⟨fs2, o3⟩ := a_obj w5
  have hn := w6.2.1
  refine ⟨iI S.c, 0, ?_, ?_⟩
  · unfold f_X1_cellCount; rw [fA_at o1 o2, gB_s, o3, gB_s, a_cells w5, gB_s]
  · unfold f_X6_cellCount f_X6_plain; rw [show (0 : Int32) = iI 0 from rfl, b_c w7, gB_s, gT2_s]
theorem n_siblingCount (w : gW cd o h n M st S sa len hd hs HS fv VS) (iT : Int32) : ∃ v t, f_X1_siblingCount cd h = some v ∧ f_X6_siblingCount M.aM iT = some (v, t) := by
  obtain ⟨F, w1, w2, w3, w4, ⟨w5, w6, w7⟩, -⟩ := w
  obtain ⟨fs, o1, o2⟩ := w4.cur
  obtain ⟨fs2, o3⟩ := a_obj w5
  have hn := w6.2.1
  refine ⟨iI S.n, 0, ?_, ?_⟩
  · unfold f_X1_siblingCount; rw [fA_at o1 o2, gB_s, o3, gB_s, a_size w5, gB_s]
  · unfold f_X6_siblingCount f_X6_plain; rw [show (1 : Int32) = iI 1 from rfl, b_n w7, gB_s, gT2_s]
theorem n_freeCount (w : gW cd o h n M st S sa len hd hs HS fv VS) (iT : Int32) : ∃ v t, f_X1_freeCount cd h = some v ∧ f_X6_freeCount M.aM iT = some (v, t) := by
  obtain ⟨F, w1, w2, w3, w4, ⟨w5, w6, w7⟩, -⟩ := w
  obtain ⟨fs, o1, o2⟩ := w4.cur
  obtain ⟨fs2, o3⟩ := a_obj w5
  have hn := w6.2.1
  refine ⟨iI (cntZ S (-1)), 0, ?_, ?_⟩
  · unfold f_X1_freeCount; rw [fA_at o1 o2, gB_s, o3, gB_s, show (-1 : Int32) = iI (-1) from rfl, cCnt w5 w6 (by omega), gB_s]
  · unfold f_X6_freeCount f_X6_plain; rw [show (-1 : Int32) = iI (-1) from rfl, mCnt w7 w6 (by omega), gB_s, gT2_s]
theorem n_envyCount (w : gW cd o h n M st S sa len hd hs HS fv VS) (iT : Int32) : ∃ v t, f_X1_envyCount cd h = some v ∧ f_X6_envyCount M.aM iT = some (v, t) := by
  obtain ⟨F, w1, w2, w3, w4, ⟨w5, w6, w7⟩, -⟩ := w
  obtain ⟨fs, o1, o2⟩ := w4.cur
  obtain ⟨fs2, o3⟩ := a_obj w5
  have hn := w6.2.1
  refine ⟨iI (envZ S), 0, ?_, ?_⟩
  · unfold f_X1_envyCount; rw [fA_at o1 o2, gB_s, o3, gB_s, cEnvN w5 w6, gB_s]
  · unfold f_X6_envyCount f_X6_plain; rw [mEnvN w7 w6, gB_s, gT2_s]
theorem n_strongEnvyCount (w : gW cd o h n M st S sa len hd hs HS fv VS) (iT : Int32) : ∃ v t, f_X1_strongEnvyCount cd h = some v ∧ f_X6_strongEnvyCount M.aM iT = some (v, t) := by
  obtain ⟨F, w1, w2, w3, w4, ⟨w5, w6, w7⟩, -⟩ := w
  obtain ⟨fs, o1, o2⟩ := w4.cur
  obtain ⟨fs2, o3⟩ := a_obj w5
  have hn := w6.2.1
  refine ⟨iI (senvZ S), 0, ?_, ?_⟩
  · exact cSen w5 w6 w4.cur
  · exact mSen w7 w6
theorem n_mostEnvied (w : gW cd o h n M st S sa len hd hs HS fv VS) (iT : Int32) : ∃ v t, f_X1_mostEnvied cd h = some v ∧ f_X6_mostEnvied M.aM iT = some (v, t) := by
  obtain ⟨F, w1, w2, w3, w4, ⟨w5, w6, w7⟩, -⟩ := w
  obtain ⟨fs, o1, o2⟩ := w4.cur
  obtain ⟨fs2, o3⟩ := a_obj w5
  have hn := w6.2.1
  refine ⟨iI (mostE S (S.n - 1) : Nat), 0, ?_, ?_⟩
  · exact cMos w5 w6 w4.cur
  · exact mMos w7 w6
theorem n_satisfiedCount (w : gW cd o h n M st S sa len hd hs HS fv VS) (iT : Int32) : ∃ v t, f_X1_satisfiedCount cd h = some v ∧ f_X6_satisfiedCount M.aM iT = some (v, t) := by
  obtain ⟨F, w1, w2, w3, w4, ⟨w5, w6, w7⟩, -⟩ := w
  obtain ⟨fs, o1, o2⟩ := w4.cur
  obtain ⟨fs2, o3⟩ := a_obj w5
  have hn := w6.2.1
  refine ⟨iI (sumZ (satZ S) S.n), 0, ?_, ?_⟩
  · unfold f_X1_satisfiedCount; rw [fA_at o1 o2, gB_s, o3, gB_s, cSatN w5 w6, gB_s]
  · unfold f_X6_satisfiedCount f_X6_plain; rw [mSatN w7 w6, gB_s, gT2_s]
theorem n_totalWelfare (w : gW cd o h n M st S sa len hd hs HS fv VS) (iT : Int32) : ∃ v t, f_X1_totalWelfare cd h = some v ∧ f_X6_totalWelfare M.aM iT = some (v, t) := by
  obtain ⟨F, w1, w2, w3, w4, ⟨w5, w6, w7⟩, -⟩ := w
  obtain ⟨fs, o1, o2⟩ := w4.cur
  obtain ⟨fs2, o3⟩ := a_obj w5
  have hn := w6.2.1
  refine ⟨iI (sumZ (fun s => sWS S s s) S.n), 0, ?_, ?_⟩
  · exact cTw w5 w6 w4.cur
  · exact mTw w7 w6
theorem n_leastWelfare (w : gW cd o h n M st S sa len hd hs HS fv VS) (iT : Int32) : ∃ v t, f_X1_leastWelfare cd h = some v ∧ f_X6_leastWelfare M.aM iT = some (v, t) := by
  obtain ⟨F, w1, w2, w3, w4, ⟨w5, w6, w7⟩, -⟩ := w
  obtain ⟨fs, o1, o2⟩ := w4.cur
  obtain ⟨fs2, o3⟩ := a_obj w5
  have hn := w6.2.1
  refine ⟨iI (lwZ S (S.n - 1)), 0, ?_, ?_⟩
  · unfold f_X1_leastWelfare; rw [fA_at o1 o2, gB_s, o3, gB_s, cLw w5 w6, gB_s]
  · unfold f_X6_leastWelfare f_X6_plain; rw [mLw w7 w6, gB_s, gT2_s]
theorem n_welfareProduct (w : gW cd o h n M st S sa len hd hs HS fv VS) (iT : Int32) : ∃ v t, f_X1_welfareProduct cd h = some v ∧ f_X6_welfareProduct M.aM iT = some (v, t) := by
  obtain ⟨F, w1, w2, w3, w4, ⟨w5, w6, w7⟩, -⟩ := w
  obtain ⟨fs, o1, o2⟩ := w4.cur
  obtain ⟨fs2, o3⟩ := a_obj w5
  have hn := w6.2.1
  refine ⟨wpZ S S.n, 0, ?_, ?_⟩
  · exact cWp w5 w6 w4.cur
  · exact mWp w7 w6
theorem n_greatestTotalWelfare (w : gW cd o h n M st S sa len hd hs HS fv VS) (iT : Int32) : ∃ v t, f_X1_greatestTotalWelfare cd h = some v ∧ f_X6_greatestTotalWelfare M.aM iT = some (v, t) := by
  obtain ⟨F, w1, w2, w3, w4, ⟨w5, w6, w7⟩, -⟩ := w
  obtain ⟨fs, o1, o2⟩ := w4.cur
  obtain ⟨fs2, o3⟩ := a_obj w5
  have hn := w6.2.1
  refine ⟨iI (sumZ (fun c => gvZ S c S.n) S.c), 0, ?_, ?_⟩
  · exact cGt w5 w6 w4.cur
  · exact mGt w7 w6
theorem n_cutCount (w : gW cd o h n M st S sa len hd hs HS fv VS) (iT : Int32) : ∃ v t, f_X1_cutCount cd h = some v ∧ f_X6_cutCount M.aM iT = some (v, t) := by
  obtain ⟨F, w1, w2, w3, w4, ⟨w5, w6, w7⟩, -⟩ := w
  obtain ⟨fs, o1, o2⟩ := w4.cur
  obtain ⟨fs2, o3⟩ := a_obj w5
  have hn := w6.2.1
  refine ⟨iI (sumZ (ccF S) (S.c - 1)), 0, ?_, ?_⟩
  · exact cCc w5 w6 w4.cur
  · exact mCc w7 w6
theorem n_meanPieces (w : gW cd o h n M st S sa len hd hs HS fv VS) (iT : Int32) : ∃ v t, f_X1_meanPieces cd h = some v ∧ f_X6_meanPieces M.aM iT = some (v, t) := by
  obtain ⟨F, w1, w2, w3, w4, ⟨w5, w6, w7⟩, -⟩ := w
  obtain ⟨fs, o1, o2⟩ := w4.cur
  obtain ⟨fs2, o3⟩ := a_obj w5
  have hn := w6.2.1
  refine ⟨mpZ S, 0, ?_, ?_⟩
  · exact cMp w5 w6 w4.cur
  · exact mMp w7 w6
theorem n_inconsistencies (w : gW cd o h n M st S sa len hd hs HS fv VS) (iT : Int32) : ∃ v t, f_X1_inconsistencies cd h = some v ∧ f_X6_inconsistencies M.aM iT = some (v, t) := by
  obtain ⟨F, w1, w2, w3, w4, ⟨w5, w6, w7⟩, -⟩ := w
  obtain ⟨fs, o1, o2⟩ := w4.cur
  obtain ⟨fs2, o3⟩ := a_obj w5
  have hn := w6.2.1
  refine ⟨iI ((S.c : Int) - cntZ S (-1) + sumZ (incF S) S.n), 0, ?_, ?_⟩
  · exact cIn w5 w6 w4.cur
  · exact mIn w7 w6
end RD3
