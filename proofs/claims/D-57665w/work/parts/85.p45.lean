/-! THE LAW, CASES 8: satisfaction -/
section SF
variable {h : gH} {cd o n : Nat} {M M' : gMS} {st : Nat} {S : gS} {sa : Nat → Nat} {len hd : Nat} {hs : Nat → Nat} {HS : Nat → gS} {fv : Nat → Option Nat} {VS : Nat → gS}
def gRdD (X : Option ((Int32 ⊕ gX) × gH × Nat)) (c : Int32) (v : UInt64) (h : gH) (n o : Nat) : Prop := ∃ h' n', X = some (.inl c, h', n') ∧ gPas h n h' n' (fun b => b = o + 11 ∨ b = o + 12) ∧ gOut o h' ∧ (c = 0 → g_aD h' (o + 12) 6 (0 : Int32) = some v)
theorem c1_sf_ok {s : Nat} (F : gFr h n) (hO : CurAt h cd st) (hS : StAt h st S sa) (hw : WF S) (h1 : s < S.n) : gRt (f_X1_satisfaction cd (iI s) h n) (sfZ S s) h n noD tT := by
  have hn := hw.2.1
  have hc := hw.1
  have u := ar1_p F (iI s)
  have hO1 := u.cur F hO
  have hS1 := u.st F hS
  obtain ⟨fs, o1, o2⟩ := hO1
  obtain ⟨fs2, o3⟩ := a_obj hS1
  have hO0 := hO
  obtain ⟨fs0, o0, -⟩ := hO0
  obtain ⟨fs3, o4⟩ := a_sobj hS1 h1
  refine ⟨_, _, ?_, u, trivial⟩
  have ht := totZ_b hw h1
  unfold f_X1_satisfaction
  rw [g_obj_s o0, gB_s, cSA_ok F hO hS hn.2 h1, gTX_l, o4, gB_s, cTot hS1 hw h1, gB_s]
  unfold sfZ
  by_cases q : totZ S s = 0
  · rw [if_pos q, if_pos (by rw [q]; rfl)]
  · rw [if_neg q, if_neg (by rw [show (0 : Int32) = iI 0 from rfl, iI_eq (by omega) (by omega) (by omega) (by omega)]; exact q), fA_at o1 o2, gB_s, o3, gB_s, cWf hS1 hw h1, gB_s, if_pos (sf_ok hw h1 q).1]
theorem c1_sf_no {s : Int} (F : gFr h n) (hO : CurAt h cd st) (hS : StAt h st S sa) (hw : WF S) (hs : -2147483648 ≤ s ∧ s < 2147483648) (h1 : ¬ (0 ≤ s ∧ s < S.n)) : gThr (f_X1_satisfaction cd (iI s) h n) 12 h n := by
  have hn := hw.2.1
  have hc := hw.1
  have hO0 := hO
  obtain ⟨fs0, o0, -⟩ := hO0
  unfold f_X1_satisfaction
  rw [g_obj_s o0, gB_s]
  exact (cSA_no F hO hS hn.2 hs h1).X
theorem p_satisfaction (w : gW cd o h n M st S sa len hd hs HS fv VS) (z1 iT : Int32) : ∃ c v, gRdD (f_X0_satisfaction cd z1 (o + 12) h n) c (FP.f2d v) h n o ∧ f_X6_satisfaction z1 M.aM iT = some (v, c) ∧ (c = 0 → g_n64 (FP.f2d v) = true) := by
  obtain ⟨F, w1, w2, w3, w4, ⟨w5, w6, w7⟩, -⟩ := w
  obtain ⟨fs0, ob⟩ := w4.ob
  obtain ⟨s, hs1, hs2, rfl⟩ := iI_of z1
  unfold f_X0_satisfaction f_X6_satisfaction f_X6_satisfaction_J14
  rw [ob, gB_s]
  by_cases q : 0 ≤ s ∧ s < S.n
  · obtain ⟨s, rfl⟩ : ∃ k : Nat, s = k := ⟨s.toNat, by omega⟩
    have q1 : s < S.n := by omega
    have ht := totZ_b w6 q1
    have hlt := w3.lt F
    obtain ⟨h', n', e1, u, -⟩ := c1_sf_ok F w4.cur w5 w6 q1
    obtain ⟨⟨f1, r1⟩, ⟨f2, r2⟩⟩ := w3.mono F u
    refine ⟨0, sfZ S s, ⟨g_up h' (o + 12) (.inl (6, 1, .inr (.inr (.inr (.inl (vf_upd f2 0 (FP.f2d (sfZ S s)))))))), n', ?_, u.no.tr' (gPas.up u.2.1 (by have := u.1; omega) (.inr rfl)), ⟨⟨f1, by rw [g_up_n (by omega)]; exact r1⟩, ⟨_, g_up_s⟩⟩, fun _ => ?_⟩, ?_, fun _ => sf_ok2 w6 q1⟩
    · rw [e1, gTX_l, if_pos (sf_ok2 w6 q1)]
      unfold g_sD
      rw [g_arr_s r2]
      rfl
    · unfold g_aD
      rw [g_arr_s g_up_s]
      rfl
    · rw [mSib_ok w7 w6 q1, gB_s, if_neg (by decide), mF0, gT2_s, if_pos rfl, mTot w7 w6 q1, gB_s]
      unfold sfZ
      by_cases r : totZ S s = 0
      · rw [if_pos r, if_pos (by rw [r]; rfl)]
      · rw [if_neg r, if_neg (by rw [show (0 : Int32) = iI 0 from rfl, iI_eq (by omega) (by omega) (by omega) (by omega)]; exact r), mWf w7 w6 q1, gB_s, gB_s, if_pos (sf_ok w6 q1 r).1]
  · obtain ⟨h', n', q', e1, u⟩ := c1_sf_no F w4.cur w5 w6 ⟨hs1, hs2⟩ q
    refine ⟨1, 0, ⟨h', n', ?_, u.no, w3.mono F u, fun z => absurd z (by decide)⟩, ?_, fun z => absurd z (by decide)⟩
    · rw [e1, gTX_r]; rfl
    · rw [mSib_no w7 w6 ⟨hs1, hs2⟩ q, gB_s, if_pos rfl, mF1, gT2_s, if_neg (by decide)]
end SF
theorem lc_satisfaction {x : gV} {zL : Nat} {zx : Nat → Int32} {r28 : Int32 → gH → Nat → Option Int32} {cd o i : Nat} {h : gH} {n : Nat} (w : gWx cd o h n) (hi : i + 6 ≤ zL) (hz : zL ≤ 144) (hr : ∀ h n, gWx cd o h n → r28 (iI i + (6 : Int32)) h n = some (1 : Int32)) : f_L_law_J1801 x zL zx r28 cd o (o + 11) (o + 12) (iI i) h n = some (1 : Int32) := by
  obtain ⟨M, st, S, sa, len, hd, hs, HS, fv, VS, w⟩ := w
  obtain ⟨c, v, ⟨h', n', e1, u, hu, e3⟩, e5, hn⟩ := p_satisfaction w (zx (i + 1)) M.iT
  have hw := w.rd (M' := (M.aM, M.aS, M.iU, M.aB, M.iL, M.iE, M.iP, M.aR, M.iW, c, M.aT, M.aC, M.aH, M.aE, M.aQ, M.iA, M.iY, M.iF, M.iV, M.aK)) u hu ⟨fun _ _ => rfl, rfl, rfl, rfl, rfl, rfl, rfl, rfl, rfl⟩
  have hM := w.mR' u
  have hJ : f_L_law_J2884 x zL zx r28 cd o (o + 11) (o + 12) (iI i) (gMS.H (M.aM, M.aS, M.iU, M.aB, M.iL, M.iE, M.iP, M.aR, M.iW, c, M.aT, M.aC, M.aH, M.aE, M.aQ, M.iA, M.iY, M.iF, M.iV, M.aK) h' o) n' = some (1 : Int32) := hr _ _ ⟨_, _, _, _, _, _, _, _, _, _, hw⟩
  unfold f_L_law_J1801
  simp only [raZ1 hi hz, gB_s, e1, gTX_l, hM, e5, gT2_s]
  unfold f_X6_thrown
  rw [gB_s, if_pos rfl]
  by_cases hc : c = 0
  · have a1 : g_aD (gMS.H (M.aM, M.aS, M.iU, M.aB, M.iL, M.iE, M.iP, M.aR, M.iW, c, M.aT, M.aC, M.aH, M.aE, M.aQ, M.iA, M.iY, M.iF, M.iV, M.aK) h' o) (o + 12) 6 (0 : Int32) = some (FP.f2d v) := (aD_H (by omega)).trans (e3 hc)
    have a2 : g_aD (mH h' o M.aM M.aS M.iU M.aB M.iL M.iE M.iP M.aR M.iW c M.aT M.aC M.aH M.aE M.aQ M.iA M.iY M.iF M.iV M.aK) (o + 12) 6 (0 : Int32) = some (FP.f2d v) := a1
    rw [if_pos hc, a2, gB_s, if_pos (hn hc), if_pos (dc_self (hn hc))]
    exact hJ
  · rw [if_neg hc]; exact hJ
