/-! THE READS, 4: names, output, what a knife or a robin would give -/
section RD4
variable {h : gH} {cd o n : Nat} {M : gMS} {st : Nat} {S : gS} {sa : Nat → Nat} {len hd : Nat} {hs : Nat → Nat} {HS : Nat → gS} {fv : Nat → Option Nat} {VS : Nat → gS}
theorem c1_nameByte_ok {s k : Nat} (F : gFr h n) (hO : CurAt h cd st) (hS : StAt h st S sa) (hw : WF S) (h1 : s < S.n) (h2 : k < (S.nm s).length) : gRt (f_X1_nameByte cd (iI s) (iI k) h n) (iI ((S.nm s).getD k 0)) h n noD tT := by
  have hn := hw.2.1
  have hc := hw.1
  have u := ar1_p F (iI s)
  have hO1 := u.cur F hO
  have hS1 := u.st F hS
  obtain ⟨fs, o1, o2⟩ := hO1
  obtain ⟨fs2, o3⟩ := a_obj hS1
  have hO0 := hO
  obtain ⟨fs0, o0, -⟩ := hO0
  obtain ⟨fs3, o4⟩ := a_sobj hS1 h1
  have hl := hw.2.2.2.2 s h1
  obtain ⟨na, g1, -, f8, g3, g4⟩ := hS1.2.2.2.2.2 s h1
  refine ⟨_, _, ?_, u, trivial⟩
  unfold f_X1_nameByte
  rw [g_obj_s o0, gB_s, cSA_ok F hO hS hn.2 h1, gTX_l, fA_at g1 rfl, gB_s, len_at g3, gB_s]
  show gTX (f_X1_checkIndex (iI k) (iI ((S.nm s).length : Int)) _ _) _ _ = _
  rw [cCI_ok (by omega) (by omega), gTX_l, aI_at g3 rfl h2 (by omega) (g4 k h2), gB_s]
theorem c1_nameByte_n1 {s k : Int} (F : gFr h n) (hO : CurAt h cd st) (hS : StAt h st S sa) (hw : WF S) (hs : -2147483648 ≤ s ∧ s < 2147483648) (h1 : ¬ (0 ≤ s ∧ s < S.n)) : gThr (f_X1_nameByte cd (iI s) (iI k) h n) 12 h n := by
  have hn := hw.2.1
  have hc := hw.1
  have hO0 := hO
  obtain ⟨fs0, o0, -⟩ := hO0
  unfold f_X1_nameByte
  rw [g_obj_s o0, gB_s]
  exact (cSA_no F hO hS hn.2 hs h1).X
theorem c1_nameByte_n2 {s : Nat} {k : Int} (F : gFr h n) (hO : CurAt h cd st) (hS : StAt h st S sa) (hw : WF S) (h1 : s < S.n) (hk : -2147483648 ≤ k ∧ k < 2147483648) (h2 : ¬ (0 ≤ k ∧ k < (S.nm s).length)) : gThr (f_X1_nameByte cd (iI s) (iI k) h n) 12 h n := by
  have hn := hw.2.1
  have hc := hw.1
  have u := ar1_p F (iI s)
  have hO1 := u.cur F hO
  have hS1 := u.st F hS
  obtain ⟨fs, o1, o2⟩ := hO1
  obtain ⟨fs2, o3⟩ := a_obj hS1
  have hO0 := hO
  obtain ⟨fs0, o0, -⟩ := hO0
  obtain ⟨fs3, o4⟩ := a_sobj hS1 h1
  have hl := hw.2.2.2.2 s h1
  obtain ⟨na, g1, -, f8, g3, g4⟩ := hS1.2.2.2.2.2 s h1
  unfold f_X1_nameByte
  rw [g_obj_s o0, gB_s, cSA_ok F hO hS hn.2 h1, gTX_l, fA_at g1 rfl, gB_s, len_at g3, gB_s]
  show gThr (gTX (f_X1_checkIndex (iI k) (iI ((S.nm s).length : Int)) _ _) _ _) _ _ _
  exact ((cCI_no u.2.1 hk h2 (by omega)).X).pre u
theorem p_nameByte (w : gW cd o h n M st S sa len hd hs HS fv VS) (z1 z2 iT : Int32) : ∃ c v, gRd (f_X0_nameByte cd z1 z2 (o + 11) h n) c v.toInt64 h n o ∧ f_X6_nameByte z1 z2 M.aM iT = some (v, c) := by
  obtain ⟨F, w1, w2, w3, w4, ⟨w5, w6, w7⟩, -⟩ := w
  obtain ⟨fs0, ob⟩ := w4.ob
  obtain ⟨a, ha1, ha2, rfl⟩ := iI_of z1
  obtain ⟨b, hb1, hb2, rfl⟩ := iI_of z2
  unfold f_X0_nameByte f_X6_nameByte f_X6_nameByte_J15 f_X6_nameByte_J45 f_X6_nameByte_J50
  rw [ob, gB_s]
  by_cases q : 0 ≤ a ∧ a < S.n
  · obtain ⟨a, rfl⟩ : ∃ k : Nat, a = k := ⟨a.toNat, by omega⟩
    have q1 : a < S.n := by omega
    have hn := w6.2.1
    have hl := w6.2.2.2.2 a q1
    obtain ⟨g1, g2, g3⟩ := w7.2.2.2 a q1
    rw [mSib_ok w7 w6 q1, gB_s, if_neg (by decide), gB_s, if_neg (by decide), iI_26, iI_31, iI_mul, iI_add, ra_at (j := 212 * 0 + 26 + 31 * a) (by omega) (by omega) (by decide) g1, gB_s, iI_1, iI_sub, show (0 : Int32) = iI 0 from rfl]
    by_cases r : 0 ≤ b ∧ b < (S.nm a).length
    · obtain ⟨b, rfl⟩ : ∃ k : Nat, b = k := ⟨b.toNat, by omega⟩
      have r1 : b < (S.nm a).length := by omega
      refine ⟨0, _, gRd_ok (c1_nameByte_ok F w4.cur w5 w6 q1 r1) w3 F, ?_⟩
      rw [mBt_ok (by omega) (by omega) (by omega) (by omega), gB_s, if_neg (show ¬ (1 : Int32) = iI 0 from by decide), show iI 0 = (0 : Int32) from rfl, mF0, gT2_s, if_pos rfl, iI_add, iI_add, ra_at (j := 212 * 0 + 26 + 31 * a + 1 + b) (by omega) (by omega) (by decide) (g2 b r1), gB_s]
    · refine ⟨1, 0, gRd_t (c1_nameByte_n2 F w4.cur w5 w6 q1 ⟨hb1, hb2⟩ r) w3 F (fun _ _ _ => rfl) (by decide), ?_⟩
      rw [mBt_no (by omega) (by omega) (by omega) (by omega), gB_s, if_pos (show (0 : Int32) = iI 0 from rfl), show iI 0 = (0 : Int32) from rfl, show iI 1 = (1 : Int32) from rfl, mF1, gT2_s, if_neg (by decide)]
  · refine ⟨1, 0, gRd_t (c1_nameByte_n1 F w4.cur w5 w6 ⟨ha1, ha2⟩ q) w3 F (fun _ _ _ => rfl) (by decide), ?_⟩
    rw [mSib_no w7 w6 ⟨ha1, ha2⟩ q, gB_s, if_pos rfl, gB_s, if_pos rfl, mF1, gT2_s, if_neg (by decide)]
theorem p_outputByte (w : gW cd o h n M st S sa len hd hs HS fv VS) (z1 iT : Int32) : ∃ c v, gRd (f_X0_outputByte cd z1 (o + 11) h n) c v.toInt64 h n o ∧ f_X6_outputByte z1 M.aR M.iW iT = some (v, c) := by
  obtain ⟨F, w1, w2, w3, w4, ⟨w5, w6, w7⟩, -⟩ := w
  obtain ⟨fs0, ob⟩ := w4.ob
  obtain ⟨a, ha1, ha2, rfl⟩ := iI_of z1
  have w4' := w4
  obtain ⟨c1, -, -, ⟨k, W, c7, c8, c9, c10⟩⟩ := w4
  unfold f_X0_outputByte f_X6_outputByte f_X6_outputByte_J20 f_X1_outputByte
  rw [ob, gB_s, fI_at c1 rfl, gB_s, c9, iI_sub_1, show (0 : Int32) = iI 0 from rfl]
  by_cases q : 0 ≤ a ∧ a < W
  · obtain ⟨a, rfl⟩ : ∃ k : Nat, a = k := ⟨a.toNat, by omega⟩
    have q1 : a < W := by omega
    rw [cCI_ok (by omega) (by omega), gTX_l, fA_at c1 rfl, gB_s, aI_at c7 rfl (by omega) (by decide) (c10 a q1), gB_s, mBt_ok (by omega) (by omega) (by omega) (by omega), gB_s, if_neg (show ¬ (1 : Int32) = iI 0 from by decide), show iI 0 = (0 : Int32) from rfl, mF0, gT2_s, if_pos rfl, ra_at (j := a) rfl (by omega) (by decide) rfl, gB_s]
    exact ⟨0, _, gRd_ok ⟨_, _, rfl, gPas.rf F, trivial⟩ w3 F, rfl⟩
  · rw [mBt_no (by omega) (by omega) (by omega) (by omega), gB_s, if_pos (show (0 : Int32) = iI 0 from rfl), show iI 0 = (0 : Int32) from rfl, mF1, gT2_s, if_neg (by decide)]
    exact ⟨1, 0, gRd_t ((cCI_no F ⟨ha1, ha2⟩ q (by omega)).X) w3 F (fun _ _ _ => rfl) (by decide), rfl⟩
theorem knS_n (S : gS) : (knS S).n = S.n ∧ (knS S).c = S.c := by
  obtain ⟨g, eg⟩ := knZ_ow 6 (owG S (-1) 0 S.c) (fun _ => false) 0 S.n
  unfold knS; rw [eg]; exact ⟨rfl, rfl⟩
theorem new_e {α : Type} {e : gE} {K : Nat → gH → Nat → Option α} : gT3 (g_new h n e) K = K n (g_up h n e) (n + 1) := rfl
theorem sc_back {m m' : Nat → Int32} (e : ∀ j, 212 ≤ j → m' j = cpB m 0 9 212 j) : ∀ j, j < 1908 → cpB m' 9 0 212 j = m j := by
  intro j hj
  by_cases q : j < 212
  · have h1 := cpB_in (m := m') (a := 9) (b := 0) (j := j) q
    have h2 := cpB_in (m := m) (a := 0) (b := 9) (j := j) q
    rw [show 212 * 0 + j = j by omega] at h1 h2
    rw [h1, e _ (by omega), h2]
  · rw [cpB_ot (by omega), e _ (by omega), cpB_ot (by omega)]
theorem c1_wbk_ok {a : Nat} (F : gFr h n) (hO : CurAt h cd st) (hS : StAt h st S sa) (hw : WF S) (h1 : a < S.n) : gRt (f_X1_welfareByKnife cd (iI a) h n) (iI (sWS (knS S) a a)) h n noD tT := by
  have hn := hw.2.1
  have hc := hw.1
  have u := ar1_p F (iI a)
  have hO1 := u.cur F hO
  have hS1 := u.st F hS
  obtain ⟨fs, o1, o2⟩ := hO1
  obtain ⟨fs2, o3⟩ := a_obj hS1
  have hO1 := u.cur F hO
  obtain ⟨h2, e2, t2, u2⟩ := cCopy u.2.1 hS1 hw
  obtain ⟨h3, e3, t3, fr⟩ := cKn t2 hw
  obtain ⟨fs4, o4⟩ := a_obj t2
  obtain ⟨fs5, o5⟩ := a_obj t3
  have u3 : gPas h n h3 (n + 1 + 5) noD := by
    have x1 := (u.tr' u2)
    have x2 := fr.pas x1.2.1 t2
    refine x1.tr x2 fun b q1 q2 => ?_
    rcases q2 with q | q | q <;> omega
  have e0 : g_fA (g_up (ar1 h n (iI a)) (n + 1) (.inr (0, [.null, .null, .null]))) cd 3 4 = some st := by
    obtain ⟨gs, p1, p2⟩ := (gPas.new (D := noD) u.2.1).cur u.2.1 hO1
    exact fA_at p1 p2
  refine ⟨h3, n + 1 + 5, ?_, u3, trivial⟩
  unfold f_X1_welfareByKnife
  rw [ar1_e, g_obj_s o1, gB_s, cS1a_ok (a := (a : Int)) ⟨fs, o1, o2⟩ hS1 hn.2 (by omega), gTX_l, new_e, e0, gB_s, e2, gT2_s, o4, gB_s, e3, gT2_s, o5, gB_s, cWf t3 (knS_wf hw) (by rw [(knS_n S).1]; exact h1), gB_s]
theorem c1_wbk_no {a : Int} (F : gFr h n) (hO : CurAt h cd st) (hS : StAt h st S sa) (hw : WF S) (ha : -2147483648 ≤ a ∧ a < 2147483648) (h1 : ¬ (0 ≤ a ∧ a < S.n)) : gThr (f_X1_welfareByKnife cd (iI a) h n) 12 h n := by
  have hn := hw.2.1
  have hc := hw.1
  have u := ar1_p F (iI a)
  have hO1 := u.cur F hO
  have hS1 := u.st F hS
  obtain ⟨fs, o1, o2⟩ := hO1
  obtain ⟨fs2, o3⟩ := a_obj hS1
  unfold f_X1_welfareByKnife
  rw [ar1_e, g_obj_s o1, gB_s]
  exact ((cS1_no u.2.1 ar1_at rfl ⟨fs, o1, o2⟩ hS1 hn.2 ha h1).X).pre u
theorem p_welfareByKnife (w : gW cd o h n M st S sa len hd hs HS fv VS) (z1 iT : Int32) (aH : Nat → Int32) : ∃ c v aM' aH', gRd (f_X0_welfareByKnife cd z1 (o + 11) h n) c v.toInt64 h n o ∧ f_X6_welfareByKnife z1 M.aM iT aH = some (v, aM', c, aH') ∧ ∀ j, j < 1908 → aM' j = M.aM j := by
  obtain ⟨F, w1, w2, w3, w4, ⟨w5, w6, w7⟩, -⟩ := w
  obtain ⟨fs0, ob⟩ := w4.ob
  obtain ⟨a, ha1, ha2, rfl⟩ := iI_of z1
  unfold f_X0_welfareByKnife f_X6_welfareByKnife f_X6_welfareByKnife_J14
  rw [ob, gB_s]
  by_cases q : 0 ≤ a ∧ a < S.n
  · obtain ⟨a, rfl⟩ : ∃ k : Nat, a = k := ⟨a.toNat, by omega⟩
    have q1 : a < S.n := by omega
    have b1 : f_X6_copyBlock (0 : Int32) (9 : Int32) M.aM = some (cpB M.aM 0 9 212) := mCpB (a := 0) (b := 9) (by omega) (by omega) (by omega)
    obtain ⟨m', a', e2, e3⟩ := mKn (a := aH) (cpB_stay (a := 0) (b := 9) w6 (by omega) w7) w6
    have b2 : f_X6_copyBlock (9 : Int32) (0 : Int32) m' = some (cpB m' 9 0 212) := mCpB (a := 9) (b := 0) (by omega) (by omega) (by omega)
    refine ⟨0, _, _, a', gRd_ok (c1_wbk_ok F w4.cur w5 w6 q1) w3 F, ?_, sc_back e3.2⟩
    rw [mSib_ok w7 w6 q1, gB_s, if_neg (by decide), mF0, gT2_s, if_pos rfl, b1, gB_s, e2, gT3_s, mWf e3.1 (knS_wf w6) (by rw [(knS_n S).1]; exact q1), gB_s, b2, gB_s]
  · refine ⟨1, 0, M.aM, aH, gRd_t (c1_wbk_no F w4.cur w5 w6 ⟨ha1, ha2⟩ q) w3 F (fun _ _ _ => rfl) (by decide), ?_, fun _ _ => rfl⟩
    rw [mSib_no w7 w6 ⟨ha1, ha2⟩ q, gB_s, if_pos rfl, mF1, gT2_s, if_neg (by decide)]
def arC (S : gS) (k : Nat) : gS := (rrZ 24 (owG S (-1) 0 S.c) k 0).1
theorem clr_wf (hw : WF S) : WF (owG S (-1) 0 S.c) := WF_owG hw ⟨by omega, by have := hw.2.1; omega⟩
theorem arC_wf (hw : WF S) {k : Nat} (hk : k < S.n) : WF (arC S k) := rrZ_wf _ _ _ _ (clr_wf hw) hk
theorem cAr {k : Nat} (F : gFr h n) (hO : CurAt h cd st) (hS : StAt h st S sa) (hw : WF S) (hk : k < S.n) : ∃ h', f_X1_afterRobin cd (iI k) h n = some (n, h', n + 5) ∧ StAt h' n (arC S k) sa ∧ gPas h n h' (n + 5) noD := by
  obtain ⟨fs, o1, o2⟩ := hO
  obtain ⟨fs2, o3⟩ := a_obj hS
  obtain ⟨h1, e1, t1, u1⟩ := cFree F hS hw
  obtain ⟨h2, e2, u2⟩ := cRr t1 (clr_wf hw) hk
  obtain ⟨fs4, o4⟩ := a_obj t1
  obtain ⟨g, eg⟩ := rrZ_ow 24 (owG S (-1) 0 S.c) k 0
  refine ⟨h2, ?_, ?_, ?_⟩
  · unfold f_X1_afterRobin
    rw [fA_at o1 o2, gB_s, o3, gB_s, e1, gT3_s, o4, gB_s, e2, gT2_s]
  · unfold arC
    rw [eg] at u2 ⊢
    exact OwUp.st t1 u2
  · refine u1.tr (u2.fr.pas u1.2.1 t1) fun b q1 q2 => ?_
    rcases q2 with q | q | q <;> omega
theorem mAr {m : Nat → Int32} {k : Nat} {g : Nat → Int} (hB : BlkAt m 0 (setOw S g)) (hw : WF S) (hg : WF (setOw S g)) (hk : k < S.n) : ∃ m1 m2 z, f_X6_clear m = some m1 ∧ f_X6_robin (iI k) m1 = some (z, m2) ∧ BlkUp m m2 (arC S k) := by
  obtain ⟨m1, e1, u1⟩ := mClr hB hg
  have u1' : BlkAt m1 0 (owG S (-1) 0 S.c) := by
    refine BlkAt_ow (S := owG (setOw S g) (-1) 0 S.c) (g := (owG S (-1) 0 S.c).ow) u1.1 (fun _ _ => rfl) (fun j hj => ?_) hw.1.2
    have hj : j < S.c := hj
    have := u1.1.2.2.1 j hj
    rw [show 212 * 0 + 2 + j = 2 + j by omega] at this
    rw [this]
    show iI (if 0 ≤ j ∧ j < S.c then -1 else _) = iI (if 0 ≤ j ∧ j < S.c then -1 else _)
    rw [if_pos ⟨by omega, hj⟩, if_pos ⟨by omega, hj⟩]
  obtain ⟨m2, e2, u2⟩ := mRr u1' (clr_wf hw) hk
  exact ⟨m1, m2, _, e1, e2, u2.1, fun j hj => (u2.2 j hj).trans (u1.2 j hj)⟩
theorem c1_wbr_ok {a b : Nat} (F : gFr h n) (hO : CurAt h cd st) (hS : StAt h st S sa) (hw : WF S) (h1 : a < S.n) (h2 : b < S.n) : gRt (f_X1_welfareByRobin cd (iI a) (iI b) h n) (iI (sWS (arC S b) a a)) h n noD tT := by
  have hn := hw.2.1
  have hc := hw.1
  have u := ar2_p F (iI a) (iI b)
  have hO1 := u.cur F hO
  have hS1 := u.st F hS
  obtain ⟨fs, o1, o2⟩ := hO1
  obtain ⟨fs2, o3⟩ := a_obj hS1
  obtain ⟨h2', e2, t2, u2⟩ := cAr u.2.1 ⟨fs, o1, o2⟩ hS1 hw h2
  obtain ⟨fs4, o4⟩ := a_obj t2
  have har : (arC S b).n = S.n := by
    obtain ⟨g, eg⟩ := rrZ_ow 24 (owG S (-1) 0 S.c) b 0
    unfold arC; rw [eg]; rfl
  refine ⟨h2', n + 1 + 5, ?_, u.tr' u2, trivial⟩
  unfold f_X1_welfareByRobin
  rw [ar2_e, g_obj_s o1, gB_s, cS2a_ok (a := (a : Int)) (b := (b : Int)) ⟨fs, o1, o2⟩ hS1 hn.2 (by omega) (by omega), gTX_l, g_obj_s o1, gB_s, e2, gT3_s, o4, gB_s, cWf t2 (arC_wf hw h2) (by rw [har]; exact h1), gB_s]
theorem c1_wbr_no {a b : Int} (F : gFr h n) (hO : CurAt h cd st) (hS : StAt h st S sa) (hw : WF S) (ha : -2147483648 ≤ a ∧ a < 2147483648) (hb : -2147483648 ≤ b ∧ b < 2147483648) (h1 : ¬ ((0 ≤ a ∧ a < S.n) ∧ 0 ≤ b ∧ b < S.n)) : gThr (f_X1_welfareByRobin cd (iI a) (iI b) h n) 12 h n := by
  have hn := hw.2.1
  have hc := hw.1
  have u := ar2_p F (iI a) (iI b)
  have hO1 := u.cur F hO
  have hS1 := u.st F hS
  obtain ⟨fs, o1, o2⟩ := hO1
  obtain ⟨fs2, o3⟩ := a_obj hS1
  unfold f_X1_welfareByRobin
  rw [ar2_e, g_obj_s o1, gB_s]
  exact ((cS2_no u.2.1 ar2_at rfl rfl ⟨fs, o1, o2⟩ hS1 hn.2 ha hb h1).X).pre u
theorem p_welfareByRobin (w : gW cd o h n M st S sa len hd hs HS fv VS) (z1 z2 iT : Int32) : ∃ c v aM', gRd (f_X0_welfareByRobin cd z1 z2 (o + 11) h n) c v.toInt64 h n o ∧ f_X6_welfareByRobin z1 z2 M.aM iT = some (v, aM', c) ∧ ∀ j, j < 1908 → aM' j = M.aM j := by
  obtain ⟨F, w1, w2, w3, w4, ⟨w5, w6, w7⟩, -⟩ := w
  obtain ⟨fs0, ob⟩ := w4.ob
  obtain ⟨a, ha1, ha2, rfl⟩ := iI_of z1
  obtain ⟨b, hb1, hb2, rfl⟩ := iI_of z2
  unfold f_X0_welfareByRobin f_X6_welfareByRobin f_X6_welfareByRobin_J15
  rw [ob, gB_s]
  by_cases q : (0 ≤ a ∧ a < S.n) ∧ 0 ≤ b ∧ b < S.n
  · obtain ⟨a, rfl⟩ : ∃ k : Nat, a = k := ⟨a.toNat, by omega⟩
    obtain ⟨b, rfl⟩ : ∃ k : Nat, b = k := ⟨b.toNat, by omega⟩
    have q1 : a < S.n := by omega
    have q2 : b < S.n := by omega
    have b1 : f_X6_copyBlock (0 : Int32) (9 : Int32) M.aM = some (cpB M.aM 0 9 212) := mCpB (a := 0) (b := 9) (by omega) (by omega) (by omega)
    obtain ⟨m1, m2, z, e1, e2, e3⟩ := mAr (S := S) (g := S.ow) (k := b) (cpB_stay (a := 0) (b := 9) w6 (by omega) w7) w6 w6 q2
    have b2 : f_X6_copyBlock (9 : Int32) (0 : Int32) m2 = some (cpB m2 9 0 212) := mCpB (a := 9) (b := 0) (by omega) (by omega) (by omega)
    have har : (arC S b).n = S.n := by
      obtain ⟨g, eg⟩ := rrZ_ow 24 (owG S (-1) 0 S.c) b 0
      unfold arC; rw [eg]; rfl
    refine ⟨0, _, _, gRd_ok (c1_wbr_ok F w4.cur w5 w6 q1 q2) w3 F, ?_, sc_back e3.2⟩
    rw [mSs_ok w7 w6 q1 q2, gB_s, if_neg (by decide), mF0, gT2_s, if_pos rfl, b1, gB_s, e1, gB_s, e2, gT2_s, mWf e3.1 (arC_wf w6 q2) (by rw [har]; exact q1), gB_s, b2, gB_s]
  · refine ⟨1, 0, M.aM, gRd_t (c1_wbr_no F w4.cur w5 w6 ⟨ha1, ha2⟩ ⟨hb1, hb2⟩ q) w3 F (fun _ _ _ => rfl) (by decide), ?_, fun _ _ => rfl⟩
    rw [mSs_no w7 w6 ⟨ha1, ha2⟩ ⟨hb1, hb2⟩ q, gB_s, if_pos rfl, mF1, gT2_s, if_neg (by decide)]
def bfL (S : gS) (k : Nat) : Int := lwZ (arC S k) (S.n - 1)
def bfZ (S : gS) : Nat → Int × Int
  | 0 => (-1, -1)
  | k + 1 => if (bfZ S k).2 < bfL S k then ((k : Int), bfL S k) else bfZ S k
theorem arC_n (S : gS) (k : Nat) : (arC S k).n = S.n ∧ (arC S k).c = S.c := by
  obtain ⟨g, eg⟩ := rrZ_ow 24 (owG S (-1) 0 S.c) k 0
  unfold arC; rw [eg]; exact ⟨rfl, rfl⟩
theorem bfL_b (hw : WF S) {k : Nat} (hk : k < S.n) : 0 ≤ bfL S k ∧ bfL S k ≤ 216 := by
  have hn := hw.2.1
  have := lwZ_b (arC_wf hw hk) (S.n - 1) (by rw [(arC_n S k).1]; omega)
  exact this
theorem bfZ_b (hw : WF S) : ∀ k, k ≤ S.n → (-1 ≤ (bfZ S k).1 ∧ (bfZ S k).1 < k) ∧ -1 ≤ (bfZ S k).2 ∧ (bfZ S k).2 ≤ 216 := by
  intro k
  induction k with
  | zero => intro _; simp only [bfZ]; omega
  | succ k ih =>
    intro hk
    have h1 := ih (by omega)
    have h2 := bfL_b hw (k := k) (by omega)
    simp only [bfZ]
    split
    · exact ⟨⟨by show (-1 : Int) ≤ k; omega, by show (k : Int) < _; omega⟩, by show -1 ≤ bfL S k; omega, by show bfL S k ≤ 216; omega⟩
    · exact ⟨⟨by omega, by omega⟩, by omega, by omega⟩
theorem bfC_loop (hw : WF S) : ∀ (d i k : Nat) (h : gH) (n : Nat), i + d = S.n → d < k → gFr h n → CurAt h cd st → StAt h st S sa → ∃ h' n', gL5 (f_X1_bestFirst_L6 cd) k (iI (bfZ S i).1) (iI (bfZ S i).2) (iI i) h n = some (iI (bfZ S S.n).1, h', n') ∧ gPas h n h' n' noD := by
  have hn := hw.2.1
  intro d
  induction d with
  | zero =>
    intro i k h n e hk F hO hS
    obtain ⟨k, rfl⟩ : ∃ k', k = k' + 1 := ⟨k - 1, by omega⟩
    have e1 : i = S.n := by omega
    subst e1
    obtain ⟨fs, o1, o2⟩ := hO
    obtain ⟨fs2, o3⟩ := a_obj hS
    refine ⟨h, n, ?_, gPas.rf F⟩
    show f_X1_bestFirst_L6 cd (gL5 (f_X1_bestFirst_L6 cd) k) _ _ _ _ _ = _
    unfold f_X1_bestFirst_L6
    rw [fA_at o1 o2, gB_s, o3, gB_s, a_size hS, gB_s, if_pos (Int32.le_refl _)]
  | succ d ih =>
    intro i k h n e hk F hO hS
    obtain ⟨k, rfl⟩ : ∃ k', k = k' + 1 := ⟨k - 1, by omega⟩
    have hi : i < S.n := by omega
    obtain ⟨h1, e1, t1, u1⟩ := cAr F hO hS hw hi
    obtain ⟨h', n', e2, u2⟩ := ih (i + 1) k h1 (n + 5) (by omega) (by omega) u1.2.1 (u1.cur F hO) (u1.st F hS)
    have hO' := u1.cur F hO
    obtain ⟨fs, o1, o2⟩ := hO
    obtain ⟨fs2, o3⟩ := a_obj hS
    obtain ⟨fs4, o4⟩ := a_obj t1
    have b1 := bfZ_b hw i (by omega)
    have b2 := bfL_b hw hi
    have hlw : f_X2_leastWelfare n h1 = some (iI (bfL S i)) := by
      have := cLw t1 (arC_wf hw hi)
      rw [(arC_n S i).1] at this
      exact this
    refine ⟨h', n', ?_, u1.tr' u2⟩
    show f_X1_bestFirst_L6 cd (gL5 (f_X1_bestFirst_L6 cd) k) _ _ _ _ _ = _
    generalize gL5 (f_X1_bestFirst_L6 cd) k = r at e2 ⊢
    unfold f_X1_bestFirst_L6
    rw [Int.natCast_add, Int.natCast_one] at e2
    rw [fA_at o1 o2, gB_s, o3, gB_s, a_size hS, gB_s, if_neg (by rw [iI_le (by omega) (by omega) (by omega) (by omega)]; omega), g_obj_s o1, gB_s, e1, gT3_s, o4, gB_s, hlw, gB_s, iI_1, iI_add]
    simp only [bfZ] at e2
    by_cases q : (bfZ S i).2 < bfL S i
    · rw [if_pos q] at e2
      rw [if_neg (by rw [iI_le (by omega) (by omega) (by omega) (by omega)]; omega), if_pos (by rw [iI_lt (by omega) (by omega) (by omega) (by omega)]; omega)]
      exact e2
    · rw [if_neg q] at e2
      rw [if_pos (by rw [iI_le (by omega) (by omega) (by omega) (by omega)]; omega), if_neg (by rw [iI_lt (by omega) (by omega) (by omega) (by omega)]; omega)]
      exact e2
theorem bfM_loop {m0 : Nat → Int32} {iT : Int32} (hw : WF S) : ∀ (d i k : Nat) (m : Nat → Int32) (g : Nat → Int), i + d = S.n → d < k → BlkAt m 0 (setOw S g) → WF (setOw S g) → (∀ j, 212 ≤ j → m j = cpB m0 0 9 212 j) → ∃ m', gL4 (f_X6_bestFirst_L18 iT) k (iI (bfZ S i).1) (iI (bfZ S i).2) (iI i) m = some (iI (bfZ S S.n).1, m', iT) ∧ ∀ j, j < 1908 → m' j = m0 j := by
  have hn := hw.2.1
  intro d
  induction d with
  | zero =>
    intro i k m g e hk hB hg em
    obtain ⟨k, rfl⟩ : ∃ k', k = k' + 1 := ⟨k - 1, by omega⟩
    have e1 : i = S.n := by omega
    subst e1
    have b2 : f_X6_copyBlock (9 : Int32) (0 : Int32) m = some (cpB m 9 0 212) := mCpB (a := 9) (b := 0) (by omega) (by omega) (by omega)
    refine ⟨cpB m 9 0 212, ?_, sc_back em⟩
    show f_X6_bestFirst_L18 iT (gL4 (f_X6_bestFirst_L18 iT) k) _ _ _ _ = _
    unfold f_X6_bestFirst_L18
    rw [show g_ra 2120 m (1 : Int32) = some (iI S.n) from b_n (S := setOw S g) hB, gB_s, if_pos (Int32.le_refl _), b2, gB_s]
  | succ d ih =>
    intro i k m g e hk hB hg em
    obtain ⟨k, rfl⟩ : ∃ k', k = k' + 1 := ⟨k - 1, by omega⟩
    have hi : i < S.n := by omega
    obtain ⟨m1, m2, z, e1, e2, e3⟩ := mAr hB hw hg hi
    obtain ⟨g2, eg⟩ := rrZ_ow 24 (owG S (-1) 0 S.c) i 0
    have eg2 : arC S i = setOw S g2 := by unfold arC; rw [eg]; rfl
    have w2 := arC_wf hw hi
    have b1 := bfZ_b hw i (by omega)
    have b2 := bfL_b hw hi
    obtain ⟨m', e4, e5⟩ := ih (i + 1) k m2 g2 (by omega) (by omega) (by rw [← eg2]; exact e3.1) (by rw [← eg2]; exact w2) (fun j hj => (e3.2 j hj).trans (em j hj))
    have hlw : f_X6_least m2 = some (iI (bfL S i)) := by
      have := mLw e3.1 w2
      rw [(arC_n S i).1] at this
      exact this
    refine ⟨m', ?_, e5⟩
    show f_X6_bestFirst_L18 iT (gL4 (f_X6_bestFirst_L18 iT) k) _ _ _ _ = _
    generalize gL4 (f_X6_bestFirst_L18 iT) k = r at e4 ⊢
    unfold f_X6_bestFirst_L18
    rw [Int.natCast_add, Int.natCast_one] at e4
    rw [show g_ra 2120 m (1 : Int32) = some (iI S.n) from b_n (S := setOw S g) hB, gB_s, if_neg (by rw [iI_le (by omega) (by omega) (by omega) (by omega)]; show ¬ ((setOw S g).n : Int) ≤ _; show ¬ (S.n : Int) ≤ _; omega), e1, gB_s, e2, gT2_s, hlw, gB_s, gB_s, iI_1, iI_add]
    simp only [bfZ] at e4
    by_cases q : (bfZ S i).2 < bfL S i
    · rw [if_pos q] at e4
      rw [if_pos (by rw [iI_lt (by omega) (by omega) (by omega) (by omega)]; omega)]
      exact e4
    · rw [if_neg q] at e4
      rw [if_neg (by rw [iI_lt (by omega) (by omega) (by omega) (by omega)]; omega)]
      exact e4
theorem p_bestFirst (w : gW cd o h n M st S sa len hd hs HS fv VS) (iT : Int32) : ∃ v h' n' t aM', gPas h n h' n' noD ∧ f_X1_bestFirst cd h n = some (v, h', n') ∧ f_X6_bestFirst M.aM iT = some (v, aM', t) ∧ ∀ j, j < 1908 → aM' j = M.aM j := by
  obtain ⟨F, w1, w2, w3, w4, ⟨w5, w6, w7⟩, -⟩ := w
  obtain ⟨fs0, ob⟩ := w4.ob
  have hn := w6.2.1
  obtain ⟨h', n', e1, u⟩ := bfC_loop (cd := cd) w6 S.n 0 7 h n (by omega) (by omega) F w4.cur w5
  have b1 : f_X6_copyBlock (0 : Int32) (9 : Int32) M.aM = some (cpB M.aM 0 9 212) := mCpB (a := 0) (b := 9) (by omega) (by omega) (by omega)
  obtain ⟨m', e2, e3⟩ := bfM_loop (m0 := M.aM) (iT := 0) w6 S.n 0 gN (cpB M.aM 0 9 212) S.ow (by omega) (by unfold gN; omega) (cpB_stay (a := 0) (b := 9) w6 (by omega) w7) w6 (fun _ _ => rfl)
  refine ⟨_, h', n', 0, m', u, e1, ?_, e3⟩
  unfold f_X6_bestFirst
  rw [b1, gB_s]
  exact e2
end RD4
