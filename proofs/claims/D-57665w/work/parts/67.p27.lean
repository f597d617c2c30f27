/-! THE CHANGES, call by call: give, release, swap, set, divide, robin, knife -/
abbrev mU (M : gMS) (aM : Nat → Int32) (iU iT : Int32) : gMS := (aM, M.aS, iU, M.aB, M.iL, M.iE, M.iP, M.aR, M.iW, iT, M.aT, M.aC, M.aH, M.aE, M.aQ, M.iA, M.iY, M.iF, M.iV, M.aK)
def mutX (z0 : Nat) (D : gH → Nat → Option ((Int32 ⊕ gX) × gH × Nat)) (h : gH) (n : Nat) : Option ((Int32 ⊕ gX) × gH × Nat) :=
  (gT3 (g_new h n (.inr (0, [.null, .null, .null]))) fun q1 h2 n3 => (Option.bind (g_fA h2 z0 3 4) fun v4 => (gT2 (f_X2_init_2 q1 v4 h2 n3) fun h6 n7 => (Option.bind (g_obj h6 z0 3) fun _ => (gTX (D h6 n7) (fun v10 h12 n13 => (Option.bind (g_obj h12 z0 3) fun _ => (gT2 (f_X1_record z0 q1 v10 h12) fun v18 h19 => some (.inl v18, h19, n13)))) fun q11 h14 n15 => some (.inr (q11.1, q11.2), h14, n15))))))
section MV
variable {h : gH} {cd o n : Nat} {M M' : gMS} {st : Nat} {S S' : gS} {sa : Nat → Nat} {len hd : Nat} {hs : Nat → Nat} {HS : Nat → gS} {fv : Nat → Option Nat} {VS : Nat → gS}
/-- the deque and the class object after a change of the current state's cells -/
theorem dq_D {h2 : gH} {n2 : Nat} (F : gFr h n) (hS : StAt h st S sa) (hw : WF S) (u : gPas h n h2 n2 (DS st)) {hd len : Nat} {hs : Nat → Nat} (d : DqAt h (cd + 7) hd len hs) : DqAt h2 (cd + 7) hd len hs := by
  obtain ⟨a1, a2, a3, f, a4, a5⟩ := d
  exact ⟨a1, a2, u.ce F a3 (DS_arr hS a3), f, u.ce F a4 (DS_not hS hw a4 (kS_no3 (by decide))), a5⟩
theorem dq_0 {h2 : gH} {n2 : Nat} (F : gFr h n) (u : gPas h n h2 n2 noD) {hd len : Nat} {hs : Nat → Nat} (d : DqAt h (cd + 7) hd len hs) : DqAt h2 (cd + 7) hd len hs := d.keep fun _ _ hb _ => u.c0 F hb
theorem mutX_ok {D : gH → Nat → Option ((Int32 ⊕ gX) × gH × Nat)} {v : Int32} (w : gW cd o h n M st S sa len hd hs HS fv VS) (hw' : WF S') (hD : ∀ h1 n1, gFr h1 n1 → CurAt h1 cd st → StAt h1 st S sa → gRt (D h1 n1) v h1 n1 (DS st) fun h' _ => ∃ sa', StAt h' st S' sa') : ∃ h3 n3, mutX cd D h n = some (.inl v, h3, n3) ∧ gMut cd o h n st S S' len hs h3 n3 := by
  have w0 := w
  obtain ⟨F, w1, w2, w3, w4, ⟨w5, w6, w7⟩, ⟨w8, w9, w10⟩, -⟩ := w
  obtain ⟨h1, e1, t1, u1⟩ := cCopy F w5 w6
  have hO := w4.cur
  have u0 := gPas.new (D := noD) (e := .inr (0, [.null, .null, .null])) F
  have e0 : g_fA (g_up h n (.inr (0, [.null, .null, .null]))) cd 3 4 = some st := by
    obtain ⟨gs, p1, p2⟩ := u0.cur F hO
    exact fA_at p1 p2
  have F1 := u1.2.1
  have hO1 := u1.cur F hO
  have hS1 := u1.st F w5
  obtain ⟨fs1, o1⟩ := cur_o hO1
  obtain ⟨h2, n2, e2, u2, sa', t2⟩ := hD h1 (n + 5) F1 hO1 hS1
  have d1 := dq_0 F u1 w8
  have d2 := dq_D F1 hS1 w6 u2 d1
  have c1 := u1.c0 F w4.1
  have c2 := u2.ce F1 c1 (DS_arr hS1 c1)
  have lst := F.lt w5.1
  have hlt := w3.lt F
  have t3 := u2.stD F1 hS1 t1 (by omega)
  obtain ⟨h3, hd', e3, d3, f3⟩ := cRec (q := n) (v := v) c2 rfl d2 t3.1 ⟨by omega, by omega⟩
  refine ⟨h3, n2, ?_, gMut.mk w0 u1 t1 u2 t2 hw' d3 f3 d2⟩
  unfold mutX
  rw [new_e, e0, gB_s, e1, gT2_s, o1, gB_s, e2, gTX_l, g_obj_s c2, gB_s, e3, gT2_s]
theorem mutX_no {D : gH → Nat → Option ((Int32 ⊕ gX) × gH × Nat)} {k : Nat} (w : gW cd o h n M st S sa len hd hs HS fv VS) (hD : ∀ h1 n1, gFr h1 n1 → CurAt h1 cd st → StAt h1 st S sa → gThr (D h1 n1) k h1 n1) : gThr (mutX cd D h n) k h n := by
  obtain ⟨F, w1, w2, w3, w4, ⟨w5, w6, w7⟩, -⟩ := w
  obtain ⟨h1, e1, t1, u1⟩ := cCopy F w5 w6
  have hO := w4.cur
  have u0 := gPas.new (D := noD) (e := .inr (0, [.null, .null, .null])) F
  have e0 : g_fA (g_up h n (.inr (0, [.null, .null, .null]))) cd 3 4 = some st := by
    obtain ⟨gs, p1, p2⟩ := u0.cur F hO
    exact fA_at p1 p2
  obtain ⟨fs1, o1⟩ := cur_o (u1.cur F hO)
  unfold mutX
  rw [new_e, e0, gB_s, e1, gT2_s, o1, gB_s]
  exact ((hD h1 (n + 5) u1.2.1 (u1.cur F hO) (u1.st F w5)).X).pre u1
theorem rem_up {m m1 m2 : Nat → Int32} (b2 : ∀ j, j < hL len → BlkAt m1 (j + 1) (hF len HS S j) ∧ WF (hF len HS S j)) (b3 : ∀ j, 212 * 7 ≤ j → m1 j = m j) (u : BlkUp m1 m2 S') : (∀ j, j < hL len → BlkAt m2 (j + 1) (hF len HS S j) ∧ WF (hF len HS S j)) ∧ ∀ j, 212 * 7 ≤ j → m2 j = m j :=
  ⟨fun j hj => ⟨BlkAt_sh (b2 j hj).2 (fun k hk => u.2 _ (by omega)) (b2 j hj).1, (b2 j hj).2⟩, fun j hj => (u.2 j (by omega)).trans (b3 j hj)⟩
theorem mut_pr {D : gH → Nat → Option ((Int32 ⊕ gX) × gH × Nat)} {X : gX → gH → Nat → Option ((Int32 ⊕ gX) × gH × Nat)} {v : Int32} {m1 : Nat → Int32} (w : gW cd o h n M st S sa len hd hs HS fv VS) (hw' : WF S') (hD : ∀ h1 n1, gFr h1 n1 → CurAt h1 cd st → StAt h1 st S sa → gRt (D h1 n1) v h1 n1 (DS st) fun h' _ => ∃ sa', StAt h' st S' sa') (b2 : ∀ j, j < hL len → BlkAt m1 (j + 1) (hF len HS S j) ∧ WF (hF len HS S j)) (b3 : ∀ j, 212 * 7 ≤ j → m1 j = M.aM j) (u : BlkUp m1 M'.aM S') (e : M'.aS = M.aS ∧ M'.iU = iI (hL len) ∧ M'.aB = M.aB ∧ M'.iL = M.iL ∧ M'.iE = M.iE ∧ M'.iP = M.iP ∧ M'.aR = M.aR ∧ M'.iW = M.iW) : gPr (gTX (mutX cd D h n) (fun v3 h5 n6 => (Option.bind (g_sL h5 (o + 11) 5 (0 : Int32) v3.toInt64) fun h9 => some (.inl (0 : Int32), h9, n6))) X) cd o M M' 0 v.toInt64 := by
  obtain ⟨h3, n3, e1, g⟩ := mutX_ok w hw' hD
  obtain ⟨f, e2, ev⟩ := out_sL (v := v.toInt64) g.2.1
  have g' := g.out (h4 := g_up h3 (o + 11) (.inl (5, 1, .inr (.inl f)))) w.2.1 w.2.2.2.2.2.1.2.1 hw' rfl
  obtain ⟨r1, r2⟩ := rem_up b2 b3 u
  refine ⟨_, n3, ?_, mR_st w.2.2.1 fun b r => g'.2.2.1 b (.inl r), fun _ => by rw [out_aL, ev], g'.W w hw' u.1 r1 r2 e⟩
  rw [e1, gTX_l, e2, gB_s]
theorem rtE {D : gH → Nat → Option ((Int32 ⊕ gX) × gH × Nat)} {v : Int32} {sa : Nat → Nat} {Q : Nat → Prop} (t : gRt (D h n) v h n Q fun h' _ => StAt h' st S' sa) : gRt (D h n) v h n Q fun h' _ => ∃ sa', StAt h' st S' sa' := by
  obtain ⟨h', n', e, u, p⟩ := t
  exact ⟨h', n', e, u, sa, p⟩
theorem p_give (w : gW cd o h n M st S sa len hd hs HS fv VS) (z1 z2 z3 iT : Int32) : ∃ c v aM' iU', gPr (f_X0_give cd z1 z2 z3 (o + 11) h n) cd o M (mU M aM' iU' c) c v.toInt64 ∧ f_X6_give z1 z2 z3 M.aM M.iU iT = some (v, aM', iU', c) := by
  have w0 := w
  obtain ⟨F, w1, w2, w3, w4, ⟨w5, w6, w7⟩, ⟨w8, w9, w10⟩, -⟩ := w
  obtain ⟨fs0, ob⟩ := w4.ob
  have hn := w6.2.1
  have hc := w6.1
  obtain ⟨s, hs1, hs2, rfl⟩ := iI_of z1
  obtain ⟨a, ha1, ha2, rfl⟩ := iI_of z2
  obtain ⟨e, he1, he2, rfl⟩ := iI_of z3
  unfold f_X0_give f_X6_give f_X6_give_J14 f_X6_give_J28
  rw [ob, gB_s, show f_X1_give cd (iI s) (iI a) (iI e) h n = mutX cd (f_X1_doGive cd (iI s) (iI a) (iI e)) h n from rfl]
  obtain ⟨m1, e1, b1, b2, b3⟩ := mRem w7 w6 w8.2.1 (fun j hj => ⟨(w10 j hj).2.1, (w10 j hj).2.2⟩)
  rw [← w9] at e1
  by_cases q : 0 ≤ s ∧ s < S.n
  · obtain ⟨s, rfl⟩ : ∃ k : Nat, s = k := ⟨s.toNat, by omega⟩
    have q1 : s < S.n := by omega
    rw [mSib_ok w7 w6 q1, gB_s, if_neg (by decide)]
    by_cases r : 0 ≤ a ∧ a ≤ e ∧ e < S.c
    · obtain ⟨a, rfl⟩ : ∃ k : Nat, a = k := ⟨a.toNat, by omega⟩
      obtain ⟨e, rfl⟩ : ∃ k : Nat, e = k := ⟨e.toNat, by omega⟩
      have r1 : a ≤ e := by omega
      have r2 : e < S.c := by omega
      have hw2 : WF (owG S s a (e + 1)) := WF_owG w6 ⟨by omega, by omega⟩
      obtain ⟨m2, e2, u2⟩ := mOwn' b1 w6 (o := s) (a := a) (e := e + 1) (by omega) (by omega)
      have ho : f_X6_own (iI s) (iI a) (iI e) m1 = some m2 := by
        rw [← e2]; congr 2; omega
      refine ⟨0, _, m2, iI (hL len), mut_pr w0 hw2 (fun h1 n1 F1 hO1 hS1 => rtE (cDoGive_ok F1 hO1 hS1 w6 q1 r1 r2)) b2 b3 u2 ⟨rfl, rfl, rfl, rfl, rfl, rfl, rfl, rfl⟩, ?_⟩
      rw [mRg_ok w7 w6 r1 r2, gB_s, if_neg (by decide), mF0, gT2_s, if_pos rfl, e1, gT2_s, ho, gB_s, mWf u2.1 hw2 q1, gB_s]
    · refine ⟨2, 0, M.aM, M.iU, rd_pr w0 (gRd_t (mutX_no w0 fun h1 n1 F1 hO1 hS1 => cDoGive_n2 F1 hO1 hS1 w6 q ⟨ha1, ha2⟩ ⟨he1, he2⟩ r) w3 F (fun _ _ _ => rfl) (by decide)) ⟨fun _ _ => rfl, rfl, rfl, rfl, rfl, rfl, rfl, rfl, rfl⟩, ?_⟩
      rw [mRg_no w7 w6 ⟨ha1, ha2⟩ ⟨he1, he2⟩ r, gB_s, if_pos rfl, mF2, gT2_s, if_neg (by decide)]
  · refine ⟨1, 0, M.aM, M.iU, rd_pr w0 (gRd_t (mutX_no w0 fun h1 n1 F1 hO1 hS1 => cDoGive_n1 F1 hO1 hS1 w6 ⟨hs1, hs2⟩ q) w3 F (fun _ _ _ => rfl) (by decide)) ⟨fun _ _ => rfl, rfl, rfl, rfl, rfl, rfl, rfl, rfl, rfl⟩, ?_⟩
    rw [mSib_no w7 w6 ⟨hs1, hs2⟩ q, gB_s, if_pos rfl]
    by_cases r : 0 ≤ a ∧ a ≤ e ∧ e < S.c
    · obtain ⟨a, rfl⟩ : ∃ k : Nat, a = k := ⟨a.toNat, by omega⟩
      obtain ⟨e, rfl⟩ : ∃ k : Nat, e = k := ⟨e.toNat, by omega⟩
      rw [mRg_ok w7 w6 (by omega) (by omega), gB_s, if_neg (by decide), mF1, gT2_s, if_neg (by decide)]
    · rw [mRg_no w7 w6 ⟨ha1, ha2⟩ ⟨he1, he2⟩ r, gB_s, if_pos rfl, mF1, gT2_s, if_neg (by decide)]
theorem p_release (w : gW cd o h n M st S sa len hd hs HS fv VS) (z1 z2 iT : Int32) : ∃ c v aM' iU', gPr (f_X0_release cd z1 z2 (o + 11) h n) cd o M (mU M aM' iU' c) c v.toInt64 ∧ f_X6_release z1 z2 M.aM M.iU iT = some (v, aM', iU', c) := by
  have w0 := w
  obtain ⟨F, w1, w2, w3, w4, ⟨w5, w6, w7⟩, ⟨w8, w9, w10⟩, -⟩ := w
  obtain ⟨fs0, ob⟩ := w4.ob
  have hn := w6.2.1
  have hc := w6.1
  obtain ⟨a, ha1, ha2, rfl⟩ := iI_of z1
  obtain ⟨e, he1, he2, rfl⟩ := iI_of z2
  unfold f_X0_release f_X6_release f_X6_release_J15
  rw [ob, gB_s, show f_X1_release cd (iI a) (iI e) h n = mutX cd (f_X1_doRelease cd (iI a) (iI e)) h n from rfl]
  obtain ⟨m1, e1, b1, b2, b3⟩ := mRem w7 w6 w8.2.1 (fun j hj => ⟨(w10 j hj).2.1, (w10 j hj).2.2⟩)
  rw [← w9] at e1
  by_cases r : 0 ≤ a ∧ a ≤ e ∧ e < S.c
  · obtain ⟨a, rfl⟩ : ∃ k : Nat, a = k := ⟨a.toNat, by omega⟩
    obtain ⟨e, rfl⟩ : ∃ k : Nat, e = k := ⟨e.toNat, by omega⟩
    have r1 : a ≤ e := by omega
    have r2 : e < S.c := by omega
    have hw2 : WF (owG S (-1) a (e + 1)) := WF_owG w6 ⟨by omega, by omega⟩
    obtain ⟨m2, e2, u2⟩ := mOwn' b1 w6 (o := -1) (a := a) (e := e + 1) (by omega) (by omega)
    have ho : f_X6_own (iI (-1)) (iI a) (iI e) m1 = some m2 := by
      rw [← e2]; congr 2; omega
    refine ⟨0, _, m2, iI (hL len), mut_pr w0 hw2 (fun h1 n1 F1 hO1 hS1 => rtE (cDoRel_ok F1 hO1 hS1 w6 r1 r2)) b2 b3 u2 ⟨rfl, rfl, rfl, rfl, rfl, rfl, rfl, rfl⟩, ?_⟩
    rw [mRg_ok w7 w6 r1 r2, gB_s, if_neg (by decide), mF0, gT2_s, if_pos rfl, e1, gT2_s, show (-1 : Int32) = iI (-1) from rfl, ho, gB_s, mCnt u2.1 hw2 (by omega), gB_s]
  · refine ⟨1, 0, M.aM, M.iU, rd_pr w0 (gRd_t (mutX_no w0 fun h1 n1 F1 hO1 hS1 => cDoRel_no F1 hO1 hS1 w6 ⟨ha1, ha2⟩ ⟨he1, he2⟩ r) w3 F (fun _ _ _ => rfl) (by decide)) ⟨fun _ _ => rfl, rfl, rfl, rfl, rfl, rfl, rfl, rfl, rfl⟩, ?_⟩
    rw [mRg_no w7 w6 ⟨ha1, ha2⟩ ⟨he1, he2⟩ r, gB_s, if_pos rfl, mF1, gT2_s, if_neg (by decide)]
theorem p_swapShares (w : gW cd o h n M st S sa len hd hs HS fv VS) (z1 z2 iT : Int32) : ∃ c v aM' iU', gPr (f_X0_swapShares cd z1 z2 (o + 11) h n) cd o M (mU M aM' iU' c) c v.toInt64 ∧ f_X6_swapShares z1 z2 M.aM M.iU iT = some (v, aM', iU', c) := by
  have w0 := w
  obtain ⟨F, w1, w2, w3, w4, ⟨w5, w6, w7⟩, ⟨w8, w9, w10⟩, -⟩ := w
  obtain ⟨fs0, ob⟩ := w4.ob
  have hn := w6.2.1
  have hc := w6.1
  obtain ⟨a, ha1, ha2, rfl⟩ := iI_of z1
  obtain ⟨b, hb1, hb2, rfl⟩ := iI_of z2
  unfold f_X0_swapShares f_X6_swapShares f_X6_swapShares_J15 f_X6_swapShares_J25
  rw [ob, gB_s, show f_X1_swapShares cd (iI a) (iI b) h n = mutX cd (f_X1_doSwapShares cd (iI a) (iI b)) h n from rfl]
  obtain ⟨m1, e1, b1, b2, b3⟩ := mRem w7 w6 w8.2.1 (fun j hj => ⟨(w10 j hj).2.1, (w10 j hj).2.2⟩)
  rw [← w9] at e1
  by_cases q : (0 ≤ a ∧ a < S.n) ∧ 0 ≤ b ∧ b < S.n
  · by_cases r : a = b
    · subst r
      refine ⟨2, 0, M.aM, M.iU, rd_pr w0 (gRd_t (mutX_no w0 fun h1 n1 F1 hO1 hS1 => cDoSw_n2 F1 hO1 hS1 w6 q.1) w3 F (fun _ _ _ => rfl) (by decide)) ⟨fun _ _ => rfl, rfl, rfl, rfl, rfl, rfl, rfl, rfl, rfl⟩, ?_⟩
      obtain ⟨a, rfl⟩ : ∃ k : Nat, a = k := ⟨a.toNat, by omega⟩
      rw [mSs_ok w7 w6 (by omega) (by omega), gB_s, if_neg (by decide), if_pos rfl, mF2, gT2_s, if_neg (by decide)]
    · obtain ⟨a, rfl⟩ : ∃ k : Nat, a = k := ⟨a.toNat, by omega⟩
      obtain ⟨b, rfl⟩ : ∃ k : Nat, b = k := ⟨b.toNat, by omega⟩
      have q1 : a < S.n := by omega
      have q2 : b < S.n := by omega
      have q3 : a ≠ b := by omega
      obtain ⟨m2, e2, u2⟩ := mSw b1 w6 q1 q2 q3
      refine ⟨0, _, m2, iI (hL len), mut_pr w0 (swS_wf w6 q1 q2) (fun h1 n1 F1 hO1 hS1 => rtE (cDoSw_ok F1 hO1 hS1 w6 q1 q2 q3)) b2 b3 u2 ⟨rfl, rfl, rfl, rfl, rfl, rfl, rfl, rfl⟩, ?_⟩
      rw [mSs_ok w7 w6 q1 q2, gB_s, if_neg (by decide), if_neg (by rw [iI_eq (by omega) (by omega) (by omega) (by omega)]; omega), mF0, gT2_s, if_pos rfl, e1, gT2_s, e2, gB_s, mEnvN u2.1 (swS_wf w6 q1 q2), gB_s]
  · refine ⟨1, 0, M.aM, M.iU, rd_pr w0 (gRd_t (mutX_no w0 fun h1 n1 F1 hO1 hS1 => cDoSw_n1 F1 hO1 hS1 w6 ⟨ha1, ha2⟩ ⟨hb1, hb2⟩ q) w3 F (fun _ _ _ => rfl) (by decide)) ⟨fun _ _ => rfl, rfl, rfl, rfl, rfl, rfl, rfl, rfl, rfl⟩, ?_⟩
    rw [mSs_no w7 w6 ⟨ha1, ha2⟩ ⟨hb1, hb2⟩ q, gB_s, if_pos rfl]
    by_cases r : iI a = iI b
    · rw [if_pos r, mF1, gT2_s, if_neg (by decide)]
    · rw [if_neg r, mF1, gT2_s, if_neg (by decide)]
theorem p_divideAndChoose (w : gW cd o h n M st S sa len hd hs HS fv VS) (z1 z2 iT : Int32) : ∃ c v aM' iU', gPr (f_X0_divideAndChoose cd z1 z2 (o + 11) h n) cd o M (mU M aM' iU' c) c v.toInt64 ∧ f_X6_divideAndChoose z1 z2 M.aM M.iU iT = some (v, aM', iU', c) := by
  have w0 := w
  obtain ⟨F, w1, w2, w3, w4, ⟨w5, w6, w7⟩, ⟨w8, w9, w10⟩, -⟩ := w
  obtain ⟨fs0, ob⟩ := w4.ob
  have hn := w6.2.1
  have hc := w6.1
  obtain ⟨a, ha1, ha2, rfl⟩ := iI_of z1
  obtain ⟨b, hb1, hb2, rfl⟩ := iI_of z2
  unfold f_X0_divideAndChoose f_X6_divideAndChoose f_X6_divideAndChoose_J15 f_X6_divideAndChoose_J25
  rw [ob, gB_s, show f_X1_divideAndChoose cd (iI a) (iI b) h n = mutX cd (f_X1_doDivide cd (iI a) (iI b)) h n from rfl]
  obtain ⟨m1, e1, b1, b2, b3⟩ := mRem w7 w6 w8.2.1 (fun j hj => ⟨(w10 j hj).2.1, (w10 j hj).2.2⟩)
  rw [← w9] at e1
  by_cases q : (0 ≤ a ∧ a < S.n) ∧ 0 ≤ b ∧ b < S.n
  · by_cases r : a = b
    · subst r
      refine ⟨2, 0, M.aM, M.iU, rd_pr w0 (gRd_t (mutX_no w0 fun h1 n1 F1 hO1 hS1 => cDoDv_n2 F1 hO1 hS1 w6 q.1) w3 F (fun _ _ _ => rfl) (by decide)) ⟨fun _ _ => rfl, rfl, rfl, rfl, rfl, rfl, rfl, rfl, rfl⟩, ?_⟩
      obtain ⟨a, rfl⟩ : ∃ k : Nat, a = k := ⟨a.toNat, by omega⟩
      rw [mSs_ok w7 w6 (by omega) (by omega), gB_s, if_neg (by decide), if_pos rfl, mF2, gT2_s, if_neg (by decide)]
    · obtain ⟨a, rfl⟩ : ∃ k : Nat, a = k := ⟨a.toNat, by omega⟩
      obtain ⟨b, rfl⟩ : ∃ k : Nat, b = k := ⟨b.toNat, by omega⟩
      have q1 : a < S.n := by omega
      have q2 : b < S.n := by omega
      have q3 : a ≠ b := by omega
      obtain ⟨m2, e2, u2⟩ := mDv b1 w6 q1 q2
      refine ⟨0, _, m2, iI (hL len), mut_pr w0 (dvZ_wf w6 q1 q2) (fun h1 n1 F1 hO1 hS1 => rtE (cDoDv_ok F1 hO1 hS1 w6 q1 q2 q3)) b2 b3 u2 ⟨rfl, rfl, rfl, rfl, rfl, rfl, rfl, rfl⟩, ?_⟩
      rw [mSs_ok w7 w6 q1 q2, gB_s, if_neg (by decide), if_neg (by rw [iI_eq (by omega) (by omega) (by omega) (by omega)]; omega), mF0, gT2_s, if_pos rfl, e1, gT2_s, e2, gT2_s]
  · refine ⟨1, 0, M.aM, M.iU, rd_pr w0 (gRd_t (mutX_no w0 fun h1 n1 F1 hO1 hS1 => cDoDv_n1 F1 hO1 hS1 w6 ⟨ha1, ha2⟩ ⟨hb1, hb2⟩ q) w3 F (fun _ _ _ => rfl) (by decide)) ⟨fun _ _ => rfl, rfl, rfl, rfl, rfl, rfl, rfl, rfl, rfl⟩, ?_⟩
    rw [mSs_no w7 w6 ⟨ha1, ha2⟩ ⟨hb1, hb2⟩ q, gB_s, if_pos rfl]
    by_cases r : iI a = iI b
    · rw [if_pos r, mF1, gT2_s, if_neg (by decide)]
    · rw [if_neg r, mF1, gT2_s, if_neg (by decide)]
theorem mBt0_ok {a c : Int} (ha : -2147483648 ≤ a ∧ a < 2147483648) (hc : -2147483648 ≤ c ∧ c < 2147483648) (q : 0 ≤ a ∧ a ≤ c) : f_X6_in (iI a) (0 : Int32) (iI c) = some (1 : Int32) := mBt_ok (b := 0) ha (by omega) hc q
theorem mBt0_no {a c : Int} (ha : -2147483648 ≤ a ∧ a < 2147483648) (hc : -2147483648 ≤ c ∧ c < 2147483648) (q : ¬ (0 ≤ a ∧ a ≤ c)) : f_X6_in (iI a) (0 : Int32) (iI c) = some (0 : Int32) := mBt_no (b := 0) ha (by omega) hc q
theorem p_setValue (w : gW cd o h n M st S sa len hd hs HS fv VS) (z1 z2 z3 iT : Int32) : ∃ c v aM' iU', gPr (f_X0_setValue cd z1 z2 z3 (o + 11) h n) cd o M (mU M aM' iU' c) c v.toInt64 ∧ f_X6_setValue z1 z2 z3 M.aM M.iU iT = some (v, aM', iU', c) := by
  have w0 := w
  obtain ⟨F, w1, w2, w3, w4, ⟨w5, w6, w7⟩, ⟨w8, w9, w10⟩, -⟩ := w
  obtain ⟨fs0, ob⟩ := w4.ob
  have hn := w6.2.1
  have hc := w6.1
  obtain ⟨s, hs1, hs2, rfl⟩ := iI_of z1
  obtain ⟨a, ha1, ha2, rfl⟩ := iI_of z2
  obtain ⟨p, hp1, hp2, rfl⟩ := iI_of z3
  unfold f_X0_setValue f_X6_setValue 
  rw [ob, gB_s, show f_X1_setValue cd (iI s) (iI a) (iI p) h n = mutX cd (f_X1_doSetValue cd (iI s) (iI a) (iI p)) h n from rfl]
  obtain ⟨m1, e1, b1, b2, b3⟩ := mRem w7 w6 w8.2.1 (fun j hj => ⟨(w10 j hj).2.1, (w10 j hj).2.2⟩)
  rw [← w9] at e1
  have bad : f_X6_setValue_J17 (iI s) (iI a) (iI p) M.aM M.iU iT = some ((0 : Int32), M.aM, M.iU, (1 : Int32)) := by
    unfold f_X6_setValue_J17 f_X6_setValue_J22 f_X6_setValue_J37
    by_cases t : 0 ≤ p ∧ p ≤ 9
    · rw [iI_9, mBt0_ok ⟨hp1, hp2⟩ (by omega) t, gB_s, if_neg (by decide), mF1, gT2_s, if_neg (by decide)]
    · rw [iI_9, mBt0_no ⟨hp1, hp2⟩ (by omega) t, gB_s, if_pos rfl, mF1, gT2_s, if_neg (by decide)]
  by_cases q : 0 ≤ s ∧ s < S.n
  · obtain ⟨s, rfl⟩ : ∃ k : Nat, s = k := ⟨s.toNat, by omega⟩
    have q1 : s < S.n := by omega
    rw [mSib_ok w7 w6 q1, gB_s, if_neg (by decide)]
    by_cases r : 0 ≤ a ∧ a < S.c
    · obtain ⟨a, rfl⟩ : ∃ k : Nat, a = k := ⟨a.toNat, by omega⟩
      have r1 : a < S.c := by omega
      rw [mCell_ok w7 w6 r1, gB_s, if_neg (by decide)]
      unfold f_X6_setValue_J22 f_X6_setValue_J37
      by_cases t : 0 ≤ p ∧ p ≤ 9
      · obtain ⟨m2, e2, u2⟩ := mSv (x := p) b1 w6 q1 r1
        refine ⟨0, _, m2, iI (hL len), mut_pr w0 (valS_wf w6 t) (fun h1 n1 F1 hO1 hS1 => cDoSv_ok F1 hO1 hS1 w6 q1 r1 t) b2 b3 u2 ⟨rfl, rfl, rfl, rfl, rfl, rfl, rfl, rfl⟩, ?_⟩
        rw [iI_9, mBt0_ok ⟨hp1, hp2⟩ (by omega) t, gB_s, if_neg (by decide), mF0, gT2_s, if_pos rfl, e1, gT2_s, b_val b1 q1 hn.2 r1 hc.2, gB_s, e2, gB_s]
      · refine ⟨2, 0, M.aM, M.iU, rd_pr w0 (gRd_t (mutX_no w0 fun h1 n1 F1 hO1 hS1 => cDoSv_n3 F1 hO1 hS1 w6 q1 r1 ⟨hp1, hp2⟩ t) w3 F (fun _ _ _ => rfl) (by decide)) ⟨fun _ _ => rfl, rfl, rfl, rfl, rfl, rfl, rfl, rfl, rfl⟩, ?_⟩
        rw [iI_9, mBt0_no ⟨hp1, hp2⟩ (by omega) t, gB_s, if_pos rfl, mF2, gT2_s, if_neg (by decide)]
    · refine ⟨1, 0, M.aM, M.iU, rd_pr w0 (gRd_t (mutX_no w0 fun h1 n1 F1 hO1 hS1 => cDoSv_n2 F1 hO1 hS1 w6 q1 ⟨ha1, ha2⟩ r) w3 F (fun _ _ _ => rfl) (by decide)) ⟨fun _ _ => rfl, rfl, rfl, rfl, rfl, rfl, rfl, rfl, rfl⟩, ?_⟩
      rw [mCell_no w7 w6 ⟨ha1, ha2⟩ r, gB_s, if_pos rfl]
      exact bad
  · refine ⟨1, 0, M.aM, M.iU, rd_pr w0 (gRd_t (mutX_no w0 fun h1 n1 F1 hO1 hS1 => cDoSv_n1 F1 hO1 hS1 w6 ⟨hs1, hs2⟩ q) w3 F (fun _ _ _ => rfl) (by decide)) ⟨fun _ _ => rfl, rfl, rfl, rfl, rfl, rfl, rfl, rfl, rfl⟩, ?_⟩
    rw [mSib_no w7 w6 ⟨hs1, hs2⟩ q, gB_s, if_pos rfl]
    exact bad
theorem p_roundRobin (w : gW cd o h n M st S sa len hd hs HS fv VS) (z1 iT : Int32) : ∃ c v aM' iU', gPr (f_X0_roundRobin cd z1 (o + 11) h n) cd o M (mU M aM' iU' c) c v.toInt64 ∧ f_X6_roundRobin z1 M.aM M.iU iT = some (v, aM', iU', c) := by
  have w0 := w
  obtain ⟨F, w1, w2, w3, w4, ⟨w5, w6, w7⟩, ⟨w8, w9, w10⟩, -⟩ := w
  obtain ⟨fs0, ob⟩ := w4.ob
  have hn := w6.2.1
  have hc := w6.1
  obtain ⟨s, hs1, hs2, rfl⟩ := iI_of z1
  unfold f_X0_roundRobin f_X6_roundRobin f_X6_roundRobin_J14
  rw [ob, gB_s, show f_X1_roundRobin cd (iI s) h n = mutX cd (f_X1_doRoundRobin cd (iI s)) h n from rfl]
  obtain ⟨m1, e1, b1, b2, b3⟩ := mRem w7 w6 w8.2.1 (fun j hj => ⟨(w10 j hj).2.1, (w10 j hj).2.2⟩)
  rw [← w9] at e1
  by_cases q : 0 ≤ s ∧ s < S.n
  · obtain ⟨s, rfl⟩ : ∃ k : Nat, s = k := ⟨s.toNat, by omega⟩
    have q1 : s < S.n := by omega
    obtain ⟨m2, e2, u2⟩ := mRr b1 w6 q1
    refine ⟨0, _, m2, iI (hL len), mut_pr w0 (rrZ_wf _ _ _ _ w6 q1) (fun h1 n1 F1 hO1 hS1 => rtE (cDoRr_ok F1 hO1 hS1 w6 q1)) b2 b3 u2 ⟨rfl, rfl, rfl, rfl, rfl, rfl, rfl, rfl⟩, ?_⟩
    rw [mSib_ok w7 w6 q1, gB_s, if_neg (by decide), mF0, gT2_s, if_pos rfl, e1, gT2_s, e2, gT2_s]
  · refine ⟨1, 0, M.aM, M.iU, rd_pr w0 (gRd_t (mutX_no w0 fun h1 n1 F1 hO1 hS1 => cDoRr_no F1 hO1 hS1 w6 ⟨hs1, hs2⟩ q) w3 F (fun _ _ _ => rfl) (by decide)) ⟨fun _ _ => rfl, rfl, rfl, rfl, rfl, rfl, rfl, rfl, rfl⟩, ?_⟩
    rw [mSib_no w7 w6 ⟨hs1, hs2⟩ q, gB_s, if_pos rfl, mF1, gT2_s, if_neg (by decide)]
theorem p_movingKnife (w : gW cd o h n M st S sa len hd hs HS fv VS) (iT : Int32) : ∃ v h' n' aM' iU' t aH', f_X1_movingKnife cd h n = some (v, h', n') ∧ f_X6_movingKnife M.aM M.iU iT M.aH = some (v, aM', iU', t, aH') ∧ mR h' o = some M ∧ gWx cd o (gMS.H (aM', M.aS, iU', M.aB, M.iL, M.iE, M.iP, M.aR, M.iW, t, M.aT, M.aC, aH', M.aE, M.aQ, M.iA, M.iY, M.iF, M.iV, M.aK) h' o) n' := by
  have w0 := w
  obtain ⟨F, w1, w2, w3, w4, ⟨w5, w6, w7⟩, ⟨w8, w9, w10⟩, -⟩ := w
  obtain ⟨m1, e1, b1, b2, b3⟩ := mRem w7 w6 w8.2.1 (fun j hj => ⟨(w10 j hj).2.1, (w10 j hj).2.2⟩)
  rw [← w9] at e1
  obtain ⟨m2, a', e2, u2⟩ := mKn (a := M.aH) b1 w6
  obtain ⟨h3, n3, e3, g⟩ := mutX_ok (D := fun h n => gT2 (f_X2_movingKnife st h) fun v h' => some (.inl v, h', n)) (v := iI (sumZ (satZ (knS S)) S.n)) w0 (knS_wf w6) (fun h1 n1 F1 hO1 hS1 => by
    obtain ⟨h', x1, x2, x3⟩ := cKn hS1 w6
    exact ⟨h', n1, by rw [x1, gT2_s], x3.pas F1 hS1, _, x2⟩)
  obtain ⟨r1, r2⟩ := rem_up b2 b3 u2
  refine ⟨iI (sumZ (satZ (knS S)) S.n), h3, n3, m2, iI (hL len), 0, a', ?_, ?_, mR_st w2 fun b r => g.2.2.1 b (.inl r), g.W w0 (knS_wf w6) u2.1 r1 r2 ⟨rfl, rfl, rfl, rfl, rfl, rfl, rfl, rfl⟩⟩
  · obtain ⟨h1, x1, t1, u1⟩ := cCopy F w5 w6
    have hO := w4.cur
    have u0 := gPas.new (D := noD) (e := .inr (0, [.null, .null, .null])) F
    have e0 : g_fA (g_up h n (.inr (0, [.null, .null, .null]))) cd 3 4 = some st := by
      obtain ⟨gs, p1, p2⟩ := u0.cur F hO
      exact fA_at p1 p2
    have hO1 := u1.cur F hO
    have hS1 := u1.st F w5
    obtain ⟨fs1, o1, o2⟩ := hO1
    obtain ⟨fs2, o3⟩ := a_obj hS1
    obtain ⟨h2, y1, y2, y3⟩ := cKn hS1 w6
    obtain ⟨fs4, o4⟩ := cur_o (y3.cur hS1 ⟨fs1, o1, o2⟩)
    unfold mutX at e3
    rw [new_e, e0, gB_s, x1, gT2_s, g_obj_s o1, gB_s] at e3
    change gTX (gT2 (f_X2_movingKnife st h1) fun v h' => some (.inl v, h', n + 5)) _ _ = _ at e3
    rw [y1, gT2_s, gTX_l, o4, gB_s] at e3
    unfold f_X1_movingKnife
    rw [new_e, e0, gB_s, x1, gT2_s, fA_at o1 o2, gB_s, o3, gB_s, y1, gT2_s, o4, gB_s]
    generalize f_X1_record cd n (iI (sumZ (satZ (knS S)) S.n)) h2 = z at e3 ⊢
    rcases z with _ | ⟨z1, z2⟩
    · cases e3
    · rw [gT2_s] at e3 ⊢
      cases e3
      rfl
  · unfold f_X6_movingKnife
    rw [e1, gT2_s, e2, gT3_s]
end MV
