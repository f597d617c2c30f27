/-! THE READS, 2: through a sibling; owner; mild; swaps -/
section RD2
variable {h : gH} {cd o n : Nat} {M : gMS} {st : Nat} {S : gS} {sa : Nat → Nat} {len hd : Nat} {hs : Nat → Nat} {HS : Nat → gS} {fv : Nat → Option Nat} {VS : Nat → gS}
theorem c1_value_ok {s k : Nat} (F : gFr h n) (hO : CurAt h cd st) (hS : StAt h st S sa) (hw : WF S) (h1 : s < S.n) (h2 : k < S.c) : gRt (f_X1_value cd (iI s) (iI k) h n) (iI (S.v s k)) h n noD tT := by
  have hn := hw.2.1
  have hc := hw.1
  have u := ar1_p F (iI s)
  have hO1 := u.cur F hO
  have hS1 := u.st F hS
  obtain ⟨fs, o1, o2⟩ := hO1
  obtain ⟨fs2, o3⟩ := a_obj hS1
  have hO0 := hO
  obtain ⟨fs0, o0, -⟩ := hO0
  obtain ⟨fs3, o4⟩ := a_sobj hS1 h1
  refine ⟨_, _, ?_, u, trivial⟩
  unfold f_X1_value
  rw [g_obj_s o0, gB_s, cSA_ok F hO hS hn.2 h1, gTX_l, fA_at o1 o2, gB_s, o3, gB_s, a_cells hS1, gB_s, cCI_ok (by omega) (by omega), gTX_l, o4, gB_s, a_value hS1 h1 h2 hc.2, gB_s]
theorem c1_value_n1 {s k : Int} (F : gFr h n) (hO : CurAt h cd st) (hS : StAt h st S sa) (hw : WF S) (hs : -2147483648 ≤ s ∧ s < 2147483648) (h1 : ¬ (0 ≤ s ∧ s < S.n)) : gThr (f_X1_value cd (iI s) (iI k) h n) 12 h n := by
  have hn := hw.2.1
  have hc := hw.1
  have hO0 := hO
  obtain ⟨fs0, o0, -⟩ := hO0
  unfold f_X1_value
  rw [g_obj_s o0, gB_s]
  exact (cSA_no F hO hS hn.2 hs h1).X
theorem c1_value_n2 {s : Nat} {k : Int} (F : gFr h n) (hO : CurAt h cd st) (hS : StAt h st S sa) (hw : WF S) (h1 : s < S.n) (hk : -2147483648 ≤ k ∧ k < 2147483648) (h2 : ¬ (0 ≤ k ∧ k < S.c)) : gThr (f_X1_value cd (iI s) (iI k) h n) 12 h n := by
  have hn := hw.2.1
  have hc := hw.1
  have u := ar1_p F (iI s)
  have hO1 := u.cur F hO
  have hS1 := u.st F hS
  obtain ⟨fs, o1, o2⟩ := hO1
  obtain ⟨fs2, o3⟩ := a_obj hS1
  have hO0 := hO
  obtain ⟨fs0, o0, -⟩ := hO0
  obtain ⟨fs3, o4⟩ := a_sobj hS1 h1
  unfold f_X1_value
  rw [g_obj_s o0, gB_s, cSA_ok F hO hS hn.2 h1, gTX_l, fA_at o1 o2, gB_s, o3, gB_s, a_cells hS1, gB_s]
  exact ((cCI_no u.2.1 hk h2 (by omega)).X).pre u
theorem p_value (w : gW cd o h n M st S sa len hd hs HS fv VS) (z1 z2 iT : Int32) : ∃ c v, gRd (f_X0_value cd z1 z2 (o + 11) h n) c v.toInt64 h n o ∧ f_X6_value z1 z2 M.aM iT = some (v, c) := by
  obtain ⟨F, w1, w2, w3, w4, ⟨w5, w6, w7⟩, -⟩ := w
  obtain ⟨fs0, ob⟩ := w4.ob
  obtain ⟨a, ha1, ha2, rfl⟩ := iI_of z1
  obtain ⟨b, hb1, hb2, rfl⟩ := iI_of z2
  unfold f_X0_value f_X6_value f_X6_value_J17 f_X6_value_J22
  rw [ob, gB_s]
  by_cases q : 0 ≤ a ∧ a < S.n
  · obtain ⟨a, rfl⟩ : ∃ k : Nat, a = k := ⟨a.toNat, by omega⟩
    have q1 : a < S.n := by omega
    rw [mSib_ok w7 w6 q1, gB_s, if_neg (by decide)]
    by_cases r : 0 ≤ b ∧ b < S.c
    · obtain ⟨b, rfl⟩ : ∃ k : Nat, b = k := ⟨b.toNat, by omega⟩
      have r1 : b < S.c := by omega
      refine ⟨0, _, gRd_ok (c1_value_ok F w4.cur w5 w6 q1 r1) w3 F, ?_⟩
      rw [mCell_ok w7 w6 r1, gB_s, if_neg (by decide), mF0, gT2_s, if_pos rfl, b_val w7 q1 w6.2.1.2 r1 w6.1.2, gB_s]
    · refine ⟨1, 0, gRd_t (c1_value_n2 F w4.cur w5 w6 q1 ⟨hb1, hb2⟩ r) w3 F (fun _ _ _ => rfl) (by decide), ?_⟩
      rw [mCell_no w7 w6 ⟨hb1, hb2⟩ r, gB_s, if_pos rfl, mF1, gT2_s, if_neg (by decide)]
  · refine ⟨1, 0, gRd_t (c1_value_n1 F w4.cur w5 w6 ⟨ha1, ha2⟩ q) w3 F (fun _ _ _ => rfl) (by decide), ?_⟩
    rw [mSib_no w7 w6 ⟨ha1, ha2⟩ q, gB_s, if_pos rfl, mF1, gT2_s, if_neg (by decide)]
theorem c1_total_ok {s : Nat} (F : gFr h n) (hO : CurAt h cd st) (hS : StAt h st S sa) (hw : WF S) (h1 : s < S.n) : gRt (f_X1_total cd (iI s) h n) (iI (totZ S s)) h n noD tT := by
  have hn := hw.2.1
  have hc := hw.1
  have u := ar1_p F (iI s)
  have hO1 := u.cur F hO
  have hS1 := u.st F hS
  obtain ⟨fs, o1, o2⟩ := hO1
  obtain ⟨fs2, o3⟩ := a_obj hS1
  have hO0 := hO
  obtain ⟨fs0, o0, -⟩ := hO0
  obtain ⟨fs3, o4⟩ := a_sobj hS1 h1
  refine ⟨_, _, ?_, u, trivial⟩
  unfold f_X1_total
  rw [g_obj_s o0, gB_s, cSA_ok F hO hS hn.2 h1, gTX_l, o4, gB_s, cTot hS1 hw h1, gB_s]
theorem c1_total_no {s : Int} (F : gFr h n) (hO : CurAt h cd st) (hS : StAt h st S sa) (hw : WF S) (hs : -2147483648 ≤ s ∧ s < 2147483648) (h1 : ¬ (0 ≤ s ∧ s < S.n)) : gThr (f_X1_total cd (iI s) h n) 12 h n := by
  have hn := hw.2.1
  have hc := hw.1
  have hO0 := hO
  obtain ⟨fs0, o0, -⟩ := hO0
  unfold f_X1_total
  rw [g_obj_s o0, gB_s]
  exact (cSA_no F hO hS hn.2 hs h1).X
theorem p_total (w : gW cd o h n M st S sa len hd hs HS fv VS) (z1 iT : Int32) : ∃ c v, gRd (f_X0_total cd z1 (o + 11) h n) c v.toInt64 h n o ∧ f_X6_total z1 M.aM iT = some (v, c) := by
  obtain ⟨F, w1, w2, w3, w4, ⟨w5, w6, w7⟩, -⟩ := w
  obtain ⟨fs0, ob⟩ := w4.ob
  obtain ⟨a, ha1, ha2, rfl⟩ := iI_of z1
  unfold f_X0_total f_X6_total f_X6_total_J14
  rw [ob, gB_s]
  by_cases q : 0 ≤ a ∧ a < S.n
  · obtain ⟨a, rfl⟩ : ∃ k : Nat, a = k := ⟨a.toNat, by omega⟩
    have q1 : a < S.n := by omega
    refine ⟨0, _, gRd_ok (c1_total_ok F w4.cur w5 w6 q1) w3 F, ?_⟩
    rw [mSib_ok w7 w6 q1, gB_s, if_neg (by decide), mF0, gT2_s, if_pos rfl, mTot w7 w6 q1, gB_s]
  · refine ⟨1, 0, gRd_t (c1_total_no F w4.cur w5 w6 ⟨ha1, ha2⟩ q) w3 F (fun _ _ _ => rfl) (by decide), ?_⟩
    rw [mSib_no w7 w6 ⟨ha1, ha2⟩ q, gB_s, if_pos rfl, mF1, gT2_s, if_neg (by decide)]
theorem c1_worth_ok {s a e : Nat} (F : gFr h n) (hO : CurAt h cd st) (hS : StAt h st S sa) (hw : WF S) (h1 : s < S.n) (h2 : a ≤ e) (h3 : e < S.c) : gRt (f_X1_worth cd (iI s) (iI a) (iI e) h n) (iI (pS S s (e + 1) - pS S s a)) h n noD tT := by
  have hn := hw.2.1
  have hc := hw.1
  have u := ar1_p F (iI s)
  have hO1 := u.cur F hO
  have hS1 := u.st F hS
  obtain ⟨fs, o1, o2⟩ := hO1
  obtain ⟨fs2, o3⟩ := a_obj hS1
  have hO0 := hO
  obtain ⟨fs0, o0, -⟩ := hO0
  obtain ⟨fs3, o4⟩ := a_sobj hS1 h1
  refine ⟨_, _, ?_, u, trivial⟩
  have hwr := cWr hS1 hw h1 (a := a) (e := e + 1) (by omega) (by omega)
  rw [show ((e + 1 : Nat) : Int) - 1 = e by omega] at hwr
  unfold f_X1_worth
  rw [g_obj_s o0, gB_s, cSA_ok F hO hS hn.2 h1, gTX_l, g_obj_s o1, gB_s, cCC_ok ⟨fs, o1, o2⟩ hS1 hc.2 h2 h3, gTX_l, o4, gB_s, hwr, gB_s]
theorem c1_worth_n1 {s a e : Int} (F : gFr h n) (hO : CurAt h cd st) (hS : StAt h st S sa) (hw : WF S) (hs : -2147483648 ≤ s ∧ s < 2147483648) (h1 : ¬ (0 ≤ s ∧ s < S.n)) : gThr (f_X1_worth cd (iI s) (iI a) (iI e) h n) 12 h n := by
  have hn := hw.2.1
  have hc := hw.1
  have hO0 := hO
  obtain ⟨fs0, o0, -⟩ := hO0
  unfold f_X1_worth
  rw [g_obj_s o0, gB_s]
  exact (cSA_no F hO hS hn.2 hs h1).X
theorem c1_worth_n2 {s : Nat} {a e : Int} (F : gFr h n) (hO : CurAt h cd st) (hS : StAt h st S sa) (hw : WF S) (h1 : s < S.n) (ha : -2147483648 ≤ a ∧ a < 2147483648) (he : -2147483648 ≤ e ∧ e < 2147483648) (h2 : ¬ (0 ≤ a ∧ a ≤ e ∧ e < S.c)) : gThr (f_X1_worth cd (iI s) (iI a) (iI e) h n) 11 h n := by
  have hn := hw.2.1
  have hc := hw.1
  have u := ar1_p F (iI s)
  have hO1 := u.cur F hO
  have hS1 := u.st F hS
  obtain ⟨fs, o1, o2⟩ := hO1
  obtain ⟨fs2, o3⟩ := a_obj hS1
  have hO0 := hO
  obtain ⟨fs0, o0, -⟩ := hO0
  obtain ⟨fs3, o4⟩ := a_sobj hS1 h1
  unfold f_X1_worth
  rw [g_obj_s o0, gB_s, cSA_ok F hO hS hn.2 h1, gTX_l, g_obj_s o1, gB_s]
  exact ((cCC_no u.2.1 ⟨fs, o1, o2⟩ hS1 hc.2 ha he h2).X).pre u
theorem p_worth (w : gW cd o h n M st S sa len hd hs HS fv VS) (z1 z2 z3 iT : Int32) : ∃ c v, gRd (f_X0_worth cd z1 z2 z3 (o + 11) h n) c v.toInt64 h n o ∧ f_X6_worth z1 z2 z3 M.aM iT = some (v, c) := by
  obtain ⟨F, w1, w2, w3, w4, ⟨w5, w6, w7⟩, -⟩ := w
  obtain ⟨fs0, ob⟩ := w4.ob
  obtain ⟨s, hs1, hs2, rfl⟩ := iI_of z1
  obtain ⟨a, ha1, ha2, rfl⟩ := iI_of z2
  obtain ⟨e, he1, he2, rfl⟩ := iI_of z3
  unfold f_X0_worth f_X6_worth f_X6_worth_J14 f_X6_worth_J28
  rw [ob, gB_s]
  by_cases q : 0 ≤ s ∧ s < S.n
  · obtain ⟨s, rfl⟩ : ∃ k : Nat, s = k := ⟨s.toNat, by omega⟩
    have q1 : s < S.n := by omega
    rw [mSib_ok w7 w6 q1, gB_s, if_neg (by decide)]
    by_cases r : 0 ≤ a ∧ a ≤ e ∧ e < S.c
    · obtain ⟨a, rfl⟩ : ∃ k : Nat, a = k := ⟨a.toNat, by omega⟩
      obtain ⟨e, rfl⟩ : ∃ k : Nat, e = k := ⟨e.toNat, by omega⟩
      have r1 : a ≤ e := by omega
      have r2 : e < S.c := by omega
      have hwr := mWr w7 w6 q1 (a := a) (e := e + 1) (by omega) (by omega)
      rw [show ((e + 1 : Nat) : Int) - 1 = e by omega] at hwr
      refine ⟨0, _, gRd_ok (c1_worth_ok F w4.cur w5 w6 q1 r1 r2) w3 F, ?_⟩
      rw [mRg_ok w7 w6 r1 r2, gB_s, if_neg (by decide), mF0, gT2_s, if_pos rfl, hwr, gB_s]
    · refine ⟨2, 0, gRd_t (c1_worth_n2 F w4.cur w5 w6 q1 ⟨ha1, ha2⟩ ⟨he1, he2⟩ r) w3 F (fun _ _ _ => rfl) (by decide), ?_⟩
      rw [mRg_no w7 w6 ⟨ha1, ha2⟩ ⟨he1, he2⟩ r, gB_s, if_pos rfl, mF2, gT2_s, if_neg (by decide)]
  · refine ⟨1, 0, gRd_t (c1_worth_n1 F w4.cur w5 w6 ⟨hs1, hs2⟩ q) w3 F (fun _ _ _ => rfl) (by decide), ?_⟩
    rw [mSib_no w7 w6 ⟨hs1, hs2⟩ q, gB_s, if_pos rfl]
    by_cases r : 0 ≤ a ∧ a ≤ e ∧ e < S.c
    · obtain ⟨a, rfl⟩ : ∃ k : Nat, a = k := ⟨a.toNat, by omega⟩
      obtain ⟨e, rfl⟩ : ∃ k : Nat, e = k := ⟨e.toNat, by omega⟩
      rw [mRg_ok w7 w6 (by omega) (by omega), gB_s, if_neg (by decide), mF1, gT2_s, if_neg (by decide)]
    · rw [mRg_no w7 w6 ⟨ha1, ha2⟩ ⟨he1, he2⟩ r, gB_s, if_pos rfl, mF1, gT2_s, if_neg (by decide)]
theorem cBt1_ok {a c : Int} (ha : -2147483648 ≤ a ∧ a < 2147483648) (hc : -2147483648 ≤ c ∧ c < 2147483648) (q : 1 ≤ a ∧ a ≤ c) : f_X1_isBetween (iI a) (1 : Int32) (iI c) h = some (1 : Int32) := cBt_ok (b := 1) ha (by omega) hc q
theorem cBt1_no {a c : Int} (ha : -2147483648 ≤ a ∧ a < 2147483648) (hc : -2147483648 ≤ c ∧ c < 2147483648) (q : ¬ (1 ≤ a ∧ a ≤ c)) : f_X1_isBetween (iI a) (1 : Int32) (iI c) h = some (0 : Int32) := cBt_no (b := 1) ha (by omega) hc q
theorem mBt1_ok {a c : Int} (ha : -2147483648 ≤ a ∧ a < 2147483648) (hc : -2147483648 ≤ c ∧ c < 2147483648) (q : 1 ≤ a ∧ a ≤ c) : f_X6_in (iI a) (1 : Int32) (iI c) = some (1 : Int32) := mBt_ok (b := 1) ha (by omega) hc q
theorem mBt1_no {a c : Int} (ha : -2147483648 ≤ a ∧ a < 2147483648) (hc : -2147483648 ≤ c ∧ c < 2147483648) (q : ¬ (1 ≤ a ∧ a ≤ c)) : f_X6_in (iI a) (1 : Int32) (iI c) = some (0 : Int32) := mBt_no (b := 1) ha (by omega) hc q
theorem c1_mark_ok {s k : Nat} {p : Int} (F : gFr h n) (hO : CurAt h cd st) (hS : StAt h st S sa) (hw : WF S) (h1 : s < S.n) (h2 : k < S.c) (h3 : 1 ≤ p ∧ p ≤ 24) : gRt (f_X1_mark cd (iI s) (iI k) (iI p) h n) (iI (mkZ S s k p : Nat)) h n noD tT := by
  have hn := hw.2.1
  have hc := hw.1
  have u := ar1_p F (iI s)
  have hO1 := u.cur F hO
  have hS1 := u.st F hS
  obtain ⟨fs, o1, o2⟩ := hO1
  obtain ⟨fs2, o3⟩ := a_obj hS1
  have hO0 := hO
  obtain ⟨fs0, o0, -⟩ := hO0
  obtain ⟨fs3, o4⟩ := a_sobj hS1 h1
  refine ⟨_, _, ?_, u, trivial⟩
  unfold f_X1_mark
  rw [g_obj_s o0, gB_s, cSA_ok F hO hS hn.2 h1, gTX_l, fA_at o1 o2, gB_s, o3, gB_s, a_cells hS1, gB_s, cCI_ok (by omega) (by omega), gTX_l, iI_24, cBt1_ok (by omega) (by omega) h3, gB_s, cCA_ok, gTX_l, o4, gB_s, cMk hS1 hw h1 h2 h3, gB_s]
theorem c1_mark_n1 {s k p : Int} (F : gFr h n) (hO : CurAt h cd st) (hS : StAt h st S sa) (hw : WF S) (hs : -2147483648 ≤ s ∧ s < 2147483648) (h1 : ¬ (0 ≤ s ∧ s < S.n)) : gThr (f_X1_mark cd (iI s) (iI k) (iI p) h n) 12 h n := by
  have hn := hw.2.1
  have hc := hw.1
  have hO0 := hO
  obtain ⟨fs0, o0, -⟩ := hO0
  unfold f_X1_mark
  rw [g_obj_s o0, gB_s]
  exact (cSA_no F hO hS hn.2 hs h1).X
theorem c1_mark_n2 {s : Nat} {k p : Int} (F : gFr h n) (hO : CurAt h cd st) (hS : StAt h st S sa) (hw : WF S) (h1 : s < S.n) (hk : -2147483648 ≤ k ∧ k < 2147483648) (h2 : ¬ (0 ≤ k ∧ k < S.c)) : gThr (f_X1_mark cd (iI s) (iI k) (iI p) h n) 12 h n := by
  have hn := hw.2.1
  have hc := hw.1
  have u := ar1_p F (iI s)
  have hO1 := u.cur F hO
  have hS1 := u.st F hS
  obtain ⟨fs, o1, o2⟩ := hO1
  obtain ⟨fs2, o3⟩ := a_obj hS1
  have hO0 := hO
  obtain ⟨fs0, o0, -⟩ := hO0
  obtain ⟨fs3, o4⟩ := a_sobj hS1 h1
  unfold f_X1_mark
  rw [g_obj_s o0, gB_s, cSA_ok F hO hS hn.2 h1, gTX_l, fA_at o1 o2, gB_s, o3, gB_s, a_cells hS1, gB_s]
  exact ((cCI_no u.2.1 hk h2 (by omega)).X).pre u
theorem c1_mark_n3 {s k : Nat} {p : Int} (F : gFr h n) (hO : CurAt h cd st) (hS : StAt h st S sa) (hw : WF S) (h1 : s < S.n) (h2 : k < S.c) (hp : -2147483648 ≤ p ∧ p < 2147483648) (h3 : ¬ (1 ≤ p ∧ p ≤ 24)) : gThr (f_X1_mark cd (iI s) (iI k) (iI p) h n) 11 h n := by
  have hn := hw.2.1
  have hc := hw.1
  have u := ar1_p F (iI s)
  have hO1 := u.cur F hO
  have hS1 := u.st F hS
  obtain ⟨fs, o1, o2⟩ := hO1
  obtain ⟨fs2, o3⟩ := a_obj hS1
  have hO0 := hO
  obtain ⟨fs0, o0, -⟩ := hO0
  obtain ⟨fs3, o4⟩ := a_sobj hS1 h1
  unfold f_X1_mark
  rw [g_obj_s o0, gB_s, cSA_ok F hO hS hn.2 h1, gTX_l, fA_at o1 o2, gB_s, o3, gB_s, a_cells hS1, gB_s, cCI_ok (by omega) (by omega), gTX_l, iI_24, cBt1_no hp (by omega) h3, gB_s]
  exact ((cCA_no u.2.1).X).pre u
theorem p_mark (w : gW cd o h n M st S sa len hd hs HS fv VS) (z1 z2 z3 iT : Int32) : ∃ c v, gRd (f_X0_mark cd z1 z2 z3 (o + 11) h n) c v.toInt64 h n o ∧ f_X6_mark z1 z2 z3 M.aM iT = some (v, c) := by
  obtain ⟨F, w1, w2, w3, w4, ⟨w5, w6, w7⟩, -⟩ := w
  obtain ⟨fs0, ob⟩ := w4.ob
  obtain ⟨s, hs1, hs2, rfl⟩ := iI_of z1
  obtain ⟨a, ha1, ha2, rfl⟩ := iI_of z2
  obtain ⟨p, hp1, hp2, rfl⟩ := iI_of z3
  have bad : f_X6_mark_J17 (iI s) (iI a) (iI p) M.aM iT = some ((0 : Int32), (1 : Int32)) := by
    unfold f_X6_mark_J17 f_X6_mark_J22 f_X6_mark_J37
    by_cases t : 1 ≤ p ∧ p ≤ 24
    · rw [iI_24, mBt1_ok ⟨hp1, hp2⟩ (by omega) t, gB_s, if_neg (by decide), mF1, gT2_s, if_neg (by decide)]
    · rw [iI_24, mBt1_no ⟨hp1, hp2⟩ (by omega) t, gB_s, if_pos rfl, mF1, gT2_s, if_neg (by decide)]
  unfold f_X0_mark f_X6_mark
  rw [ob, gB_s]
  by_cases q : 0 ≤ s ∧ s < S.n
  · obtain ⟨s, rfl⟩ : ∃ k : Nat, s = k := ⟨s.toNat, by omega⟩
    have q1 : s < S.n := by omega
    rw [mSib_ok w7 w6 q1, gB_s, if_neg (by decide)]
    by_cases r : 0 ≤ a ∧ a < S.c
    · obtain ⟨a, rfl⟩ : ∃ k : Nat, a = k := ⟨a.toNat, by omega⟩
      have r1 : a < S.c := by omega
      rw [mCell_ok w7 w6 r1, gB_s, if_neg (by decide)]
      unfold f_X6_mark_J22 f_X6_mark_J37
      by_cases t : 1 ≤ p ∧ p ≤ 24
      · refine ⟨0, _, gRd_ok (c1_mark_ok F w4.cur w5 w6 q1 r1 t) w3 F, ?_⟩
        rw [iI_24, mBt1_ok ⟨hp1, hp2⟩ (by omega) t, gB_s, if_neg (by decide), mF0, gT2_s, if_pos rfl, mMk w7 w6 q1 r1 t, gB_s]
      · refine ⟨2, 0, gRd_t (c1_mark_n3 F w4.cur w5 w6 q1 r1 ⟨hp1, hp2⟩ t) w3 F (fun _ _ _ => rfl) (by decide), ?_⟩
        rw [iI_24, mBt1_no ⟨hp1, hp2⟩ (by omega) t, gB_s, if_pos rfl, mF2, gT2_s, if_neg (by decide)]
    · refine ⟨1, 0, gRd_t (c1_mark_n2 F w4.cur w5 w6 q1 ⟨ha1, ha2⟩ r) w3 F (fun _ _ _ => rfl) (by decide), ?_⟩
      rw [mCell_no w7 w6 ⟨ha1, ha2⟩ r, gB_s, if_pos rfl]
      exact bad
  · refine ⟨1, 0, gRd_t (c1_mark_n1 F w4.cur w5 w6 ⟨hs1, hs2⟩ q) w3 F (fun _ _ _ => rfl) (by decide), ?_⟩
    rw [mSib_no w7 w6 ⟨hs1, hs2⟩ q, gB_s, if_pos rfl]
    exact bad
theorem c1_owner_ok {k : Nat} (F : gFr h n) (hO : CurAt h cd st) (hS : StAt h st S sa) (hw : WF S) (h1 : k < S.c) : gRt (f_X1_owner cd (iI k) h n) (iI (S.ow k)) h n noD tT := by
  have hc := hw.1
  obtain ⟨fs, o1, o2⟩ := hO
  obtain ⟨fs2, o3⟩ := a_obj hS
  refine ⟨_, _, ?_, gPas.rf F, trivial⟩
  unfold f_X1_owner
  rw [fA_at o1 o2, gB_s, o3, gB_s, a_cells hS, gB_s, cCI_ok (by omega) (by omega), gTX_l, fA_at o1 o2, gB_s, a_ow hS, gB_s, a_own hS h1 hc.2, gB_s]
theorem c1_owner_no {k : Int} (F : gFr h n) (hO : CurAt h cd st) (hS : StAt h st S sa) (hw : WF S) (hk : -2147483648 ≤ k ∧ k < 2147483648) (h1 : ¬ (0 ≤ k ∧ k < S.c)) : gThr (f_X1_owner cd (iI k) h n) 12 h n := by
  have hc := hw.1
  obtain ⟨fs, o1, o2⟩ := hO
  obtain ⟨fs2, o3⟩ := a_obj hS
  unfold f_X1_owner
  rw [fA_at o1 o2, gB_s, o3, gB_s, a_cells hS, gB_s]
  exact (cCI_no F hk h1 (by omega)).X
theorem p_owner (w : gW cd o h n M st S sa len hd hs HS fv VS) (z1 iT : Int32) : ∃ c v, gRd (f_X0_owner cd z1 (o + 11) h n) c v.toInt64 h n o ∧ f_X6_owner z1 M.aM iT = some (v, c) := by
  obtain ⟨F, w1, w2, w3, w4, ⟨w5, w6, w7⟩, -⟩ := w
  obtain ⟨fs0, ob⟩ := w4.ob
  obtain ⟨a, ha1, ha2, rfl⟩ := iI_of z1
  unfold f_X0_owner f_X6_owner f_X6_owner_J14
  rw [ob, gB_s]
  by_cases q : 0 ≤ a ∧ a < S.c
  · obtain ⟨a, rfl⟩ : ∃ k : Nat, a = k := ⟨a.toNat, by omega⟩
    have q1 : a < S.c := by omega
    refine ⟨0, _, gRd_ok (c1_owner_ok F w4.cur w5 w6 q1) w3 F, ?_⟩
    rw [mCell_ok w7 w6 q1, gB_s, if_neg (by decide), mF0, gT2_s, if_pos rfl, b_own w7 q1 w6.1.2, gB_s]
  · refine ⟨1, 0, gRd_t (c1_owner_no F w4.cur w5 w6 ⟨ha1, ha2⟩ q) w3 F (fun _ _ _ => rfl) (by decide), ?_⟩
    rw [mCell_no w7 w6 ⟨ha1, ha2⟩ q, gB_s, if_pos rfl, mF1, gT2_s, if_neg (by decide)]
theorem ml01 {a b : Nat} : mlZ S a b = 0 ∨ mlZ S a b = 1 := by
  unfold mlZ; split <;> simp
theorem c1_isMild_ok {a b : Nat} (F : gFr h n) (hO : CurAt h cd st) (hS : StAt h st S sa) (hw : WF S) (h1 : a < S.n) (h2 : b < S.n) (h3 : eZ S a b = 1) : gRt (f_X1_isMild cd (iI a) (iI b) h n) (iI (mlZ S a b)) h n noD tT := by
  have hn := hw.2.1
  have hc := hw.1
  have u := ar2_p F (iI a) (iI b)
  have hO1 := u.cur F hO
  have hS1 := u.st F hS
  obtain ⟨fs, o1, o2⟩ := hO1
  obtain ⟨fs2, o3⟩ := a_obj hS1
  refine ⟨_, _, ?_, u, trivial⟩
  unfold f_X1_isMild
  rw [ar2_e, g_obj_s o1, gB_s, cS2a_ok (a := (a : Int)) (b := (b : Int)) ⟨fs, o1, o2⟩ hS1 hn.2 (by omega) (by omega), gTX_l, fA_at o1 o2, gB_s, o3, gB_s, cEnv hS1 hw h1 h2, gB_s, h3, show iI 1 = (1 : Int32) from rfl, cCt_ok, gTX_l, fA_at o1 o2, gB_s, o3, gB_s, cMild hS1 hw h1 h2, gB_s, if_pos (b01 ml01)]
theorem c1_isMild_n1 {a b : Int} (F : gFr h n) (hO : CurAt h cd st) (hS : StAt h st S sa) (hw : WF S) (ha : -2147483648 ≤ a ∧ a < 2147483648) (hb : -2147483648 ≤ b ∧ b < 2147483648) (h1 : ¬ ((0 ≤ a ∧ a < S.n) ∧ 0 ≤ b ∧ b < S.n)) : gThr (f_X1_isMild cd (iI a) (iI b) h n) 12 h n := by
  have hn := hw.2.1
  have hc := hw.1
  have u := ar2_p F (iI a) (iI b)
  have hO1 := u.cur F hO
  have hS1 := u.st F hS
  obtain ⟨fs, o1, o2⟩ := hO1
  obtain ⟨fs2, o3⟩ := a_obj hS1
  unfold f_X1_isMild
  rw [ar2_e, g_obj_s o1, gB_s]
  exact ((cS2_no u.2.1 ar2_at rfl rfl ⟨fs, o1, o2⟩ hS1 hn.2 ha hb h1).X).pre u
theorem c1_isMild_n2 {a b : Nat} (F : gFr h n) (hO : CurAt h cd st) (hS : StAt h st S sa) (hw : WF S) (h1 : a < S.n) (h2 : b < S.n) (h3 : eZ S a b = 0) : gThr (f_X1_isMild cd (iI a) (iI b) h n) 10 h n := by
  have hn := hw.2.1
  have hc := hw.1
  have u := ar2_p F (iI a) (iI b)
  have hO1 := u.cur F hO
  have hS1 := u.st F hS
  obtain ⟨fs, o1, o2⟩ := hO1
  obtain ⟨fs2, o3⟩ := a_obj hS1
  unfold f_X1_isMild
  rw [ar2_e, g_obj_s o1, gB_s, cS2a_ok (a := (a : Int)) (b := (b : Int)) ⟨fs, o1, o2⟩ hS1 hn.2 (by omega) (by omega), gTX_l, fA_at o1 o2, gB_s, o3, gB_s, cEnv hS1 hw h1 h2, gB_s, h3]
  exact ((cCt_no u.2.1).X).pre u
theorem p_isMild (w : gW cd o h n M st S sa len hd hs HS fv VS) (z1 z2 iT : Int32) : ∃ c v, gRd (f_X0_isMild cd z1 z2 (o + 11) h n) c (if v = 0 then (0 : Int64) else 1) h n o ∧ f_X6_isMild z1 z2 M.aM iT = some (v, c) := by
  obtain ⟨F, w1, w2, w3, w4, ⟨w5, w6, w7⟩, -⟩ := w
  obtain ⟨fs0, ob⟩ := w4.ob
  obtain ⟨a, ha1, ha2, rfl⟩ := iI_of z1
  obtain ⟨b, hb1, hb2, rfl⟩ := iI_of z2
  unfold f_X0_isMild f_X6_isMild f_X6_isMild_J17 f_X6_isMild_J34 f_X6_isMild_J35
  rw [ob, gB_s]
  by_cases q : (0 ≤ a ∧ a < S.n) ∧ 0 ≤ b ∧ b < S.n
  · obtain ⟨a, rfl⟩ : ∃ k : Nat, a = k := ⟨a.toNat, by omega⟩
    obtain ⟨b, rfl⟩ : ∃ k : Nat, b = k := ⟨b.toNat, by omega⟩
    have q1 : a < S.n := by omega
    have q2 : b < S.n := by omega
    rw [mSs_ok w7 w6 q1 q2, gB_s, if_neg (by decide), if_neg (by decide), mEnv w7 w6 q1 q2, gB_s]
    rcases eZ_01 S a b with e | e
    · refine ⟨2, 0, gRd_t (c1_isMild_n2 F w4.cur w5 w6 q1 q2 e) w3 F (fun _ _ _ => rfl) (by decide), ?_⟩
      rw [e, if_pos (show iI 0 = (0 : Int32) from rfl), mF2, gT2_s, if_neg (by decide)]
    · refine ⟨0, _, gRd_okB (c1_isMild_ok F w4.cur w5 w6 q1 q2 e) w3 F, ?_⟩
      rw [e, if_neg (show ¬ iI 1 = (0 : Int32) from by decide), mF0, gT2_s, if_pos rfl, mMild w7 w6 q1 q2 e, gB_s, if_pos (b01 ml01)]
  · refine ⟨1, 0, gRd_t (c1_isMild_n1 F w4.cur w5 w6 ⟨ha1, ha2⟩ ⟨hb1, hb2⟩ q) w3 F (fun _ _ _ => rfl) (by decide), ?_⟩
    rw [mSs_no w7 w6 ⟨ha1, ha2⟩ ⟨hb1, hb2⟩ q, gB_s, if_pos rfl, if_pos rfl, mF1, gT2_s, if_neg (by decide)]
def wsZ (S : gS) (a b : Nat) : Int := if eZ S a b = 0 then 0 else if eZ S b a = 0 then 0 else 1
theorem c1_wouldSwap_ok {a b : Nat} (F : gFr h n) (hO : CurAt h cd st) (hS : StAt h st S sa) (hw : WF S) (h1 : a < S.n) (h2 : b < S.n) : gRt (f_X1_wouldSwap cd (iI a) (iI b) h n) (iI (wsZ S a b)) h n noD tT := by
  have hn := hw.2.1
  have hc := hw.1
  have u := ar2_p F (iI a) (iI b)
  have hO1 := u.cur F hO
  have hS1 := u.st F hS
  obtain ⟨fs, o1, o2⟩ := hO1
  obtain ⟨fs2, o3⟩ := a_obj hS1
  refine ⟨_, _, ?_, u, trivial⟩
  unfold f_X1_wouldSwap
  rw [ar2_e, g_obj_s o1, gB_s, cS2a_ok (a := (a : Int)) (b := (b : Int)) ⟨fs, o1, o2⟩ hS1 hn.2 (by omega) (by omega), gTX_l, fA_at o1 o2, gB_s, o3, gB_s, cEnv hS1 hw h1 h2, gB_s, eZ_if]
  unfold wsZ
  by_cases q : eZ S a b = 0
  · rw [if_pos q, if_pos q]; rfl
  · rw [if_neg q, if_neg q, gB_s, o3, gB_s, cEnv hS1 hw h2 h1, gB_s, eZ_if]
    by_cases q2 : eZ S b a = 0
    · rw [if_pos q2, if_pos q2]; rfl
    · rw [if_neg q2, if_neg q2]; rfl
theorem c1_wouldSwap_n1 {a b : Int} (F : gFr h n) (hO : CurAt h cd st) (hS : StAt h st S sa) (hw : WF S) (ha : -2147483648 ≤ a ∧ a < 2147483648) (hb : -2147483648 ≤ b ∧ b < 2147483648) (h1 : ¬ ((0 ≤ a ∧ a < S.n) ∧ 0 ≤ b ∧ b < S.n)) : gThr (f_X1_wouldSwap cd (iI a) (iI b) h n) 12 h n := by
  have hn := hw.2.1
  have hc := hw.1
  have u := ar2_p F (iI a) (iI b)
  have hO1 := u.cur F hO
  have hS1 := u.st F hS
  obtain ⟨fs, o1, o2⟩ := hO1
  obtain ⟨fs2, o3⟩ := a_obj hS1
  unfold f_X1_wouldSwap
  rw [ar2_e, g_obj_s o1, gB_s]
  exact ((cS2_no u.2.1 ar2_at rfl rfl ⟨fs, o1, o2⟩ hS1 hn.2 ha hb h1).X).pre u
theorem p_wouldSwap (w : gW cd o h n M st S sa len hd hs HS fv VS) (z1 z2 iT : Int32) : ∃ c v, gRd (f_X0_wouldSwap cd z1 z2 (o + 11) h n) c (if v = 0 then (0 : Int64) else 1) h n o ∧ f_X6_wouldSwap z1 z2 M.aM iT = some (v, c) := by
  obtain ⟨F, w1, w2, w3, w4, ⟨w5, w6, w7⟩, -⟩ := w
  obtain ⟨fs0, ob⟩ := w4.ob
  obtain ⟨a, ha1, ha2, rfl⟩ := iI_of z1
  obtain ⟨b, hb1, hb2, rfl⟩ := iI_of z2
  unfold f_X0_wouldSwap f_X6_wouldSwap f_X6_wouldSwap_J15
  rw [ob, gB_s]
  by_cases q : (0 ≤ a ∧ a < S.n) ∧ 0 ≤ b ∧ b < S.n
  · obtain ⟨a, rfl⟩ : ∃ k : Nat, a = k := ⟨a.toNat, by omega⟩
    obtain ⟨b, rfl⟩ : ∃ k : Nat, b = k := ⟨b.toNat, by omega⟩
    have q1 : a < S.n := by omega
    have q2 : b < S.n := by omega
    refine ⟨0, _, gRd_okB (c1_wouldSwap_ok F w4.cur w5 w6 q1 q2) w3 F, ?_⟩
    rw [mSs_ok w7 w6 q1 q2, gB_s, if_neg (by decide), mF0, gT2_s, if_pos rfl, mEnv w7 w6 q1 q2, gB_s, eZ_if]
    unfold wsZ
    by_cases r : eZ S a b = 0
    · rw [if_pos r, if_pos r]; rfl
    · rw [if_neg r, if_neg r, mEnv w7 w6 q2 q1, gB_s, eZ_if]
      by_cases r2 : eZ S b a = 0
      · rw [if_pos r2, if_pos r2]; rfl
      · rw [if_neg r2, if_neg r2]; rfl
  · refine ⟨1, 0, gRd_t (c1_wouldSwap_n1 F w4.cur w5 w6 ⟨ha1, ha2⟩ ⟨hb1, hb2⟩ q) w3 F (fun _ _ _ => rfl) (by decide), ?_⟩
    rw [mSs_no w7 w6 ⟨ha1, ha2⟩ ⟨hb1, hb2⟩ q, gB_s, if_pos rfl, mF1, gT2_s, if_neg (by decide)]
end RD2
