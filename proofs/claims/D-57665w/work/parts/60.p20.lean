/-! THE READS: class beside reference, call by call -/
def gRd (X : Option ((Int32 ⊕ gX) × gH × Nat)) (c : Int32) (v : Int64) (h : gH) (n o : Nat) : Prop := ∃ h' n', X = some (.inl c, h', n') ∧ gPas h n h' n' (fun b => b = o + 11 ∨ b = o + 12) ∧ gOut o h' ∧ (c = 0 → g_aL h' (o + 11) 5 (0 : Int32) = some v)
theorem gOut.mono {o : Nat} {h h' : gH} {n n' : Nat} (hu : gOut o h) (F : gFr h n) (u : gPas h n h' n' noD) : gOut o h' := by
  obtain ⟨⟨f, q1⟩, ⟨g, q2⟩⟩ := hu
  exact ⟨⟨f, u.c0 F q1⟩, ⟨g, u.c0 F q2⟩⟩
theorem out_sL {o : Nat} {h : gH} {v : Int64} (hu : gOut o h) : ∃ f : Nat → Int64, g_sL h (o + 11) 5 (0 : Int32) v = some (g_up h (o + 11) (.inl (5, 1, .inr (.inl f)))) ∧ f 0 = v := by
  obtain ⟨⟨f, q1⟩, -⟩ := hu
  unfold g_sL
  rw [g_arr_s q1]
  exact ⟨vp_updL f 0 v, rfl, if_pos rfl⟩
theorem out_aL {o : Nat} {h : gH} {f : Nat → Int64} : g_aL (g_up h (o + 11) (.inl (5, 1, .inr (.inl f)))) (o + 11) 5 (0 : Int32) = some (f 0) := by
  unfold g_aL
  rw [g_arr_s g_up_s]
  rfl
theorem gRd_up {o n n' : Nat} {h h' : gH} {v : Int64} (u : gPas h n h' n' noD) (hu : gOut o h) (F : gFr h n) : ∃ h2, g_sL h' (o + 11) 5 (0 : Int32) v = some h2 ∧ gPas h n h2 n' (fun b => b = o + 11 ∨ b = o + 12) ∧ gOut o h2 ∧ g_aL h2 (o + 11) 5 (0 : Int32) = some v := by
  have hu' := hu.mono F u
  have hl := hu.lt F
  obtain ⟨f, e, ev⟩ := out_sL (v := v) hu'
  have hn := u.1
  refine ⟨_, e, u.no.tr' (gPas.up u.2.1 (by omega) (.inl rfl)), ⟨⟨f, g_up_s⟩, ?_⟩, by rw [out_aL, ev]⟩
  obtain ⟨-, g, q2⟩ := hu'
  exact ⟨g, by rw [g_up_n (by omega)]; exact q2⟩
theorem gRd_ok {o n : Nat} {h : gH} {v : Int32} {r : Option ((Int32 ⊕ gX) × gH × Nat)} {X : gX → gH → Nat → Option ((Int32 ⊕ gX) × gH × Nat)} (t : gRt r v h n noD tT) (hu : gOut o h) (F : gFr h n) : gRd (gTX r (fun v3 h5 n6 => (Option.bind (g_sL h5 (o + 11) 5 (0 : Int32) v3.toInt64) fun h9 => some (.inl (0 : Int32), h9, n6))) X) 0 v.toInt64 h n o := by
  obtain ⟨h', n', e, u, -⟩ := t
  obtain ⟨h2, e2, e3, e4, e5⟩ := gRd_up (v := v.toInt64) u hu F
  rw [e, gTX_l, e2, gB_s]
  exact ⟨_, _, rfl, e3, e4, fun _ => e5⟩
theorem gRd_okB {o n : Nat} {h : gH} {v : Int32} {r : Option ((Int32 ⊕ gX) × gH × Nat)} {X : gX → gH → Nat → Option ((Int32 ⊕ gX) × gH × Nat)} (t : gRt r v h n noD tT) (hu : gOut o h) (F : gFr h n) : gRd (gTX r (fun v3 h5 n6 => (if v3 = 0 then (Option.bind (g_sL h5 (o + 11) 5 (0 : Int32) (0 : Int64)) fun h9 => some (.inl (0 : Int32), h9, n6)) else (Option.bind (g_sL h5 (o + 11) 5 (0 : Int32) (1 : Int64)) fun h10 => some (.inl (0 : Int32), h10, n6)))) X) 0 (if v = 0 then (0 : Int64) else 1) h n o := by
  obtain ⟨h', n', e, u, -⟩ := t
  obtain ⟨h2, e2, e3, e4, e5⟩ := gRd_up (v := if v = 0 then (0 : Int64) else 1) u hu F
  rw [e, gTX_l]
  by_cases q : v = 0
  · rw [if_pos q] at e2 e5 ⊢
    rw [if_pos q, e2, gB_s]
    exact ⟨_, _, rfl, e3, e4, fun _ => e5⟩
  · rw [if_neg q] at e2 e5 ⊢
    rw [if_neg q, e2, gB_s]
    exact ⟨_, _, rfl, e3, e4, fun _ => e5⟩
theorem gRd_t {α : Type} {o n k : Nat} {h : gH} {v : Int64} {c : Int32} {r : Option ((α ⊕ gX) × gH × Nat)} {K : α → gH → Nat → Option ((Int32 ⊕ gX) × gH × Nat)} {X : gX → gH → Nat → Option ((Int32 ⊕ gX) × gH × Nat)} (t : gThr r k h n) (hu : gOut o h) (F : gFr h n) (hX : ∀ q h7 n8, X (k, q) h7 n8 = some (.inl c, h7, n8)) (hc : c ≠ 0) : gRd (gTX r K X) c v h n o := by
  obtain ⟨h', n', q, e, u⟩ := t
  rw [e, gTX_r, hX]
  exact ⟨_, _, rfl, u.no, hu.mono F u, fun z => absurd z hc⟩
theorem mF1 {z2 z3 iT : Int32} : f_X6_fails (1 : Int32) z2 z3 iT = some ((1 : Int32), (1 : Int32)) := by
  unfold f_X6_fails f_X6_fails_J26
  rw [if_neg (by decide), if_neg (by decide)]
theorem mF2 {z3 iT : Int32} : f_X6_fails (0 : Int32) (1 : Int32) z3 iT = some ((1 : Int32), (2 : Int32)) := by
  unfold f_X6_fails f_X6_fails_J26
  rw [if_pos rfl, if_neg (by decide), if_neg (by decide)]
theorem mF0 {iT : Int32} : f_X6_fails (0 : Int32) (0 : Int32) (0 : Int32) iT = some ((0 : Int32), (0 : Int32)) := by
  unfold f_X6_fails f_X6_fails_J26
  rw [if_pos rfl, if_pos rfl, if_pos rfl, if_pos (by decide)]
section RD
variable {h : gH} {cd o n : Nat} {M : gMS} {st : Nat} {S : gS} {sa : Nat → Nat} {len hd : Nat} {hs : Nat → Nat} {HS : Nat → gS} {fv : Nat → Option Nat} {VS : Nat → gS}
theorem c1_shareSize_ok {a : Nat} (F : gFr h n) (hO : CurAt h cd st) (hS : StAt h st S sa) (hw : WF S) (h1 : a < S.n) : gRt (f_X1_shareSize cd (iI a) h n) (iI (cntZ S a)) h n noD tT := by
  have hn := hw.2.1
  have hc := hw.1
  have u := ar1_p F (iI a)
  have hO1 := u.cur F hO
  have hS1 := u.st F hS
  obtain ⟨fs, o1, o2⟩ := hO1
  obtain ⟨fs2, o3⟩ := a_obj hS1
  refine ⟨_, _, ?_, u, trivial⟩
  unfold f_X1_shareSize
  rw [ar1_e, g_obj_s o1, gB_s, cS1a_ok (a := (a : Int)) ⟨fs, o1, o2⟩ hS1 hn.2 (by omega), gTX_l, fA_at o1 o2, gB_s, o3, gB_s, cCnt hS1 hw (by omega), gB_s]
theorem c1_shareSize_no {a : Int} (F : gFr h n) (hO : CurAt h cd st) (hS : StAt h st S sa) (hw : WF S) (ha : -2147483648 ≤ a ∧ a < 2147483648) (h1 : ¬ (0 ≤ a ∧ a < S.n)) : gThr (f_X1_shareSize cd (iI a) h n) 12 h n := by
  have hn := hw.2.1
  have hc := hw.1
  have u := ar1_p F (iI a)
  have hO1 := u.cur F hO
  have hS1 := u.st F hS
  obtain ⟨fs, o1, o2⟩ := hO1
  obtain ⟨fs2, o3⟩ := a_obj hS1
  unfold f_X1_shareSize
  rw [ar1_e, g_obj_s o1, gB_s]
  exact ((cS1_no u.2.1 ar1_at rfl ⟨fs, o1, o2⟩ hS1 hn.2 ha h1).X).pre u
theorem p_shareSize (w : gW cd o h n M st S sa len hd hs HS fv VS) (z1 iT : Int32) : ∃ c v, gRd (f_X0_shareSize cd z1 (o + 11) h n) c v.toInt64 h n o ∧ f_X6_shareSize z1 M.aM iT = some (v, c) := by
  obtain ⟨F, w1, w2, w3, w4, ⟨w5, w6, w7⟩, -⟩ := w
  obtain ⟨fs0, ob⟩ := w4.ob
  obtain ⟨a, ha1, ha2, rfl⟩ := iI_of z1
  unfold f_X0_shareSize f_X6_shareSize f_X6_shareSize_J14
  rw [ob, gB_s]
  by_cases q : 0 ≤ a ∧ a < S.n
  · obtain ⟨a, rfl⟩ : ∃ k : Nat, a = k := ⟨a.toNat, by omega⟩
    have q1 : a < S.n := by omega
    refine ⟨0, _, gRd_ok (c1_shareSize_ok F w4.cur w5 w6 q1) w3 F, ?_⟩
    rw [mSib_ok w7 w6 q1, gB_s, if_neg (by decide), mF0, gT2_s, if_pos rfl, mCnt w7 w6 (by omega), gB_s]
  · refine ⟨1, 0, gRd_t (c1_shareSize_no F w4.cur w5 w6 ⟨ha1, ha2⟩ q) w3 F (fun _ _ _ => rfl) (by decide), ?_⟩
    rw [mSib_no w7 w6 ⟨ha1, ha2⟩ q, gB_s, if_pos rfl, mF1, gT2_s, if_neg (by decide)]
theorem c1_pieceCount_ok {a : Nat} (F : gFr h n) (hO : CurAt h cd st) (hS : StAt h st S sa) (hw : WF S) (h1 : a < S.n) : gRt (f_X1_pieceCount cd (iI a) h n) (iI (pcZ S a)) h n noD tT := by
  have hn := hw.2.1
  have hc := hw.1
  have u := ar1_p F (iI a)
  have hO1 := u.cur F hO
  have hS1 := u.st F hS
  obtain ⟨fs, o1, o2⟩ := hO1
  obtain ⟨fs2, o3⟩ := a_obj hS1
  refine ⟨_, _, ?_, u, trivial⟩
  unfold f_X1_pieceCount
  rw [ar1_e, g_obj_s o1, gB_s, cS1a_ok (a := (a : Int)) ⟨fs, o1, o2⟩ hS1 hn.2 (by omega), gTX_l, fA_at o1 o2, gB_s, o3, gB_s, cPc hS1 hw (by omega), gB_s]
theorem c1_pieceCount_no {a : Int} (F : gFr h n) (hO : CurAt h cd st) (hS : StAt h st S sa) (hw : WF S) (ha : -2147483648 ≤ a ∧ a < 2147483648) (h1 : ¬ (0 ≤ a ∧ a < S.n)) : gThr (f_X1_pieceCount cd (iI a) h n) 12 h n := by
  have hn := hw.2.1
  have hc := hw.1
  have u := ar1_p F (iI a)
  have hO1 := u.cur F hO
  have hS1 := u.st F hS
  obtain ⟨fs, o1, o2⟩ := hO1
  obtain ⟨fs2, o3⟩ := a_obj hS1
  unfold f_X1_pieceCount
  rw [ar1_e, g_obj_s o1, gB_s]
  exact ((cS1_no u.2.1 ar1_at rfl ⟨fs, o1, o2⟩ hS1 hn.2 ha h1).X).pre u
theorem p_pieceCount (w : gW cd o h n M st S sa len hd hs HS fv VS) (z1 iT : Int32) : ∃ c v, gRd (f_X0_pieceCount cd z1 (o + 11) h n) c v.toInt64 h n o ∧ f_X6_pieceCount z1 M.aM iT = some (v, c) := by
  obtain ⟨F, w1, w2, w3, w4, ⟨w5, w6, w7⟩, -⟩ := w
  obtain ⟨fs0, ob⟩ := w4.ob
  obtain ⟨a, ha1, ha2, rfl⟩ := iI_of z1
  unfold f_X0_pieceCount f_X6_pieceCount f_X6_pieceCount_J14
  rw [ob, gB_s]
  by_cases q : 0 ≤ a ∧ a < S.n
  · obtain ⟨a, rfl⟩ : ∃ k : Nat, a = k := ⟨a.toNat, by omega⟩
    have q1 : a < S.n := by omega
    refine ⟨0, _, gRd_ok (c1_pieceCount_ok F w4.cur w5 w6 q1) w3 F, ?_⟩
    rw [mSib_ok w7 w6 q1, gB_s, if_neg (by decide), mF0, gT2_s, if_pos rfl, mPc w7 w6 (by omega), gB_s]
  · refine ⟨1, 0, gRd_t (c1_pieceCount_no F w4.cur w5 w6 ⟨ha1, ha2⟩ q) w3 F (fun _ _ _ => rfl) (by decide), ?_⟩
    rw [mSib_no w7 w6 ⟨ha1, ha2⟩ q, gB_s, if_pos rfl, mF1, gT2_s, if_neg (by decide)]
theorem c1_favouriteFreeCell_ok {a : Nat} (F : gFr h n) (hO : CurAt h cd st) (hS : StAt h st S sa) (hw : WF S) (h1 : a < S.n) : gRt (f_X1_favouriteFreeCell cd (iI a) h n) (iI (fvZ S a S.c)) h n noD tT := by
  have hn := hw.2.1
  have hc := hw.1
  have u := ar1_p F (iI a)
  have hO1 := u.cur F hO
  have hS1 := u.st F hS
  obtain ⟨fs, o1, o2⟩ := hO1
  obtain ⟨fs2, o3⟩ := a_obj hS1
  refine ⟨_, _, ?_, u, trivial⟩
  unfold f_X1_favouriteFreeCell
  rw [ar1_e, g_obj_s o1, gB_s, cS1a_ok (a := (a : Int)) ⟨fs, o1, o2⟩ hS1 hn.2 (by omega), gTX_l, fA_at o1 o2, gB_s, o3, gB_s, cFv hS1 hw h1, gB_s]
theorem c1_favouriteFreeCell_no {a : Int} (F : gFr h n) (hO : CurAt h cd st) (hS : StAt h st S sa) (hw : WF S) (ha : -2147483648 ≤ a ∧ a < 2147483648) (h1 : ¬ (0 ≤ a ∧ a < S.n)) : gThr (f_X1_favouriteFreeCell cd (iI a) h n) 12 h n := by
  have hn := hw.2.1
  have hc := hw.1
  have u := ar1_p F (iI a)
  have hO1 := u.cur F hO
  have hS1 := u.st F hS
  obtain ⟨fs, o1, o2⟩ := hO1
  obtain ⟨fs2, o3⟩ := a_obj hS1
  unfold f_X1_favouriteFreeCell
  rw [ar1_e, g_obj_s o1, gB_s]
  exact ((cS1_no u.2.1 ar1_at rfl ⟨fs, o1, o2⟩ hS1 hn.2 ha h1).X).pre u
theorem p_favouriteFreeCell (w : gW cd o h n M st S sa len hd hs HS fv VS) (z1 iT : Int32) : ∃ c v, gRd (f_X0_favouriteFreeCell cd z1 (o + 11) h n) c v.toInt64 h n o ∧ f_X6_favouriteFreeCell z1 M.aM iT = some (v, c) := by
  obtain ⟨F, w1, w2, w3, w4, ⟨w5, w6, w7⟩, -⟩ := w
  obtain ⟨fs0, ob⟩ := w4.ob
  obtain ⟨a, ha1, ha2, rfl⟩ := iI_of z1
  unfold f_X0_favouriteFreeCell f_X6_favouriteFreeCell f_X6_favouriteFreeCell_J14
  rw [ob, gB_s]
  by_cases q : 0 ≤ a ∧ a < S.n
  · obtain ⟨a, rfl⟩ : ∃ k : Nat, a = k := ⟨a.toNat, by omega⟩
    have q1 : a < S.n := by omega
    refine ⟨0, _, gRd_ok (c1_favouriteFreeCell_ok F w4.cur w5 w6 q1) w3 F, ?_⟩
    rw [mSib_ok w7 w6 q1, gB_s, if_neg (by decide), mF0, gT2_s, if_pos rfl, mFv w7 w6 q1, gB_s]
  · refine ⟨1, 0, gRd_t (c1_favouriteFreeCell_no F w4.cur w5 w6 ⟨ha1, ha2⟩ q) w3 F (fun _ _ _ => rfl) (by decide), ?_⟩
    rw [mSib_no w7 w6 ⟨ha1, ha2⟩ q, gB_s, if_pos rfl, mF1, gT2_s, if_neg (by decide)]
theorem c1_cutFor_ok {a : Nat} (F : gFr h n) (hO : CurAt h cd st) (hS : StAt h st S sa) (hw : WF S) (h1 : a < S.n) : gRt (f_X1_cutFor cd (iI a) h n) (iI (((ctZ S a S.c).1 : Nat))) h n noD tT := by
  have hn := hw.2.1
  have hc := hw.1
  have u := ar1_p F (iI a)
  have hO1 := u.cur F hO
  have hS1 := u.st F hS
  obtain ⟨fs, o1, o2⟩ := hO1
  obtain ⟨fs2, o3⟩ := a_obj hS1
  refine ⟨_, _, ?_, u, trivial⟩
  unfold f_X1_cutFor
  rw [ar1_e, g_obj_s o1, gB_s, cS1a_ok (a := (a : Int)) ⟨fs, o1, o2⟩ hS1 hn.2 (by omega), gTX_l, fA_at o1 o2, gB_s, o3, gB_s, cCut hS1 hw h1, gB_s]
theorem c1_cutFor_no {a : Int} (F : gFr h n) (hO : CurAt h cd st) (hS : StAt h st S sa) (hw : WF S) (ha : -2147483648 ≤ a ∧ a < 2147483648) (h1 : ¬ (0 ≤ a ∧ a < S.n)) : gThr (f_X1_cutFor cd (iI a) h n) 12 h n := by
  have hn := hw.2.1
  have hc := hw.1
  have u := ar1_p F (iI a)
  have hO1 := u.cur F hO
  have hS1 := u.st F hS
  obtain ⟨fs, o1, o2⟩ := hO1
  obtain ⟨fs2, o3⟩ := a_obj hS1
  unfold f_X1_cutFor
  rw [ar1_e, g_obj_s o1, gB_s]
  exact ((cS1_no u.2.1 ar1_at rfl ⟨fs, o1, o2⟩ hS1 hn.2 ha h1).X).pre u
theorem p_cutFor (w : gW cd o h n M st S sa len hd hs HS fv VS) (z1 iT : Int32) : ∃ c v, gRd (f_X0_cutFor cd z1 (o + 11) h n) c v.toInt64 h n o ∧ f_X6_cutFor z1 M.aM iT = some (v, c) := by
  obtain ⟨F, w1, w2, w3, w4, ⟨w5, w6, w7⟩, -⟩ := w
  obtain ⟨fs0, ob⟩ := w4.ob
  obtain ⟨a, ha1, ha2, rfl⟩ := iI_of z1
  unfold f_X0_cutFor f_X6_cutFor f_X6_cutFor_J14
  rw [ob, gB_s]
  by_cases q : 0 ≤ a ∧ a < S.n
  · obtain ⟨a, rfl⟩ : ∃ k : Nat, a = k := ⟨a.toNat, by omega⟩
    have q1 : a < S.n := by omega
    refine ⟨0, _, gRd_ok (c1_cutFor_ok F w4.cur w5 w6 q1) w3 F, ?_⟩
    rw [mSib_ok w7 w6 q1, gB_s, if_neg (by decide), mF0, gT2_s, if_pos rfl, mCut w7 w6 q1, gB_s]
  · refine ⟨1, 0, gRd_t (c1_cutFor_no F w4.cur w5 w6 ⟨ha1, ha2⟩ q) w3 F (fun _ _ _ => rfl) (by decide), ?_⟩
    rw [mSib_no w7 w6 ⟨ha1, ha2⟩ q, gB_s, if_pos rfl, mF1, gT2_s, if_neg (by decide)]
theorem b01 {z : Int} (hz : z = 0 ∨ z = 1) : iI z = (0 : Int32) ∨ iI z = (1 : Int32) := by
  rcases hz with q | q <;> rw [q]
  · exact .inl rfl
  · exact .inr rfl
theorem sat01 {s : Nat} : satZ S s = 0 ∨ satZ S s = 1 := by
  unfold satZ; split <;> simp
theorem c1_isSatisfied_ok {a : Nat} (F : gFr h n) (hO : CurAt h cd st) (hS : StAt h st S sa) (hw : WF S) (h1 : a < S.n) : gRt (f_X1_isSatisfied cd (iI a) h n) (iI (satZ S a)) h n noD tT := by
  have hn := hw.2.1
  have hc := hw.1
  have u := ar1_p F (iI a)
  have hO1 := u.cur F hO
  have hS1 := u.st F hS
  obtain ⟨fs, o1, o2⟩ := hO1
  obtain ⟨fs2, o3⟩ := a_obj hS1
  refine ⟨_, _, ?_, u, trivial⟩
  unfold f_X1_isSatisfied
  rw [ar1_e, g_obj_s o1, gB_s, cS1a_ok (a := (a : Int)) ⟨fs, o1, o2⟩ hS1 hn.2 (by omega), gTX_l, fA_at o1 o2, gB_s, o3, gB_s, cSat hS1 hw h1, gB_s, if_pos (b01 sat01)]
theorem c1_isSatisfied_no {a : Int} (F : gFr h n) (hO : CurAt h cd st) (hS : StAt h st S sa) (hw : WF S) (ha : -2147483648 ≤ a ∧ a < 2147483648) (h1 : ¬ (0 ≤ a ∧ a < S.n)) : gThr (f_X1_isSatisfied cd (iI a) h n) 12 h n := by
  have hn := hw.2.1
  have hc := hw.1
  have u := ar1_p F (iI a)
  have hO1 := u.cur F hO
  have hS1 := u.st F hS
  obtain ⟨fs, o1, o2⟩ := hO1
  obtain ⟨fs2, o3⟩ := a_obj hS1
  unfold f_X1_isSatisfied
  rw [ar1_e, g_obj_s o1, gB_s]
  exact ((cS1_no u.2.1 ar1_at rfl ⟨fs, o1, o2⟩ hS1 hn.2 ha h1).X).pre u
theorem p_isSatisfied (w : gW cd o h n M st S sa len hd hs HS fv VS) (z1 iT : Int32) : ∃ c v, gRd (f_X0_isSatisfied cd z1 (o + 11) h n) c (if v = 0 then (0 : Int64) else 1) h n o ∧ f_X6_isSatisfied z1 M.aM iT = some (v, c) := by
  obtain ⟨F, w1, w2, w3, w4, ⟨w5, w6, w7⟩, -⟩ := w
  obtain ⟨fs0, ob⟩ := w4.ob
  obtain ⟨a, ha1, ha2, rfl⟩ := iI_of z1
  unfold f_X0_isSatisfied f_X6_isSatisfied f_X6_isSatisfied_J14
  rw [ob, gB_s]
  by_cases q : 0 ≤ a ∧ a < S.n
  · obtain ⟨a, rfl⟩ : ∃ k : Nat, a = k := ⟨a.toNat, by omega⟩
    have q1 : a < S.n := by omega
    refine ⟨0, _, gRd_okB (c1_isSatisfied_ok F w4.cur w5 w6 q1) w3 F, ?_⟩
    rw [mSib_ok w7 w6 q1, gB_s, if_neg (by decide), mF0, gT2_s, if_pos rfl, mSat w7 w6 q1, gB_s, if_pos (b01 sat01)]
  · refine ⟨1, 0, gRd_t (c1_isSatisfied_no F w4.cur w5 w6 ⟨ha1, ha2⟩ q) w3 F (fun _ _ _ => rfl) (by decide), ?_⟩
    rw [mSib_no w7 w6 ⟨ha1, ha2⟩ q, gB_s, if_pos rfl, mF1, gT2_s, if_neg (by decide)]
theorem c1_worthOfShare_ok {a b : Nat} (F : gFr h n) (hO : CurAt h cd st) (hS : StAt h st S sa) (hw : WF S) (h1 : a < S.n) (h2 : b < S.n) : gRt (f_X1_worthOfShare cd (iI a) (iI b) h n) (iI (sWS S a b)) h n noD tT := by
  have hn := hw.2.1
  have hc := hw.1
  have u := ar2_p F (iI a) (iI b)
  have hO1 := u.cur F hO
  have hS1 := u.st F hS
  obtain ⟨fs, o1, o2⟩ := hO1
  obtain ⟨fs2, o3⟩ := a_obj hS1
  refine ⟨_, _, ?_, u, trivial⟩
  unfold f_X1_worthOfShare
  rw [ar2_e, g_obj_s o1, gB_s, cS2a_ok (a := (a : Int)) (b := (b : Int)) ⟨fs, o1, o2⟩ hS1 hn.2 (by omega) (by omega), gTX_l, fA_at o1 o2, gB_s, o3, gB_s, cWS hS1 hw h1 (by omega), gB_s]
theorem c1_worthOfShare_no {a b : Int} (F : gFr h n) (hO : CurAt h cd st) (hS : StAt h st S sa) (hw : WF S) (ha : -2147483648 ≤ a ∧ a < 2147483648) (hb : -2147483648 ≤ b ∧ b < 2147483648) (h1 : ¬ ((0 ≤ a ∧ a < S.n) ∧ 0 ≤ b ∧ b < S.n)) : gThr (f_X1_worthOfShare cd (iI a) (iI b) h n) 12 h n := by
  have hn := hw.2.1
  have hc := hw.1
  have u := ar2_p F (iI a) (iI b)
  have hO1 := u.cur F hO
  have hS1 := u.st F hS
  obtain ⟨fs, o1, o2⟩ := hO1
  obtain ⟨fs2, o3⟩ := a_obj hS1
  unfold f_X1_worthOfShare
  rw [ar2_e, g_obj_s o1, gB_s]
  exact ((cS2_no u.2.1 ar2_at rfl rfl ⟨fs, o1, o2⟩ hS1 hn.2 ha hb h1).X).pre u
theorem p_worthOfShare (w : gW cd o h n M st S sa len hd hs HS fv VS) (z1 z2 iT : Int32) : ∃ c v, gRd (f_X0_worthOfShare cd z1 z2 (o + 11) h n) c v.toInt64 h n o ∧ f_X6_worthOfShare z1 z2 M.aM iT = some (v, c) := by
  obtain ⟨F, w1, w2, w3, w4, ⟨w5, w6, w7⟩, -⟩ := w
  obtain ⟨fs0, ob⟩ := w4.ob
  obtain ⟨a, ha1, ha2, rfl⟩ := iI_of z1
  obtain ⟨b, hb1, hb2, rfl⟩ := iI_of z2
  unfold f_X0_worthOfShare f_X6_worthOfShare f_X6_worthOfShare_J15
  rw [ob, gB_s]
  by_cases q : (0 ≤ a ∧ a < S.n) ∧ 0 ≤ b ∧ b < S.n
  · obtain ⟨a, rfl⟩ : ∃ k : Nat, a = k := ⟨a.toNat, by omega⟩
    obtain ⟨b, rfl⟩ : ∃ k : Nat, b = k := ⟨b.toNat, by omega⟩
    have q1 : a < S.n := by omega
    have q2 : b < S.n := by omega
    refine ⟨0, _, gRd_ok (c1_worthOfShare_ok F w4.cur w5 w6 q1 q2) w3 F, ?_⟩
    rw [mSs_ok w7 w6 q1 q2, gB_s, if_neg (by decide), mF0, gT2_s, if_pos rfl, mWS w7 w6 q1 (by omega), gB_s]
  · refine ⟨1, 0, gRd_t (c1_worthOfShare_no F w4.cur w5 w6 ⟨ha1, ha2⟩ ⟨hb1, hb2⟩ q) w3 F (fun _ _ _ => rfl) (by decide), ?_⟩
    rw [mSs_no w7 w6 ⟨ha1, ha2⟩ ⟨hb1, hb2⟩ q, gB_s, if_pos rfl, mF1, gT2_s, if_neg (by decide)]
theorem c1_envies_ok {a b : Nat} (F : gFr h n) (hO : CurAt h cd st) (hS : StAt h st S sa) (hw : WF S) (h1 : a < S.n) (h2 : b < S.n) : gRt (f_X1_envies cd (iI a) (iI b) h n) (iI (eZ S a b)) h n noD tT := by
  have hn := hw.2.1
  have hc := hw.1
  have u := ar2_p F (iI a) (iI b)
  have hO1 := u.cur F hO
  have hS1 := u.st F hS
  obtain ⟨fs, o1, o2⟩ := hO1
  obtain ⟨fs2, o3⟩ := a_obj hS1
  refine ⟨_, _, ?_, u, trivial⟩
  unfold f_X1_envies
  rw [ar2_e, g_obj_s o1, gB_s, cS2a_ok (a := (a : Int)) (b := (b : Int)) ⟨fs, o1, o2⟩ hS1 hn.2 (by omega) (by omega), gTX_l, fA_at o1 o2, gB_s, o3, gB_s, cEnv hS1 hw h1 h2, gB_s, if_pos (b01 (eZ_01 S a b))]
theorem c1_envies_no {a b : Int} (F : gFr h n) (hO : CurAt h cd st) (hS : StAt h st S sa) (hw : WF S) (ha : -2147483648 ≤ a ∧ a < 2147483648) (hb : -2147483648 ≤ b ∧ b < 2147483648) (h1 : ¬ ((0 ≤ a ∧ a < S.n) ∧ 0 ≤ b ∧ b < S.n)) : gThr (f_X1_envies cd (iI a) (iI b) h n) 12 h n := by
  have hn := hw.2.1
  have hc := hw.1
  have u := ar2_p F (iI a) (iI b)
  have hO1 := u.cur F hO
  have hS1 := u.st F hS
  obtain ⟨fs, o1, o2⟩ := hO1
  obtain ⟨fs2, o3⟩ := a_obj hS1
  unfold f_X1_envies
  rw [ar2_e, g_obj_s o1, gB_s]
  exact ((cS2_no u.2.1 ar2_at rfl rfl ⟨fs, o1, o2⟩ hS1 hn.2 ha hb h1).X).pre u
theorem p_envies (w : gW cd o h n M st S sa len hd hs HS fv VS) (z1 z2 iT : Int32) : ∃ c v, gRd (f_X0_envies cd z1 z2 (o + 11) h n) c (if v = 0 then (0 : Int64) else 1) h n o ∧ f_X6_envies z1 z2 M.aM iT = some (v, c) := by
  obtain ⟨F, w1, w2, w3, w4, ⟨w5, w6, w7⟩, -⟩ := w
  obtain ⟨fs0, ob⟩ := w4.ob
  obtain ⟨a, ha1, ha2, rfl⟩ := iI_of z1
  obtain ⟨b, hb1, hb2, rfl⟩ := iI_of z2
  unfold f_X0_envies f_X6_envies f_X6_envies_J15
  rw [ob, gB_s]
  by_cases q : (0 ≤ a ∧ a < S.n) ∧ 0 ≤ b ∧ b < S.n
  · obtain ⟨a, rfl⟩ : ∃ k : Nat, a = k := ⟨a.toNat, by omega⟩
    obtain ⟨b, rfl⟩ : ∃ k : Nat, b = k := ⟨b.toNat, by omega⟩
    have q1 : a < S.n := by omega
    have q2 : b < S.n := by omega
    refine ⟨0, _, gRd_okB (c1_envies_ok F w4.cur w5 w6 q1 q2) w3 F, ?_⟩
    rw [mSs_ok w7 w6 q1 q2, gB_s, if_neg (by decide), mF0, gT2_s, if_pos rfl, mEnv w7 w6 q1 q2, gB_s, if_pos (b01 (eZ_01 S a b))]
  · refine ⟨1, 0, gRd_t (c1_envies_no F w4.cur w5 w6 ⟨ha1, ha2⟩ ⟨hb1, hb2⟩ q) w3 F (fun _ _ _ => rfl) (by decide), ?_⟩
    rw [mSs_no w7 w6 ⟨ha1, ha2⟩ ⟨hb1, hb2⟩ q, gB_s, if_pos rfl, mF1, gT2_s, if_neg (by decide)]
end RD
