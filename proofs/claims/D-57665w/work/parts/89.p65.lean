/-! SCRIPTS: runScript -/
section RS
variable {h : gH} {cd o n : Nat} {M M' : gMS} {st : Nat} {S S' : gS} {sa : Nat → Nat} {len hd : Nat} {hs : Nat → Nat} {HS : Nat → gS} {fv : Nat → Option Nat} {VS : Nat → gS} {x : gV}
theorem p_runScript (hdd : ∀ i j, i < g_tN → j < g_tN → x.2.2.1 i = x.2.2.1 j → i = j) (w : gW cd o h n M st S sa len hd hs HS fv VS) (iT : Int32) : ∃ c v aM' iU' iL' iE' iP' aT' aC' aH' iA' iY' iF' iV' aK', gPr (f_X0_runScript x cd (o + 11) h n) cd o M (aM', M.aS, iU', M.aB, iL', iE', iP', M.aR, M.iW, c, aT', aC', aH', M.aE, M.aQ, iA', iY', iF', iV', aK') c v.toInt64 ∧ f_X6_runScript x M.aM M.iU M.aB M.iL M.iE M.iP iT M.aT M.aC M.aH M.iA M.iY M.iF M.iV M.aK = some (v, aM', iU', iL', iE', iP', c, aT', aC', aH', iA', iY', iF', iV', aK') := by
  have w0 := w
  obtain ⟨F, w1, w2, w3, w4, ⟨w5, w6, w7⟩, ⟨w8, w9, w10⟩, ⟨w11, w12⟩, w13⟩ := w
  obtain ⟨fs0, ob⟩ := w4.ob
  have hlt := w3.lt F
  have hn := w6.2.1
  have w4' := w4
  obtain ⟨c1, ⟨f, L, c2, c3, c4, c5⟩, ⟨gg, c6⟩, ⟨kk, W, c7, c8, c9, c10⟩⟩ := w4
  rw [c4] at c1
  have lc := F.lt c1
  have hB := byR_of c5
  generalize (fun i => (M.aB i).toInt) = B at hB
  obtain ⟨h5, e5, s5, u5⟩ := cNewSc F c1 c2 hB c3
  have ht0 := tkG_z (B := B) (Nat.zero_le L)
  have pw : pW B L f n cd st M.iE M.iP M.iW S sa h5 (n + 1) (tkZ B L 0) gg := ⟨u5.2.1, s5, u5.c0 F c6, u5.st F w5, ht0⟩
  have hscr := cScr hdd hB c3 w6 32 0 h5 (n + 1) (tkZ B L 0) (fun _ => (0, 0, 0, 0)) gg (by omega) (by omega) pw (fun j hj => absurd hj (Nat.not_lt_zero j))
  obtain ⟨iV', t1, t2⟩ := mTk (iY := M.iY) (iF := M.iF) (iV := M.iV) hB c3 (Nat.zero_le L)
  have t1' : f_X6_token M.aB (iI L) (0 : Int32) M.iY M.iF M.iV = some (iI (tkZ B L 0).e, iI (kM B (tkZ B L 0)), iI (tkZ B L 0).s, iV') := t1
  have mscr := mScr (x := x) (iE := 0) (iP := -1) hdd hB c3 w6 w7 32 gN 0 (tkZ B L 0) (fun _ => (0, 0, 0, 0)) M.aK (iI (tkZ B L 0).e) (iI (kM B (tkZ B L 0))) (iI (tkZ B L 0).s) iV' (by omega) (by omega) (by unfold gN; omega) ht0 ⟨rfl, rfl, rfl, t2⟩ (fun j hj => absurd hj (Nat.not_lt_zero j))
  obtain ⟨fs5, o5⟩ : ∃ fs, g_obj h5 cd 3 = some fs := ⟨_, g_obj_s (u5.c0 F c1)⟩
  unfold f_X0_runScript f_X6_runScript f_X1_runScript f_X6_begin
  rw [ob, gB_s, show g_new h n (.inr (2, [.int 0, .int 0, .int 0, .int 0, .null])) = some (n, g_up h n (.inr (2, [.int 0, .int 0, .int 0, .int 0, .null])), n + 1) from rfl, gT3_s, e5, gB_s, o5, gB_s, c4, t1', gT4_s, gT6_s]
  have eC : f_X1_parseScript x cd n h5 (n + 1) = gL3 (f_X1_parseScript_L2 x cd n) 32 (iI (0 : Nat)) h5 (n + 1) := rfl
  have eM : f_X6_parseScript x M.aM M.aB (iI L) 0 (-1) (iI (tkZ B L 0).e) (iI (kM B (tkZ B L 0))) (iI (tkZ B L 0).s) iV' M.aK = gL8 (f_X6_parseScript_L2 x M.aM M.aB (iI L)) gN (iI (0 : Nat)) 0 (-1) (iI (tkZ B L 0).e) (iI (kM B (tkZ B L 0))) (iI (tkZ B L 0).s) iV' M.aK := rfl
  rw [eC, eM]
  cases hp : pScr B L S 32 0 (tkZ B L 0) (fun _ => (0, 0, 0, 0)) with
  | inl er =>
    obtain ⟨c, p⟩ := er
    rw [hp] at hscr mscr
    obtain ⟨a1, a2, a3, a4, aK', y1⟩ := mscr
    obtain ⟨h6, n6, y, fp6, e6, u6, hy, hp6⟩ := hscr
    rw [e6, gTX_r, if_pos rfl, y1, gT8_s, if_pos rfl]
    have U6 : gPas h n h6 n6 (fun b => b = cd + 10) := u5.no.tr u6 fun b hb hD => hD.elim (fun z => by omega) id
    have k1 := U6.ce F c1 (by omega)
    have ly := u6.2.1.lt hy
    have yc : y ≠ cd := fun z => by rw [z, k1] at hy; cases hy
    have hn6 := U6.1
    generalize e7 : g_up h6 cd (clO cd st (iI L) (iI c) M.iP M.iW) = h7
    have k7 : h7 cd = some (clO cd st (iI L) (iI c) M.iP M.iW) := by rw [← e7, g_up_s]
    have y7 : h7 y = some (.inr (9, [.int (iI c), .int (iI p)])) := by rw [← e7, g_up_n yc]; exact hy
    generalize e8 : g_up h7 cd (clO cd st (iI L) (iI c) (iI p) M.iW) = h8
    have k8 : h8 cd = some (clO cd st (iI L) (iI c) (iI p) M.iW) := by rw [← e8, g_up_s]
    generalize e9 : g_up h8 n6 (.inr (11, [])) = h9
    have k9 : h9 cd = some (clO cd st (iI L) (iI c) (iI p) M.iW) := by rw [← e9, g_up_n (by omega)]; exact k8
    generalize e10 : g_up h9 cd (clO cd st 0 (iI c) (iI p) M.iW) = h10
    have rj : f_X1_rejected cd y h6 n6 = some (n6, h9, n6 + 1) := by
      unfold f_X1_rejected
      rw [fI_at hy rfl, gB_s, show g_pf h6 cd 3 2 (.int (iI c)) = some h7 from by rw [pf_at k1 (by show _ < 10; decide), ← e7]; rfl, gB_s, fI_at y7 rfl, gB_s, show g_pf h7 cd 3 3 (.int (iI p)) = some h8 from by rw [pf_at k7 (by show _ < 10; decide), ← e8]; rfl, gB_s, show g_new h8 n6 (.inr (11, [])) = some (n6, h9, n6 + 1) from by rw [← e9]; rfl, gT3_s]
    have x9 : g_xcl h9 n6 = some 11 := by rw [← e9]; exact gX_new ⟨by decide, by decide⟩
    have x10 : g_xcl h10 n6 = some 11 := by
      have : h10 n6 = some (.inr (11, [])) := by rw [← e10, g_up_n (by omega), ← e9, g_up_s]
      unfold g_xcl
      rw [this]
      exact if_pos ⟨by decide, by decide⟩
    have same : ∀ b, b ≠ cd → b ≠ n6 → h10 b = h6 b := fun b b1 b2 => by rw [← e10, g_up_n b1, ← e9, g_up_n b2, ← e8, g_up_n b1, ← e7, g_up_n b1]
    have U10 : gPas h n h10 (n6 + 1) (DC cd) := ⟨by omega, fun b hb => by rw [same b (by omega) (by omega)]; exact U6.2.1 b (by omega), fun b hb hD => by
      rw [same b (fun z => hD (.inl z)) (by omega)]; exact U6.2.2 b hb fun z => hD (.inr (.inr (.inl z)))⟩
    have k10 : h10 cd = some (clO cd st 0 (iI c) (iI p) M.iW) := by rw [← e10, g_up_s]
    have l7 := F.lt c7
    have l2 := F.lt c2
    have l6 := F.lt c6
    refine ⟨1, 0, M.aM, M.iU, 0, iI c, iI p, M.aT, M.aC, M.aH, a1, a2, a3, a4, aK', ⟨h10, n6 + 1, ?_, (w0.cl U10).1, fun z => absurd z (by decide), cl_W w0 (M' := (M.aM, M.aS, M.iU, M.aB, 0, iI c, iI p, M.aR, M.iW, 1, M.aT, M.aC, M.aH, M.aE, M.aQ, a1, a2, a3, a4, aK')) U10 ⟨k10, ⟨f, 0, ?_, by omega, rfl, fun i hi => absurd hi (Nat.not_lt_zero i)⟩, ⟨fp6, ?_⟩, ⟨kk, W, ?_, c8, c9, c10⟩⟩ ⟨rfl, rfl, rfl⟩⟩, ?_⟩
    · rw [g_obj_s k1, gB_s, rj, gT3_s, x9, gB_s, show g_pf h9 cd 3 1 (.int (0 : Int32)) = some h10 from by rw [pf_at k9 (by show _ < 10; decide), ← e10]; rfl, gB_s, x10, gB_s, gTX_r, if_pos rfl]
    · rw [same _ (by omega) (by omega)]; exact U6.ce F c2 (by omega)
    · rw [same _ (by omega) (by omega)]; exact hp6
    · rw [same _ (by omega) (by omega)]; exact U6.ce F c7 (by omega)
    · unfold f_X6_runScript_J25
      rw [mF1, gT2_s, if_neg (by decide)]
  | inr rr =>
    obtain ⟨cnt, P'⟩ := rr
    obtain ⟨h30, hval⟩ := pScr_ok hn.2 32 0 (tkZ B L 0) (fun _ => (0, 0, 0, 0)) cnt P' hp (by omega) ht0 (fun j hj => absurd hj (Nat.not_lt_zero j))
    rw [hp] at hscr mscr
    obtain ⟨a1, a2, a3, a4, aK', y1, y2⟩ := mscr
    obtain ⟨h6, n6, fp6, t6, e6, p6, u6, hc6⟩ := hscr
    rw [e6, gTX_l, y1, gT8_s, if_neg (by rw [iI_n1, iI_eq (by omega) (by omega) (by omega) (by omega)]; omega)]
    have U6 : gPas h n h6 n6 (fun b => b = cd + 10) := u5.no.tr u6 fun b hb hD => hD.elim (fun z => by omega) id
    have k1 := U6.ce F c1 (by omega)
    have hn6 := U6.1
    have l7 := F.lt c7
    have l2 := F.lt c2
    have l6 := F.lt c6
    generalize e7 : g_up h6 cd (clO cd st 0 M.iE M.iP M.iW) = h7
    have k7 : h7 cd = some (clO cd st 0 M.iE M.iP M.iW) := by rw [← e7, g_up_s]
    generalize e8 : g_up h7 cd (clO cd st 0 0 M.iP M.iW) = h8
    have k8 : h8 cd = some (clO cd st 0 0 M.iP M.iW) := by rw [← e8, g_up_s]
    generalize e9 : g_up h8 cd (clO cd st 0 0 (-1) M.iW) = h9
    have k9 : h9 cd = some (clO cd st 0 0 (-1) M.iW) := by rw [← e9, g_up_s]
    have same : ∀ b, b ≠ cd → h9 b = h6 b := fun b b1 => by rw [← e9, g_up_n b1, ← e8, g_up_n b1, ← e7, g_up_n b1]
    have U9 : gPas h n h9 n6 (DC cd) := ⟨hn6, fun b hb => by rw [same b (by omega)]; exact U6.2.1 b hb, fun b hb hD => by
      rw [same b (fun z => hD (.inl z))]; exact U6.2.2 b hb fun z => hD (.inr (.inr (.inl z)))⟩
    obtain ⟨x1, x2, x3, x4, x5, x6, x7, x8⟩ := w0.cl U9
    have hp9 : h9 (cd + 10) = some (.inl (0, 120, .inl fp6)) := by rw [same _ (by omega)]; exact p6.2.2.1
    have hO9 : CurAt h9 cd st := ⟨_, k9, rfl⟩
    obtain ⟨h10, e10, t10, u10⟩ := cCopy x2 x4 w6
    have e0 : g_fA (g_up h9 n6 (.inr (0, [.null, .null, .null]))) cd 3 4 = some st := by
      obtain ⟨gs, p1, p2⟩ := (gPas.new (D := noD) (e := .inr (0, [.null, .null, .null])) x2).cur x2 hO9
      exact fA_at p1 p2
    have k10 := u10.c0 x2 k9
    have hp10 := u10.c0 x2 hp9
    have s10 := u10.st x2 x4
    have d10 := dq_0 x2 u10 x5
    obtain ⟨m1, r1, b1, b2, b3⟩ := mRem w7 w6 w8.2.1 (fun j hj => ⟨(w10 j hj).2.1, (w10 j hj).2.2⟩)
    rw [← w9] at r1
    obtain ⟨h11, n11, S1, sa1, m2, aT1, aC1, aH1, r, q1, q2, q3, q4, q5, q6⟩ := run_loop (x := x) (q := n6) (g := M.aB) (iU := iI (hL len)) (iL := 0) (iE := 0) (iP := -1) (iT := 0) (iA := a1) (iY := a2) (iF := a3) (iV := a4) (N := S) h30 (fs := [.ref (cd + 1), .int 0, .int 0, .int (-1), .ref st, .ref (cd + 7), .ref (cd + 9), .ref (cd + 10), .ref (cd + 11), .int M.iW]) rfl rfl (fun j hj => ⟨hc6 j hj, y2 j hj, hval j hj⟩) cnt 0 31 gN h10 (n6 + 5) S sa m1 M.aT M.aC M.aH (by omega) (by omega) (by unfold gN; omega) u10.2.1 k10 hp10 s10 w6 rfl b1
    have d11 := dq_D u10.2.1 s10 w6 q2 d10
    have k11 := q2.ce u10.2.1 k10 (DS_arr s10 k10)
    have lst := x2.lt x4.1
    have t11 := q2.stD u10.2.1 s10 t10 (by omega)
    obtain ⟨h12, hd', e12, d12, f12⟩ := cRec (q := n6) (v := iI r) k11 rfl d11 t11.1 ⟨by omega, by omega⟩
    have clA : gClw cd st h9 (m2, M.aS, iI (hL len), M.aB, 0, 0, -1, M.aR, M.iW, 0, aT1, aC1, aH1, M.aE, M.aQ, a1, a2, a3, a4, aK') := ⟨k9, ⟨f, 0, by rw [same _ (by omega)]; exact U6.ce F c2 (by omega), by omega, rfl, fun i hi => absurd hi (Nat.not_lt_zero i)⟩, ⟨fp6, hp9⟩, ⟨kk, W, by rw [same _ (by omega)]; exact U6.ce F c7 (by omega), c8, c9, c10⟩⟩
    have g := gMut.mkP x2 w1 x1 x3 clA x4 w6 x7 u10 t10 q2 q3 q4 d12 f12 d11
    obtain ⟨fo, eo, ev⟩ := out_sL (v := (iI r).toInt64) g.2.1
    have g' := g.out (h4 := g_up h12 (o + 11) (.inl (5, 1, .inr (.inl fo)))) w1 w6 q4 rfl
    obtain ⟨rr1, rr2⟩ := rem_up b2 b3 q6
    have q1' : gL3 (f_X1_runScript_L60 x cd (iI cnt) n6) 31 (0 : Int32) h10 (n6 + 5) = gT2 (f_X1_record cd n6 (iI r) h11) (fun v h => some (.inl v, h, n11)) := q1
    have q5' : gL5 (f_X6_runScript_L42 x (iI cnt) (iI (hL len)) M.aB 0 0 (-1) 0 a1 a2 a3 a4 aK') gN (0 : Int32) m1 M.aT M.aC M.aH = some (iI r, m2, iI (hL len), 0, 0, -1, 0, aT1, aC1, aH1, a1, a2, a3, a4, aK') := q5
    refine ⟨0, iI r, m2, iI (hL len), 0, 0, -1, aT1, aC1, aH1, a1, a2, a3, a4, aK', ⟨_, n11, ?_, mR_st x1 fun b r => g'.2.2.1 b (.inl r), fun _ => by rw [out_aL, ev], g'.WP x2 w1 x1 x3 clA x4 w6 x5 x6 x7 x8 w13 q4 q6.1 rr1 rr2 rfl rfl⟩, ?_⟩
    · rw [show g_pf h6 cd 3 1 (.int (0 : Int32)) = some h7 from by rw [pf_at k1 (by show _ < 10; decide), ← e7]; rfl, gB_s, show g_pf h7 cd 3 2 (.int (0 : Int32)) = some h8 from by rw [pf_at k7 (by show _ < 10; decide), ← e8]; rfl, gB_s, show g_pf h8 cd 3 3 (.int (-1 : Int32)) = some h9 from by rw [pf_at k8 (by show _ < 10; decide), ← e9]; rfl, gB_s, new_e, e0, gB_s, e10, gT2_s, q1', e12, gT2_s, gTX_l, eo, gB_s]
    · unfold f_X6_runScript_J25
      rw [mF0, gT2_s, if_pos rfl, r1, gT2_s, q5']
end RS
theorem lc_runScript {x : gV} {zL : Nat} {zx : Nat → Int32} {r28 : Int32 → gH → Nat → Option Int32} {cd o i : Nat} {h : gH} {n : Nat} (w : gWx cd o h n) (hi : i + 6 ≤ zL) (hz : zL ≤ 144) (hdd : ∀ i j, i < g_tN → j < g_tN → x.2.2.1 i = x.2.2.1 j → i = j) (hr : ∀ h n, gWx cd o h n → r28 (iI i + (6 : Int32)) h n = some (1 : Int32)) : f_L_law_J2615 x zL zx r28 cd o (o + 11) (o + 12) (iI i) h n = some (1 : Int32) := by
  obtain ⟨M, st, S, sa, len, hd, hs, HS, fv, VS, w⟩ := w
  obtain ⟨c, v, aM', iU', iL', iE', iP', aT', aC', aH', iA', iY', iF', iV', aK', ⟨h', n', e1, e2, e3, e4⟩, e5⟩ := p_runScript hdd w M.iT
  unfold f_L_law_J2615
  simp only [gB_s, e1, gTX_l, e2, e5, gT15_s]
  exact tlI rfl (fun hc => (aL_H (M := (aM', M.aS, iU', M.aB, iL', iE', iP', M.aR, M.iW, c, aT', aC', aH', M.aE, M.aQ, iA', iY', iF', iV', aK')) (by omega)).trans (e3 hc)) (hr _ _ e4)

