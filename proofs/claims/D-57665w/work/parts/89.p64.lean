/-! SCRIPTS: the run -/
section SR
variable {h : gH} {cd o n : Nat} {M M' : gMS} {st : Nat} {S S' : gS} {sa : Nat → Nat} {len hd : Nat} {hs : Nat → Nat} {HS : Nat → gS} {fv : Nat → Option Nat} {VS : Nat → gS}
theorem gMut.mkP {h1 h2 h3 : gH} {n2 hd' : Nat} {sa' : Nat → Nat} (F : gFr h n) (w1 : cd + 12 ≤ o) (w2 : mR h o = some M) (w3 : gOut o h) (w4 : gClw cd st h M') (w5 : StAt h st S sa) (w6 : WF S) (w11 : h (cd + 9) = some (.inl (4, 2, .inr (.inr (.inr (.inr fv)))))) (u1 : gPas h n h1 (n + 5) noD) (t1 : StAt h1 n S sa) (u2 : gPas h1 (n + 5) h2 n2 (DS st)) (t2 : StAt h2 st S' sa') (hw' : WF S') (d3 : DqAt h3 (cd + 7) hd' (hL len) (hF len hs n)) (f3 : ∀ b, b ≠ cd + 7 → b ≠ cd + 8 → h3 b = h2 b) (d2 : DqAt h2 (cd + 7) hd len hs) : gMut cd o h n st S S' len hs h3 n2 := by
  have hlt := w3.lt F
  have lst := F.lt w5.1
  have s1 := u1.st F w5
  have k3 : ∀ b e, h2 b = some e → kSt e → h3 b = some e := fun b e hb he => by
    obtain ⟨-, -, a3, f, a4, -⟩ := d2
    rw [f3 b (fun z => by rw [z, a3] at hb; cases hb; exact kS_noO ⟨by decide, by decide, by decide⟩ he) (fun z => by rw [z, a4] at hb; cases hb; exact kS_no3 (by decide) he)]
    exact hb
  have hDS : ∀ b, DS st b → ∃ e, h b = some e ∧ kSt e := fun b q => DS_k w5 w6 q
  have same : ∀ b, b < n → ¬ DS st b → b ≠ cd + 7 → b ≠ cd + 8 → h3 b = h b := fun b q1 q2 q3 q4 => by
    rw [f3 b q3 q4, u2.2.2 b (by omega) q2, u1.2.2 b q1 fun z => z]
  have sameK : ∀ b e, h b = some e → ¬ kSt e → b ≠ cd + 7 → b ≠ cd + 8 → h3 b = some e := fun b e hb hk q3 q4 => by
    rw [same b (F.lt hb) (DS_not w5 w6 hb hk) q3 q4]; exact hb
  obtain ⟨c1, ⟨cf, cL, c2, -⟩, ⟨cg, c6⟩, ⟨ck, cW, c7, -⟩⟩ := w4
  refine ⟨⟨u2.1, fun b hb => ?_⟩, ?_, fun b hb => ?_, ⟨sa', t2.kS hw' k3⟩, ⟨hd', d3⟩, ⟨sa, (u2.stD u1.2.1 s1 t1 (by omega)).kS w6 k3⟩, fun st2 S2 hT hw2 hne => ?_⟩
  · have := u2.1
    rw [f3 b (by omega) (by omega)]; exact u2.2.1 b hb
  · obtain ⟨⟨g1, r1⟩, ⟨g2, r2⟩⟩ := w3
    exact ⟨⟨g1, sameK _ _ r1 (kS_no (by decide)) (by omega) (by omega)⟩, ⟨g2, sameK _ _ r2 (kS_no (by decide)) (by omega) (by omega)⟩⟩
  · rcases hb with q | q | q | q | q | q
    · exact same b (by unfold rgn at q; omega) (fun z => DS_rgn w2 w5 z q) (by unfold rgn at q; omega) (by unfold rgn at q; omega)
    · subst q; rw [sameK _ _ c1 (kS_noO ⟨by decide, by decide, by decide⟩) (by omega) (by omega)]; exact c1.symm
    · subst q; rw [sameK _ _ c2 (kS_no1 (by decide)) (by omega) (by omega)]; exact c2.symm
    · subst q; rw [sameK _ _ w11 (kS_no (by decide)) (by omega) (by omega)]; exact w11.symm
    · subst q; rw [sameK _ _ c6 (kS_no0 (by decide)) (by omega) (by omega)]; exact c6.symm
    · subst q; rw [sameK _ _ c7 (kS_no1 (by decide)) (by omega) (by omega)]; exact c7.symm
  · obtain ⟨sa2, hT⟩ := hT
    exact ⟨sa2, (u2.stD u1.2.1 s1 (u1.st F hT) hne).kS hw2 k3⟩
theorem gMut.WP {h3 : gH} {n3 : Nat} (F : gFr h n) (w1 : cd + 12 ≤ o) (w2 : mR h o = some M) (w3 : gOut o h) (w4 : gClw cd st h M') (w5 : StAt h st S sa) (w6 : WF S) (w8 : DqAt h (cd + 7) hd len hs) (w10 : gHi h M.aM len hs HS) (w11 : h (cd + 9) = some (.inl (4, 2, .inr (.inr (.inr (.inr fv)))))) (w12 : gSv h M.aM M.aS fv VS) (w13 : gDi st len hs fv) (g : gMut cd o h n st S S' len hs h3 n3) (hw' : WF S') (rB : BlkAt M'.aM 0 S') (rH : ∀ j, j < hL len → BlkAt M'.aM (j + 1) (hF len HS S j) ∧ WF (hF len HS S j)) (rV : ∀ j, 212 * 7 ≤ j → M'.aM j = M.aM j) (e2 : M'.aS = M.aS) (e3 : M'.iU = iI (hL len)) : gWx cd o (M'.H h3 o) n3 := by
  obtain ⟨⟨g1, g2⟩, g3, g4, ⟨sa', g5⟩, ⟨hd', g6⟩, g7, g8⟩ := g
  have hlt := w3.lt F
  have hl := w8.2.1
  have lst := F.lt w5.1
  have hM3 : mR h3 o = some M := mR_st w2 fun b r => g4 b (.inl r)
  have fin : ∀ b, b < o → M'.H h3 o b = h3 b := fun b q => mH_ot (by unfold rgn; omega)
  have lhs : ∀ j, j < len → hs j < n := fun j hj => by
    obtain ⟨⟨sa2, a1⟩, -⟩ := w10 j hj
    exact F.lt a1.1
  have lfv : ∀ i, i < 2 → ∀ v, fv i = some v → v < n := fun i hi v hv => by
    rcases w12 i hi with ⟨-, a2⟩ | ⟨v2, -, a2, ⟨sa2, a3⟩, -⟩
    · rw [a2] at hv; cases hv
    · rw [a2] at hv; cases hv; exact F.lt a3.1
  refine ⟨M', st, S', sa', hL len, hd', hF len hs n, hF len HS S, fv, VS, fun b q => ?_, w1, mR_s, ?_, w4.keep (fun b q => by rw [fin b (by omega)]; exact g4 b (by omega)) rfl rfl rfl rfl rfl rfl, ⟨g5.H hM3, hw', rB⟩, ⟨g6.keep fun b e hb q => by rw [fin b (by omega)]; exact hb, e3, fun j hj => ⟨?_, rH j hj⟩⟩, ⟨by rw [fin _ (by omega), g4 _ (.inr (.inr (.inr (.inl rfl))))]; exact w11, fun i hi => ?_⟩, ?_⟩
  · rw [mH_ot (by unfold rgn; omega)]; exact g2 b q
  · obtain ⟨⟨f1, r1⟩, ⟨f2, r2⟩⟩ := g3
    exact ⟨⟨f1, by rw [mH_ot (by unfold rgn; omega)]; exact r1⟩, ⟨f2, by rw [mH_ot (by unfold rgn; omega)]; exact r2⟩⟩
  · have old : ∀ i, i < len → StE (M'.H h3 o) (hs i) (HS i) := fun i hi => (g8 _ _ (w10 i hi).1 (w10 i hi).2.2 (w13.1 i hi)).H hM3
    have new : StE (M'.H h3 o) n S := g7.H hM3
    by_cases q : len = 6
    · have e1 : hL len = 6 := by unfold hL; rw [if_pos q]
      rw [e1] at hj
      by_cases q2 : j = 5
      · have a1 : hF len hs n j = n := by unfold hF; rw [if_pos q, if_pos q2]
        have a2 : hF len HS S j = S := by unfold hF; rw [if_pos q, if_pos q2]
        rw [a1, a2]; exact new
      · have a1 : hF len hs n j = hs (j + 1) := by unfold hF; rw [if_pos q, if_neg q2]
        have a2 : hF len HS S j = HS (j + 1) := by unfold hF; rw [if_pos q, if_neg q2]
        rw [a1, a2]; exact old _ (by omega)
    · have e1 : hL len = len + 1 := by unfold hL; rw [if_neg q]
      rw [e1] at hj
      by_cases q2 : j = len
      · have a1 : hF len hs n j = n := by unfold hF; rw [if_neg q, if_pos q2]
        have a2 : hF len HS S j = S := by unfold hF; rw [if_neg q, if_pos q2]
        rw [a1, a2]; exact new
      · have a1 : hF len hs n j = hs j := by unfold hF; rw [if_neg q, if_neg q2]
        have a2 : hF len HS S j = HS j := by unfold hF; rw [if_neg q, if_neg q2]
        rw [a1, a2]; exact old _ (by omega)
  · rcases w12 i hi with ⟨a1, a2⟩ | ⟨v, a1, a2, a3, a4, a5⟩
    · exact .inl ⟨by rw [e2]; exact a1, a2⟩
    · refine .inr ⟨v, by rw [e2]; exact a1, a2, (g8 _ _ a3 a5 fun z => (w13.2.2 i hi).1 (by rw [a2, z])).H hM3, BlkAt_sh a5 (fun k hk => rV _ (by omega)) a4, a5⟩
  · have cases_ := fun j hj => hF_cases (l := hs) (x := n) (len := len) (j := j) hj
    refine ⟨fun j hj => ?_, fun j k hj hk e0 => ?_, fun i hi => ⟨(w13.2.2 i hi).1, fun j hj z => ?_⟩⟩
    · rcases cases_ j hj with ⟨a1, -⟩ | ⟨i, a1, a2, -⟩
      · rw [a1]; omega
      · rw [a2]; exact w13.1 i a1
    · rcases cases_ j hj with ⟨a1, a2⟩ | ⟨i, a1, a2, a3⟩
      · rcases cases_ k hk with ⟨b1, b2⟩ | ⟨i2, b1, b2, b3⟩
        · omega
        · rw [a1, b2] at e0
          have := lhs i2 b1
          omega
      · rcases cases_ k hk with ⟨b1, b2⟩ | ⟨i2, b1, b2, b3⟩
        · rw [a2, b1] at e0
          have := lhs i a1
          omega
        · rw [a2, b2] at e0
          have := w13.2.1 i i2 a1 b1 e0
          omega
    · rcases cases_ j hj with ⟨a1, -⟩ | ⟨i2, a1, a2, -⟩
      · rw [a1] at z
        have := lfv i hi _ z
        omega
      · rw [a2] at z
        exact (w13.2.2 i hi).2 i2 a1 z
theorem cExd_ok {fp u : Nat → Int32} {i k : Nat} {w1 w2 w3 : Int32} (x : xY S S' k (fp (4 * i + 1)) (fp (4 * i + 2)) (fp (4 * i + 3)) w1 w2 w3) (hi : i < 30) (hk : fp (4 * i) = iI k) (F : gFr h n) (hO : CurAt h cd st) (hS : StAt h st S sa) (h7 : g_fA h cd 3 7 = some (cd + 10)) (hp : h (cd + 10) = some (.inl (0, 120, .inl fp))) : gRt (f_X1_executed cd (iI (4 * i : Nat)) h n) (1 : Int32) h n (DS st) fun h' _ => ∃ sa', StAt h' st S' sa' := by
  obtain ⟨h', n', e, u, p⟩ := x.2.2.1 cd st h n sa F hO hS
  obtain ⟨fs, o⟩ := cur_o hO
  have e1 : iI ((4 * i : Nat) : Int) + (1 : Int32) = iI ((4 * i + 1 : Nat) : Int) := by rw [iI_1, iI_add]; rfl
  have e2 : iI ((4 * i : Nat) : Int) + (2 : Int32) = iI ((4 * i + 2 : Nat) : Int) := by rw [show (2 : Int32) = iI 2 from rfl, iI_add]; rfl
  have e3 : iI ((4 * i : Nat) : Int) + (3 : Int32) = iI ((4 * i + 3 : Nat) : Int) := by rw [show (3 : Int32) = iI 3 from rfl, iI_add]; rfl
  refine ⟨h', n', ?_, u, p⟩
  unfold f_X1_executed
  rw [h7, gB_s, aI_at (j := 4 * i) hp rfl (by omega) (by decide) hk, gB_s, gB_s, e1, aI_at (j := 4 * i + 1) hp rfl (by omega) (by decide) rfl, gB_s, gB_s, e2, aI_at (j := 4 * i + 2) hp rfl (by omega) (by decide) rfl, gB_s, gB_s, e3, aI_at (j := 4 * i + 3) hp rfl (by omega) (by decide) rfl, gB_s, o, gB_s, e, gTX_l]
theorem cExd_no {fp u : Nat → Int32} {i k : Nat} {w1 w2 w3 : Int32} (x : xN S k (fp (4 * i + 1)) (fp (4 * i + 2)) (fp (4 * i + 3)) w1 w2 w3) (hi : i < 30) (hk : fp (4 * i) = iI k) (F : gFr h n) (hO : CurAt h cd st) (hS : StAt h st S sa) (h7 : g_fA h cd 3 7 = some (cd + 10)) (hp : h (cd + 10) = some (.inl (0, 120, .inl fp))) : ∃ h' n', f_X1_executed cd (iI (4 * i : Nat)) h n = some (.inl (0 : Int32), h', n') ∧ gPas h n h' n' noD := by
  obtain ⟨k', hk', h', n', y, e, u⟩ := x.1 cd st h n sa F hO hS
  obtain ⟨fs, o⟩ := cur_o hO
  have e1 : iI ((4 * i : Nat) : Int) + (1 : Int32) = iI ((4 * i + 1 : Nat) : Int) := by rw [iI_1, iI_add]; rfl
  have e2 : iI ((4 * i : Nat) : Int) + (2 : Int32) = iI ((4 * i + 2 : Nat) : Int) := by rw [show (2 : Int32) = iI 2 from rfl, iI_add]; rfl
  have e3 : iI ((4 * i : Nat) : Int) + (3 : Int32) = iI ((4 * i + 3 : Nat) : Int) := by rw [show (3 : Int32) = iI 3 from rfl, iI_add]; rfl
  refine ⟨h', n', ?_, u⟩
  unfold f_X1_executed
  rw [h7, gB_s, aI_at (j := 4 * i) hp rfl (by omega) (by decide) hk, gB_s, gB_s, e1, aI_at (j := 4 * i + 1) hp rfl (by omega) (by decide) rfl, gB_s, gB_s, e2, aI_at (j := 4 * i + 2) hp rfl (by omega) (by decide) rfl, gB_s, gB_s, e3, aI_at (j := 4 * i + 3) hp rfl (by omega) (by decide) rfl, gB_s, o, gB_s, e, gTX_r]
  rcases hk' with z | z | z <;> subst z <;> rfl
theorem run_loop {x : gV} {q cnt : Nat} {fs : List Value} {fp g aK : Nat → Int32} {P : Nat → gCm} {iU iL iE iP iT iA iY iF iV : Int32} {N : gS} (h30 : cnt ≤ 30) (h7 : fs[7]? = some (.ref (cd + 10))) (h4 : fs[4]? = some (.ref st)) (hP : ∀ j, j < cnt → cmR fp (4 * j) (P j) ∧ cmR aK (4 * j) (P j) ∧ cmV N (P j)) : ∀ (d i fu fu2 : Nat) (h : gH) (n : Nat) (S : gS) (sa : Nat → Nat) (m aT aC aH : Nat → Int32), i + d = cnt → d < fu → d < fu2 → gFr h n → h cd = some (.inr (3, fs)) → h (cd + 10) = some (.inl (0, 120, .inl fp)) → StAt h st S sa → WF S → S.n = N.n → BlkAt m 0 S → ∃ (h1 : gH) (n1 : Nat) (S1 : gS) (sa1 : Nat → Nat) (m1 aT1 aC1 aH1 : Nat → Int32) (r : Nat), gL3 (f_X1_runScript_L60 x cd (iI cnt) q) fu (iI i) h n = gT2 (f_X1_record cd q (iI r) h1) (fun v h => some (.inl v, h, n1)) ∧ gPas h n h1 n1 (DS st) ∧ StAt h1 st S1 sa1 ∧ WF S1 ∧ gL5 (f_X6_runScript_L42 x (iI cnt) iU g iL iE iP iT iA iY iF iV aK) fu2 (iI i) m aT aC aH = some (iI r, m1, iU, iL, iE, iP, iT, aT1, aC1, aH1, iA, iY, iF, iV, aK) ∧ BlkUp m m1 S1 := by
  intro d
  induction d with
  | zero =>
    intro i fu fu2 h n S sa m aT aC aH e hfu hfu2 F hc hp hS hw hN hM
    obtain ⟨fu, rfl⟩ : ∃ k', fu = k' + 1 := ⟨fu - 1, by omega⟩
    obtain ⟨fu2, rfl⟩ : ∃ k', fu2 = k' + 1 := ⟨fu2 - 1, by omega⟩
    have ei : i = cnt := by omega
    subst ei
    refine ⟨h, n, S, sa, m, aT, aC, aH, i, ?_, gPas.rf F, hS, hw, ?_, hM, fun _ _ => rfl⟩
    · show f_X1_runScript_L60 x cd (iI i) q (gL3 (f_X1_runScript_L60 x cd (iI i) q) fu) (iI i) h n = _
      unfold f_X1_runScript_L60
      rw [if_pos (Int32.le_refl _), g_obj_s hc, gB_s]
    · show f_X6_runScript_L42 x (iI i) iU g iL iE iP iT iA iY iF iV aK (gL5 (f_X6_runScript_L42 x (iI i) iU g iL iE iP iT iA iY iF iV aK) fu2) (iI i) m aT aC aH = _
      unfold f_X6_runScript_L42
      rw [if_pos (Int32.le_refl _)]
  | succ d ih =>
    intro i fu fu2 h n S sa m aT aC aH e hfu hfu2 F hc hp hS hw hN hM
    obtain ⟨fu, rfl⟩ : ∃ k', fu = k' + 1 := ⟨fu - 1, by omega⟩
    obtain ⟨fu2, rfl⟩ : ∃ k', fu2 = k' + 1 := ⟨fu2 - 1, by omega⟩
    obtain ⟨⟨f0, f1⟩, ⟨k0, k1⟩, hv⟩ := hP i (by omega)
    have hO : CurAt h cd st := ⟨fs, hc, h4⟩
    have hv' : cmV S (P i) := by
      obtain ⟨v1, v2, v3, v4⟩ := hv
      exact ⟨v1, fun a b => by rw [hN]; exact v2 a b, fun a => by rw [hN]; exact v3 a, v4⟩
    have e4 : (4 : Int32) * iI (i : Int) = iI ((4 * i : Nat) : Int) := by rw [show (4 : Int32) = iI 4 from rfl, iI_mul]; congr 1
    have e4' : iI (i : Int) * (4 : Int32) = iI ((4 * i : Nat) : Int) := by rw [show (4 : Int32) = iI 4 from rfl, iI_mul]; congr 1; omega
    have e1 : iI ((4 * i : Nat) : Int) + (1 : Int32) = iI ((4 * i + 1 : Nat) : Int) := by rw [iI_1, iI_add]; rfl
    have e2 : iI ((4 * i : Nat) : Int) + (2 : Int32) = iI ((4 * i + 2 : Nat) : Int) := by rw [show (2 : Int32) = iI 2 from rfl, iI_add]; rfl
    have e3 : iI ((4 * i : Nat) : Int) + (3 : Int32) = iI ((4 * i + 3 : Nat) : Int) := by rw [show (3 : Int32) = iI 3 from rfl, iI_add]; rfl
    have hle : ¬ iI (cnt : Int) ≤ iI (i : Int) := by rw [iI_le (by omega) (by omega) (by omega) (by omega)]; omega
    have hd1 : ∀ r, f_X1_runScript_L60 x cd (iI cnt) q r (iI i) h n = (gTX (f_X1_executed cd (iI (4 * i : Nat)) h n) (fun v30 h32 n33 => (if v30 = 0 then (Option.bind (g_obj h32 cd 3) fun _ => (gT2 (f_X1_record cd q (iI i) h32) fun v38 h39 => some (.inl v38, h39, n33))) else r (iI i + (1 : Int32)) h32 n33)) fun q31 h34 n35 => some (.inr (q31.1, q31.2), h34, n35)) := fun r => by
      unfold f_X1_runScript_L60
      rw [if_neg hle, g_obj_s hc, gB_s, e4]
    have hd2 : ∀ r, f_X6_runScript_L42 x (iI cnt) iU g iL iE iP iT iA iY iF iV aK r (iI i) m aT aC aH = (gT3 (f_X6_canDo (iI (P i).1) (aK (4 * i + 1)) (aK (4 * i + 2)) (aK (4 * i + 3)) m aT aC) fun v28 aT_29 aC_30 => (if v28 = 0 then some (iI i, m, iU, iL, iE, iP, iT, aT_29, aC_30, aH, iA, iY, iF, iV, aK) else (gT4 (f_X6_doIt (iI (P i).1) (aK (4 * i + 1)) (aK (4 * i + 2)) (aK (4 * i + 3)) m aT_29 aC_30 aH) fun aM_36 aT_37 aC_38 aH_39 => r (iI i + (1 : Int32)) aM_36 aT_37 aC_38 aH_39))) := fun r => by
      unfold f_X6_runScript_L42
      simp only [if_neg hle, e4', e1, e2, e3, ra_at (j := 4 * i) (N := 120) rfl (by omega) (by decide) k0, ra_at (j := 4 * i + 1) (N := 120) (f := aK) rfl (by omega) (by decide) rfl, ra_at (j := 4 * i + 2) (N := 120) (f := aK) rfl (by omega) (by decide) rfl, ra_at (j := 4 * i + 3) (N := 120) (f := aK) rfl (by omega) (by decide) rfl, gB_s]
    have hA : g_fA h cd 3 7 = some (cd + 10) := fA_at hc h7
    rcases exAll (j := 4 * i) hw hv' f1 k1 with ⟨S', xx⟩ | xx
    · obtain ⟨h1, n1, y1, u1, sa1, t1⟩ := cExd_ok (u := fp) xx (by omega) f0 F hO hS hA hp
      obtain ⟨aT1, aC1, m2, aT2, aC2, aH2, y2, y3, y4⟩ := xx.2.2.2 m aT aC aH hM
      have c1 := u1.ce F hc (DS_arr hS hc)
      have p1 := u1.ce F hp (DS_not hS hw hp (kS_no0 (by decide)))
      obtain ⟨h3, n3, S3, sa3, m3, aT3, aC3, aH3, r, z1, z2, z3, z4, z5, z6⟩ := ih (i + 1) fu fu2 h1 n1 S' sa1 m2 aT2 aC2 aH2 (by omega) (by omega) (by omega) u1.2.1 c1 p1 t1 xx.1 (xx.2.1.trans hN) y4.1
      refine ⟨h3, n3, S3, sa3, m3, aT3, aC3, aH3, r, ?_, u1.tr' z2, z3, z4, ?_, z6.1, fun j hj => (z6.2 j hj).trans (y4.2 j hj)⟩
      · show f_X1_runScript_L60 x cd (iI cnt) q (gL3 (f_X1_runScript_L60 x cd (iI cnt) q) fu) (iI i) h n = _
        rw [hd1, y1, gTX_l, if_neg (by decide), iI_1, iI_add, ← z1]
        rfl
      · show f_X6_runScript_L42 x (iI cnt) iU g iL iE iP iT iA iY iF iV aK (gL5 (f_X6_runScript_L42 x (iI cnt) iU g iL iE iP iT iA iY iF iV aK) fu2) (iI i) m aT aC aH = _
        rw [hd2, y2, gT3_s, if_neg (by decide), y3, gT4_s, iI_1, iI_add, ← z5]
        rfl
    · obtain ⟨h1, n1, y1, u1⟩ := cExd_no (u := fp) xx (by omega) f0 F hO hS hA hp
      obtain ⟨aT1, aC1, y2⟩ := xx.2 m aT aC hM
      have c1 := u1.c0 F hc
      refine ⟨h1, n1, S, sa, m, aT1, aC1, aH, i, ?_, u1.no, u1.st F hS, hw, ?_, hM, fun _ _ => rfl⟩
      · show f_X1_runScript_L60 x cd (iI cnt) q (gL3 (f_X1_runScript_L60 x cd (iI cnt) q) fu) (iI i) h n = _
        rw [hd1, y1, gTX_l, if_pos rfl, g_obj_s c1, gB_s]
      · show f_X6_runScript_L42 x (iI cnt) iU g iL iE iP iT iA iY iF iV aK (gL5 (f_X6_runScript_L42 x (iI cnt) iU g iL iE iP iT iA iY iF iV aK) fu2) (iI i) m aT aC aH = _
        rw [hd2, y2, gT3_s, if_pos rfl]
end SR
