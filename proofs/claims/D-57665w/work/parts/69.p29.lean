/-! UNDO, SAVE, RESTORE -/
section US
variable {h : gH} {cd o n : Nat} {M M' : gMS} {st : Nat} {S S' : gS} {sa : Nat → Nat} {len hd : Nat} {hs : Nat → Nat} {HS : Nat → gS} {fv : Nat → Option Nat} {VS : Nat → gS}
/-- the world out of its parts, before the reference's components are written -/
theorem gW_H {h' : gH} {n' st' len' hd' : Nat} {sa' : Nat → Nat} {hs' : Nat → Nat} {HS' : Nat → gS} {fv' : Nat → Option Nat} {VS' : Nat → gS} (hM : mR h' o = some M) (hc : cd + 12 ≤ o) (F' : gFr h' n') (hu : gOut o h') (cl : gClw cd st' h' M') (t : StAt h' st' S' sa') (hw' : WF S') (rB : BlkAt M'.aM 0 S') (d : DqAt h' (cd + 7) hd' len' hs') (eU : M'.iU = iI len') (hh : gHi h' M'.aM len' hs' HS') (fc : h' (cd + 9) = some (.inl (4, 2, .inr (.inr (.inr (.inr fv')))))) (sv : gSv h' M'.aM M'.aS fv' VS') (di : gDi st' len' hs' fv') : gWx cd o (M'.H h' o) n' := by
  have hlt := hu.lt F'
  have fin : ∀ b, b < o → M'.H h' o b = h' b := fun b q => mH_ot (by unfold rgn; omega)
  refine ⟨M', st', S', sa', len', hd', hs', HS', fv', VS', fun b q => ?_, hc, mR_s, ?_, cl.keep (fun b q => fin b (by omega)) rfl rfl rfl rfl rfl rfl, ⟨t.H hM, hw', rB⟩, ⟨d.keep fun b e hb q => by rw [fin b (by omega)]; exact hb, eU, fun j hj => ⟨(hh j hj).1.H hM, (hh j hj).2⟩⟩, ⟨by rw [fin _ (by omega)]; exact fc, fun i hi => ?_⟩, di⟩
  · rw [mH_ot (by unfold rgn; omega)]; exact F' b q
  · obtain ⟨⟨f1, r1⟩, ⟨f2, r2⟩⟩ := hu
    exact ⟨⟨f1, by rw [mH_ot (by unfold rgn; omega)]; exact r1⟩, ⟨f2, by rw [mH_ot (by unfold rgn; omega)]; exact r2⟩⟩
  · rcases sv i hi with ⟨a1, a2⟩ | ⟨v, a1, a2, a3, a4, a5⟩
    · exact .inl ⟨a1, a2⟩
    · exact .inr ⟨v, a1, a2, a3.H hM, a4, a5⟩
theorem pr_of {r : Option ((Int32 ⊕ gX) × gH × Nat)} {v : Int32} {X : gX → gH → Nat → Option ((Int32 ⊕ gX) × gH × Nat)} {h' : gH} {n' st' len' hd' : Nat} {sa' : Nat → Nat} {hs' : Nat → Nat} {HS' : Nat → gS} {fv' : Nat → Option Nat} {VS' : Nat → gS} (e : r = some (.inl v, h', n')) (hM : mR h' o = some M) (hc : cd + 12 ≤ o) (F' : gFr h' n') (hu : gOut o h') (cl : gClw cd st' h' M') (t : StAt h' st' S' sa') (hw' : WF S') (rB : BlkAt M'.aM 0 S') (d : DqAt h' (cd + 7) hd' len' hs') (eU : M'.iU = iI len') (hh : gHi h' M'.aM len' hs' HS') (fc : h' (cd + 9) = some (.inl (4, 2, .inr (.inr (.inr (.inr fv')))))) (sv : gSv h' M'.aM M'.aS fv' VS') (di : gDi st' len' hs' fv') : gPr (gTX r (fun v3 h5 n6 => (Option.bind (g_sL h5 (o + 11) 5 (0 : Int32) v3.toInt64) fun h9 => some (.inl (0 : Int32), h9, n6))) X) cd o M M' 0 v.toInt64 := by
  obtain ⟨f, e2, ev⟩ := out_sL (v := v.toInt64) hu
  have hlt := hu.lt F'
  have k : ∀ b e, h' b = some e → kSt e → g_up h' (o + 11) (.inl (5, 1, .inr (.inl f))) b = some e := by
    obtain ⟨⟨f1, q1⟩, -⟩ := hu
    exact kS_up q1 (kS_no (by decide))
  have lo : ∀ b, b < o + 11 → g_up h' (o + 11) (.inl (5, 1, .inr (.inl f))) b = h' b := fun b q => g_up_n (by omega)
  refine ⟨_, n', by rw [e, gTX_l, e2, gB_s], mR_st hM fun b r => lo b (by unfold rgn at r; omega), fun _ => by rw [out_aL, ev], gW_H (VS' := VS') (HS' := HS') (mR_st hM fun b r => lo b (by unfold rgn at r; omega)) hc (fun b q => by rw [g_up_n (by omega)]; exact F' b q) ⟨⟨f, g_up_s⟩, ?_⟩ (cl.keep (fun b q => lo b (by omega)) rfl rfl rfl rfl rfl rfl) (t.kS hw' k) hw' rB (d.keep fun b e hb q => by rw [lo b (by omega)]; exact hb) eU (fun j hj => ⟨(hh j hj).1.kS (hh j hj).2.2 k, (hh j hj).2⟩) (by rw [lo _ (by omega)]; exact fc) (fun i hi => ?_) di⟩
  · obtain ⟨-, f2, q2⟩ := hu
    exact ⟨f2, by rw [g_up_n (by omega)]; exact q2⟩
  · rcases sv i hi with ⟨a1, a2⟩ | ⟨v, a1, a2, a3, a4, a5⟩
    · exact .inl ⟨a1, a2⟩
    · exact .inr ⟨v, a1, a2, a3.kS a5 k, a4, a5⟩
theorem p_undo (w : gW cd o h n M st S sa len hd hs HS fv VS) (iT : Int32) : ∃ c v aM' iU', gPr (f_X0_undo cd (o + 11) h n) cd o M (mU M aM' iU' c) c v.toInt64 ∧ f_X6_undo M.aM M.iU iT = some (v, aM', iU', c) := by
  have w0 := w
  obtain ⟨F, w1, w2, w3, w4, ⟨w5, w6, w7⟩, ⟨w8, w9, w10⟩, ⟨w11, w12⟩, w13⟩ := w
  obtain ⟨fs0, ob⟩ := w4.ob
  obtain ⟨gs, g1⟩ := d_obj w8
  have hl := w8.2.1
  have hlt := w3.lt F
  have w4' := w4
  obtain ⟨c1, c2, c3, c4⟩ := w4
  unfold f_X0_undo f_X6_undo f_X6_undo_J13 f_X1_undo f_X1_undo_J15
  rw [ob, gB_s, fA_at c1 rfl, gB_s, g1, gB_s, dEmp w8, gB_s, w9]
  by_cases q : len = 0
  · refine ⟨1, 0, M.aM, M.iU, rd_pr w0 (gRd_t (k := 10) ?_ w3 F (fun _ _ _ => rfl) (by decide)) ⟨fun _ _ => rfl, rfl, rfl, rfl, rfl, rfl, rfl, rfl, rfl⟩, ?_⟩
    · rw [if_pos q, if_neg (by decide)]
      exact (cCt_no F).X
    · rw [if_pos (by rw [q]; rfl), mF1, gT2_s, if_neg (by decide), ← w9]
  · obtain ⟨h1, e1, d1, f1⟩ := dRl w8 (by omega)
    obtain ⟨⟨sa2, t2⟩, B2, W2⟩ := w10 (len - 1) (by omega)
    have lhs : hs (len - 1) < n := F.lt t2.1
    have k1 : ∀ b e, h b = some e → kSt e → h1 b = some e := fun b e hb he => by
      obtain ⟨-, -, a3, f, a4, -⟩ := w8
      rw [f1 b (fun z => by rw [z, a3] at hb; cases hb; exact kS_noO ⟨by decide, by decide, by decide⟩ he) (fun z => by rw [z, a4] at hb; cases hb; exact kS_no3 (by decide) he)]
      exact hb
    have c1' : h1 cd = some (clO cd st M.iL M.iE M.iP M.iW) := by rw [f1 _ (by omega) (by omega)]; exact c1
    have t2' := t2.kS W2 k1
    obtain ⟨fs4, o4⟩ := a_obj t2'
    generalize eh : g_up h1 cd (clO cd (hs (len - 1)) M.iL M.iE M.iP M.iW) = h2
    have c2' : h2 cd = some (clO cd (hs (len - 1)) M.iL M.iE M.iP M.iW) := by rw [← eh, g_up_s]
    have f2 : ∀ b, b ≠ cd → h2 b = h1 b := fun b hb => by rw [← eh, g_up_n hb]
    have k2 : ∀ b e, h b = some e → kSt e → h2 b = some e := fun b e hb he => by
      rw [f2 b (fun z => by rw [z, c1] at hb; cases hb; exact kS_noO ⟨by decide, by decide, by decide⟩ he)]
      exact k1 b e hb he
    have d2 : DqAt h2 (cd + 7) hd (len - 1) hs := d1.keep fun b e hb z => by rw [f2 b (by omega)]; exact hb
    have same : ∀ b, b ≠ cd → b ≠ cd + 7 → b ≠ cd + 8 → h2 b = h b := fun b b1 b2 b3 => by rw [f2 b b1, f1 b b2 b3]
    obtain ⟨gs2, g2⟩ := d_obj d2
    have epf : g_pf h1 cd 3 4 (.ref (hs (len - 1))) = some h2 := by rw [← eh]; exact pf_at c1' (by show _ < 10; decide)
    have cp : f_X6_copyBlock (iI len) (0 : Int32) M.aM = some (cpB M.aM len 0 212) := mCpB (a := len) (b := 0) (by omega) (by omega) (by omega)
    refine ⟨0, iI ((len : Int) - 1), cpB M.aM len 0 212, iI ((len : Int) - 1), pr_of (h' := h2) (n' := n) (st' := hs (len - 1)) (S' := HS (len - 1)) (sa' := sa2) (len' := len - 1) (hd' := hd) (hs' := hs) (HS' := HS) (fv' := fv) (VS' := VS) ?_ (mR_st w2 fun b r => same b (by unfold rgn at r; omega) (by unfold rgn at r; omega) (by unfold rgn at r; omega)) w1 (fun b hb => by rw [same b (by omega) (by omega) (by omega)]; exact F b hb) ?_ ?_ (t2.kS W2 k2) W2 ?_ d2 ?_ ?_ (by rw [same _ (by omega) (by omega) (by omega)]; exact w11) ?_ ?_, ?_⟩
    · rw [if_neg q, if_pos rfl, cCt_ok, gTX_l, fA_at c1 rfl, gB_s, g1, gB_s, e1, gT2_s, o4, gB_s, epf, gB_s, fA_at c2' rfl, gB_s, g2, gB_s, dSize d2, gB_s]
      congr 4
      omega
    · obtain ⟨⟨g1, r1⟩, ⟨g2, r2⟩⟩ := w3
      exact ⟨⟨g1, by rw [same _ (by omega) (by omega) (by omega)]; exact r1⟩, ⟨g2, by rw [same _ (by omega) (by omega) (by omega)]; exact r2⟩⟩
    · have := w4'.keep (h' := g_up h2 cd (clO cd st M.iL M.iE M.iP M.iW)) (M' := mU M (cpB M.aM len 0 212) (iI ((len : Int) - 1)) 0) (fun b hb => by
        by_cases z : b = cd
        · subst z; rw [g_up_s, c1]
        · rw [g_up_n z, same b z (by omega) (by omega)]) rfl rfl rfl rfl rfl rfl
      obtain ⟨-, ⟨a1, a2, a3⟩, ⟨a4, a5⟩, ⟨a6, a7, a8⟩⟩ := this
      rw [g_up_n (by omega)] at a3 a5 a8
      exact ⟨c2', ⟨a1, a2, a3⟩, ⟨a4, a5⟩, ⟨a6, a7, a8⟩⟩
    · rw [show len - 1 + 1 = len by omega] at B2
      exact cpB_to W2 B2
    · show iI ((len : Int) - 1) = iI ((len - 1 : Nat) : Int)
      congr 1; omega
    · intro j hj
      obtain ⟨a1, a2, a3⟩ := w10 j (by omega)
      exact ⟨a1.kS a3 k2, cpB_stay a3 (by omega) a2, a3⟩
    · intro i hi
      rcases w12 i hi with ⟨a1, a2⟩ | ⟨v, a1, a2, a3, a4, a5⟩
      · exact .inl ⟨a1, a2⟩
      · exact .inr ⟨v, a1, a2, a3.kS a5 k2, cpB_stay a5 (by omega) a4, a5⟩
    · exact ⟨fun j hj z => by have := w13.2.1 j (len - 1) (by omega) (by omega) z; omega, fun j k hj hk z => w13.2.1 j k (by omega) (by omega) z, fun i hi => ⟨(w13.2.2 i hi).2 (len - 1) (by omega), fun j hj => (w13.2.2 i hi).2 j (by omega)⟩⟩
    · rw [if_neg (by rw [show (0 : Int32) = iI 0 from rfl, iI_eq (by omega) (by omega) (by omega) (by omega)]; omega), mF0, gT2_s, if_pos rfl, cp, gB_s, iI_1, iI_sub]
theorem p_save (w : gW cd o h n M st S sa len hd hs HS fv VS) (z1 iT : Int32) : ∃ c v aM' aS', gPr (f_X0_save cd z1 (o + 11) h n) cd o M (aM', aS', M.iU, M.aB, M.iL, M.iE, M.iP, M.aR, M.iW, c, M.aT, M.aC, M.aH, M.aE, M.aQ, M.iA, M.iY, M.iF, M.iV, M.aK) c v.toInt64 ∧ f_X6_save z1 M.aM M.aS iT = some (v, aM', aS', c) := by
  have w0 := w
  obtain ⟨F, w1, w2, w3, w4, ⟨w5, w6, w7⟩, ⟨w8, w9, w10⟩, ⟨w11, w12⟩, w13⟩ := w
  obtain ⟨fs0, ob⟩ := w4.ob
  have hO := w4.cur
  have hlt := w3.lt F
  have lst := F.lt w5.1
  obtain ⟨a, ha1, ha2, rfl⟩ := iI_of z1
  unfold f_X0_save f_X6_save f_X6_save_J15 f_X1_save
  rw [ob, gB_s, show (2 : Int32) = iI 2 from rfl]
  by_cases q : 0 ≤ a ∧ a < 2
  · obtain ⟨a, rfl⟩ : ∃ k : Nat, a = k := ⟨a.toNat, by omega⟩
    obtain ⟨h1, e1, t1, u1⟩ := cCopy F w5 w6
    have hS1 := u1.st F w5
    have hO1 := u1.cur F hO
    obtain ⟨fs1, o1, o2⟩ := hO1
    have u0 := gPas.new (D := noD) (e := .inr (0, [.null, .null, .null])) F
    have e0 : g_fA (g_up h n (.inr (0, [.null, .null, .null]))) cd 3 4 = some st := by
      obtain ⟨gs, p1, p2⟩ := u0.cur F hO
      exact fA_at p1 p2
    have sv1 := u1.c0 F w11
    generalize eh : g_up h1 (cd + 9) (.inl (4, 2, .inr (.inr (.inr (.inr (va_up fv a (some n))))))) = h2
    have same : ∀ b, b ≠ cd + 9 → h2 b = h1 b := fun b hb => by rw [← eh, g_up_n hb]
    have k2 : ∀ b e, h1 b = some e → kSt e → h2 b = some e := by rw [← eh]; exact kS_up sv1 (kS_no (by decide))
    have t1' := t1.kS w6 k2
    have hS2 := hS1.kS w6 k2
    obtain ⟨fs2, o3⟩ := a_obj t1
    obtain ⟨fs4, o5⟩ := a_obj hS2
    have c2 : h2 cd = some (.inr (3, fs1)) := by rw [same _ (by omega)]; exact o1
    have hold : ∀ st2 S2, StE h st2 S2 → WF S2 → StE h2 st2 S2 := fun st2 S2 ⟨sa2, hT⟩ hw2 => ⟨sa2, (u1.st F hT).kS hw2 k2⟩
    have hb7 : f_X6_copyBlock (0 : Int32) (iI ((7 : Int) + a)) M.aM = some (cpB M.aM 0 (7 + a) 212) := by
      have := mCpB (m := M.aM) (a := 0) (b := 7 + a) (by omega) (by omega) (by omega)
      rw [Int.natCast_add] at this
      exact this
    have hcnt := mCnt (cpB_stay (a := 0) (b := 7 + a) w6 (by omega) w7) w6 (o := -1) (by omega)
    refine ⟨0, iI (cntZ S (-1)), cpB M.aM 0 (7 + a) 212, upd M.aS a 1, pr_of (h' := h2) (n' := n + 5) (st' := st) (S' := S) (sa' := sa) (len' := len) (hd' := hd) (hs' := hs) (HS' := HS) (fv' := va_up fv a (some n)) (VS' := fun i => if i = a then S else VS i) ?_ ?_ w1 (fun b hb => by rw [same b (by omega)]; exact u1.2.1 b hb) ?_ ?_ hS2 w6 (cpB_stay w6 (by omega) w7) ?_ w9 ?_ (by rw [← eh, g_up_s]) ?_ ?_, ?_⟩
    · rw [cCI_ok (by omega) (by omega), gTX_l, fA_at w4.1 rfl, gB_s, new_e, e0, gB_s, e1, gT2_s, o3, gB_s, sQ_at (j := a) sv1 rfl (by omega) (by decide), gB_s, eh, fA_at c2 o2, gB_s, o5, gB_s, iI_n1, cCnt hS2 w6 (by omega), gB_s]
    · exact mR_st w2 fun b r => by rw [same b (by unfold rgn at r; omega), u1.2.2 b (by unfold rgn at r; omega) fun z => z]
    · obtain ⟨⟨g1, r1⟩, ⟨g2, r2⟩⟩ := w3.mono F u1
      exact ⟨⟨g1, by rw [same _ (by omega)]; exact r1⟩, ⟨g2, by rw [same _ (by omega)]; exact r2⟩⟩
    · exact w4.keep (fun b hb => by rw [same b (by omega), u1.2.2 b (by omega) fun z => z]) rfl rfl rfl rfl rfl rfl
    · exact (dq_0 F u1 w8).keep fun b e hb z => by rw [same b (by omega)]; exact hb
    · intro j hj
      obtain ⟨a1, a2, a3⟩ := w10 j hj
      have := w8.2.1
      exact ⟨hold _ _ a1 a3, cpB_stay a3 (by omega) a2, a3⟩
    · intro i hi
      by_cases z : i = a
      · subst z
        exact .inr ⟨n, if_pos rfl, if_pos rfl, by show StE h2 n (if i = i then S else VS i); rw [if_pos rfl]; exact ⟨sa, t1'⟩, by show BlkAt _ _ (if i = i then S else VS i); rw [if_pos rfl]; exact cpB_to w6 w7, by show WF (if i = i then S else VS i); rw [if_pos rfl]; exact w6⟩
      · have e1 : upd M.aS a 1 i = M.aS i := if_neg z
        have e2 : va_up fv a (some n) i = fv i := if_neg z
        have e3 : (if i = a then S else VS i) = VS i := if_neg z
        rcases w12 i hi with ⟨a1, a2⟩ | ⟨v, a1, a2, a3, a4, a5⟩
        · exact .inl ⟨by show upd M.aS a 1 i = 0; rw [e1]; exact a1, by rw [e2]; exact a2⟩
        · refine .inr ⟨v, by show upd M.aS a 1 i = 1; rw [e1]; exact a1, by rw [e2]; exact a2, ?_, ?_, ?_⟩
          · show StE h2 v (if i = a then S else VS i); rw [e3]; exact hold _ _ a3 a5
          · show BlkAt _ _ (if i = a then S else VS i); rw [e3]; exact cpB_stay a5 (by omega) a4
          · show WF (if i = a then S else VS i); rw [e3]; exact a5
    · refine ⟨w13.1, w13.2.1, fun i hi => ?_⟩
      by_cases z : i = a
      · have e2 : va_up fv a (some n) i = some n := if_pos z
        rw [e2]
        refine ⟨fun z => by cases z; omega, fun j hj z => ?_⟩
        obtain ⟨⟨sa2, a1⟩, -⟩ := w10 j hj
        have := F.lt a1.1
        cases z; omega
      · have e2 : va_up fv a (some n) i = fv i := if_neg z
        rw [e2]; exact w13.2.2 i hi
    · have mb : f_X6_in (iI a) (0 : Int32) (1 : Int32) = some (1 : Int32) := mBt_ok (b := 0) (c := 1) (by omega) (by omega) (by omega) (by omega)
      rw [mb, gB_s, if_neg (by decide), mF0, gT2_s, if_pos rfl, iI_7, iI_add, hb7, gB_s, show vp_nar .boolean (1 : Int32) = 1 from by decide, wa_at (j := a) rfl (by omega) (by decide), gB_s, iI_n1, hcnt, gB_s]
  · refine ⟨1, 0, M.aM, M.aS, rd_pr w0 (gRd_t ((cCI_no F ⟨ha1, ha2⟩ q (by omega)).X) w3 F (fun _ _ _ => rfl) (by decide)) ⟨fun _ _ => rfl, rfl, rfl, rfl, rfl, rfl, rfl, rfl, rfl⟩, ?_⟩
    have mb : f_X6_in (iI a) (0 : Int32) (1 : Int32) = some (0 : Int32) := mBt_no (b := 0) (c := 1) (by omega) (by omega) (by omega) (by omega)
    rw [mb, gB_s, if_pos rfl, mF1, gT2_s, if_neg (by decide)]
theorem p_restore (w : gW cd o h n M st S sa len hd hs HS fv VS) (z1 iT : Int32) : ∃ c v aM' iU', gPr (f_X0_restore cd z1 (o + 11) h n) cd o M (mU M aM' iU' c) c v.toInt64 ∧ f_X6_restore z1 M.aM M.aS M.iU iT = some (v, aM', iU', c) := by
  have w0 := w
  obtain ⟨F, w1, w2, w3, w4, ⟨w5, w6, w7⟩, ⟨w8, w9, w10⟩, ⟨w11, w12⟩, w13⟩ := w
  obtain ⟨fs0, ob⟩ := w4.ob
  have hlt := w3.lt F
  have hl := w8.2.1
  obtain ⟨a, ha1, ha2, rfl⟩ := iI_of z1
  unfold f_X0_restore f_X6_restore f_X6_restore_J17 f_X6_restore_J34 f_X6_restore_J35 f_X1_restore f_X1_restore_J19
  rw [ob, gB_s, show (2 : Int32) = iI 2 from rfl]
  by_cases q : 0 ≤ a ∧ a < 2
  · obtain ⟨a, rfl⟩ : ∃ k : Nat, a = k := ⟨a.toNat, by omega⟩
    have mb : f_X6_in (iI a) (0 : Int32) (1 : Int32) = some (1 : Int32) := mBt_ok (b := 0) (c := 1) (by omega) (by omega) (by omega) (by omega)
    rw [cCI_ok (by omega) (by omega), gTX_l, fA_at w4.1 rfl, gB_s, mb, gB_s, if_neg (by decide), if_neg (by decide)]
    rcases w12 a (by omega) with ⟨a1, a2⟩ | ⟨v, a1, a2, a3, a4, a5⟩
    · refine ⟨2, 0, M.aM, M.iU, rd_pr w0 (gRd_t (k := 10) ?_ w3 F (fun _ _ _ => rfl) (by decide)) ⟨fun _ _ => rfl, rfl, rfl, rfl, rfl, rfl, rfl, rfl, rfl⟩, ?_⟩
      · rw [aQ_at (j := a) w11 rfl (by omega) (by decide) a2, gB_s]
        exact (cCt_no F).X
      · rw [ra_at (j := a) rfl (by omega) (by decide) a1, gB_s, if_pos rfl, mF2, gT2_s, if_neg (by decide)]
    · obtain ⟨sv, a3⟩ := a3
      obtain ⟨h1, e1, t1, u1⟩ := cCopy F a3 a5
      have u0 := gPas.new (D := noD) (e := .inr (0, [.null, .null, .null])) F
      have c0 := u0.c0 F w4.1
      have v0 := u0.c0 F w11
      have c1 := u1.c0 F w4.1
      generalize eh : g_up h1 cd (clO cd n M.iL M.iE M.iP M.iW) = h2
      have c2 : h2 cd = some (clO cd n M.iL M.iE M.iP M.iW) := by rw [← eh, g_up_s]
      have f2 : ∀ b, b ≠ cd → h2 b = h1 b := fun b hb => by rw [← eh, g_up_n hb]
      have d2 : DqAt h2 (cd + 7) hd len hs := (dq_0 F u1 w8).keep fun b e hb z => by rw [f2 b (by omega)]; exact hb
      obtain ⟨h3, e3, d3, f3⟩ := dClr d2
      have c3 : h3 cd = some (clO cd n M.iL M.iE M.iP M.iW) := by rw [f3 _ (by omega) (by omega)]; exact c2
      have same : ∀ b, b ≠ cd → b ≠ cd + 7 → b ≠ cd + 8 → h3 b = h1 b := fun b b1 b2 b3 => by rw [f3 b b2 b3, f2 b b1]
      have k3 : ∀ b e, h1 b = some e → kSt e → h3 b = some e := fun b e hb he => by
        obtain ⟨-, -, x3, f, x4, -⟩ := dq_0 F u1 w8
        rw [same b (fun z => by rw [z, c1] at hb; cases hb; exact kS_noO ⟨by decide, by decide, by decide⟩ he) (fun z => by rw [z, x3] at hb; cases hb; exact kS_noO ⟨by decide, by decide, by decide⟩ he) (fun z => by rw [z, x4] at hb; cases hb; exact kS_no3 (by decide) he)]
        exact hb
      have t3 := t1.kS a5 k3
      obtain ⟨gs2, g2⟩ := d_obj d2
      obtain ⟨fs4, o4⟩ := a_obj t3
      have lv := F.lt a3.1
      have epf : g_pf h1 cd 3 4 (.ref n) = some h2 := by rw [← eh]; exact pf_at c1 (by show _ < 10; decide)
      have hb7 : f_X6_copyBlock (iI ((7 : Int) + a)) (0 : Int32) M.aM = some (cpB M.aM (7 + a) 0 212) := by
        have := mCpB (m := M.aM) (a := 7 + a) (b := 0) (by omega) (by omega) (by omega)
        rw [Int.natCast_add] at this
        exact this
      have hcnt := mCnt (cpB_to (a := 7 + a) (b := 0) a5 a4) a5 (o := -1) (by omega)
      refine ⟨0, iI (cntZ (VS a) (-1)), cpB M.aM (7 + a) 0 212, 0, pr_of (h' := h3) (n' := n + 5) (st' := n) (S' := VS a) (sa' := sv) (len' := 0) (hd' := 0) (hs' := hs) (HS' := HS) (fv' := fv) (VS' := VS) ?_ (mR_st w2 fun b r => by rw [same b (by unfold rgn at r; omega) (by unfold rgn at r; omega) (by unfold rgn at r; omega), u1.2.2 b (by unfold rgn at r; omega) fun z => z]) w1 (fun b hb => by rw [same b (by omega) (by omega) (by omega)]; exact u1.2.1 b hb) ?_ ?_ t3 a5 (cpB_to a5 a4) d3 rfl (fun j hj => absurd hj (Nat.not_lt_zero j)) (by rw [same _ (by omega) (by omega) (by omega)]; exact u1.c0 F w11) ?_ ?_, ?_⟩
      · rw [aQ_at (j := a) w11 rfl (by omega) (by decide) a2, gB_s, gO_e, cCt_ok, gTX_l, new_e, fA_at c0 rfl, gB_s, aA_at (j := a) v0 rfl (by omega) (by decide) a2, gB_s, e1, gT2_s, epf, gB_s, fA_at c2 rfl, gB_s, g2, gB_s, e3, gB_s, fA_at c3 rfl, gB_s, o4, gB_s, iI_n1, cCnt t3 a5 (by omega), gB_s]
      · obtain ⟨⟨g1, r1⟩, ⟨g2, r2⟩⟩ := w3.mono F u1
        exact ⟨⟨g1, by rw [same _ (by omega) (by omega) (by omega)]; exact r1⟩, ⟨g2, by rw [same _ (by omega) (by omega) (by omega)]; exact r2⟩⟩
      · have := w4.keep (h' := g_up h3 cd (clO cd st M.iL M.iE M.iP M.iW)) (M' := mU M (cpB M.aM (7 + a) 0 212) 0 0) (fun b hb => by
          by_cases z : b = cd
          · subst z; rw [g_up_s, w4.1]
          · rw [g_up_n z, same b z (by omega) (by omega), u1.2.2 b (by omega) fun z => z]) rfl rfl rfl rfl rfl rfl
        obtain ⟨-, ⟨b1, b2, b3⟩, ⟨b4, b5⟩, ⟨b6, b7, b8⟩⟩ := this
        rw [g_up_n (by omega)] at b3 b5 b8
        exact ⟨c3, ⟨b1, b2, b3⟩, ⟨b4, b5⟩, ⟨b6, b7, b8⟩⟩
      · intro i hi
        rcases w12 i hi with ⟨b1, b2⟩ | ⟨v, b1, b2, ⟨sa2, b3⟩, b4, b5⟩
        · exact .inl ⟨b1, b2⟩
        · exact .inr ⟨v, b1, b2, ⟨sa2, (u1.st F b3).kS b5 k3⟩, cpB_stay b5 (by omega) b4, b5⟩
      · refine ⟨fun j hj => absurd hj (Nat.not_lt_zero j), fun j k hj => absurd hj (Nat.not_lt_zero j), fun i hi => ⟨fun z => ?_, fun j hj => absurd hj (Nat.not_lt_zero j)⟩⟩
        rcases w12 i hi with ⟨b1, b2⟩ | ⟨v, b1, b2, ⟨sa2, b3⟩, -⟩
        · rw [b2] at z; cases z
        · rw [b2] at z; cases z
          have := F.lt b3.1
          omega
      · rw [ra_at (j := a) rfl (by omega) (by decide) a1, gB_s, if_neg (by decide), mF0, gT2_s, if_pos rfl, iI_7, iI_add, hb7, gB_s, iI_n1, hcnt, gB_s]
  · refine ⟨1, 0, M.aM, M.iU, rd_pr w0 (gRd_t ((cCI_no F ⟨ha1, ha2⟩ q (by omega)).X) w3 F (fun _ _ _ => rfl) (by decide)) ⟨fun _ _ => rfl, rfl, rfl, rfl, rfl, rfl, rfl, rfl, rfl⟩, ?_⟩
    have mb : f_X6_in (iI a) (0 : Int32) (1 : Int32) = some (0 : Int32) := mBt_no (b := 0) (c := 1) (by omega) (by omega) (by omega) (by omega)
    rw [mb, gB_s, if_pos rfl, if_pos rfl, mF1, gT2_s, if_neg (by decide)]
end US
