/-! THE CHANGES, whole: copy, change, record -/
section MU
variable {h : gH} {cd o n : Nat} {M M' : gMS} {st : Nat} {S S' : gS} {sa : Nat → Nat} {len hd : Nat} {hs : Nat → Nat} {HS : Nat → gS} {fv : Nat → Option Nat} {VS : Nat → gS}
theorem DS_k (hS : StAt h st S sa) (hw : WF S) {b : Nat} (q : DS st b) : ∃ e, h b = some e ∧ kSt e := by
  obtain ⟨-, -, ⟨f3, h3, -⟩, ⟨g4, k4⟩, ⟨g5, k5, -⟩, -⟩ := hS
  rcases q with q | q | q
  · subst q; exact ⟨_, h3, .inr (.inr (.inr ⟨rfl, rfl⟩))⟩
  · subst q; exact ⟨_, k4, .inr (.inr (.inl ⟨rfl, rfl⟩))⟩
  · subst q; exact ⟨_, k5, .inl ⟨rfl, hw.1.2⟩⟩
theorem DS_not (hS : StAt h st S sa) (hw : WF S) {b : Nat} {e : gE} (hb : h b = some e) (hk : ¬ kSt e) : ¬ DS st b := fun q => by
  obtain ⟨e2, h2, k2⟩ := DS_k hS hw q
  rw [hb] at h2; cases h2; exact hk k2
theorem DS_rgn (hM : mR h o = some M) (hS : StAt h st S sa) {b : Nat} (q : DS st b) : ¬ rgn o b := by
  obtain ⟨-, h2, ⟨f3, h3, -⟩, ⟨g4, h4⟩, ⟨g5, h5, -⟩, -⟩ := hS
  have r2 := rg_arr hM h3 ⟨by decide, by decide⟩
  have r3 := rg_nx hM h4 r2
  have r4 := rg_nx hM h5 r3
  rcases q with q | q | q <;> subst q <;> assumption
theorem cRec {q : Nat} {v : Int32} {l : Nat → Nat} {fs gs : List Value} (hc : h cd = some (.inr (3, fs))) (hf : fs[5]? = some (.ref (cd + 7))) (d : DqAt h (cd + 7) hd len l) (hq : h q = some (.inr (0, gs))) (hq7 : q ≠ cd + 7 ∧ q ≠ cd + 8) : ∃ h' hd', f_X1_record cd q v h = some (v, h') ∧ DqAt h' (cd + 7) hd' (hL len) (hF len l q) ∧ ∀ b, b ≠ cd + 7 → b ≠ cd + 8 → h' b = h b := by
  have hl := d.2.1
  obtain ⟨gs2, g1⟩ := d_obj d
  by_cases e : len = 6
  · obtain ⟨h1, e1, d1, f1⟩ := dRf d (by omega)
    have c1 : h1 cd = some (.inr (3, fs)) := by rw [f1 _ (by omega) (by omega)]; exact hc
    obtain ⟨h2, e2, d2, f2⟩ := dAdd d1 (by omega) (q := q) (by rw [f1 _ hq7.1 hq7.2]; exact hq)
    obtain ⟨gs3, g2⟩ := d_obj d1
    refine ⟨h2, (hd + 1) % 17, ?_, ?_, fun b b1 b2 => by rw [f2 b b1 b2, f1 b b1 b2]⟩
    · unfold f_X1_record
      rw [fA_at hc hf, gB_s, g1, gB_s, dSize d, gB_s, if_pos (by rw [e]; rfl), gB_s, g1, gB_s, e1, gT2_s, fA_at c1 hf, gB_s, g2, gB_s, e2, gB_s]
    · have q1 : hL len = len - 1 + 1 := by unfold hL; rw [if_pos e]; omega
      have q2 : hF len l q = fun j => if j = len - 1 then q else (fun j => l (j + 1)) j := by
        funext j; unfold hF; rw [if_pos e, show len - 1 = 5 by omega]
      rw [q1, q2]; exact d2
  · obtain ⟨h2, e2, d2, f2⟩ := dAdd d (by omega) hq
    refine ⟨h2, hd, ?_, ?_, f2⟩
    · unfold f_X1_record
      rw [fA_at hc hf, gB_s, g1, gB_s, dSize d, gB_s, if_neg (by rw [iI_6, iI_eq (by omega) (by omega) (by omega) (by omega)]; omega), gB_s, g1, gB_s, e2, gB_s]
    · have q1 : hL len = len + 1 := by unfold hL; rw [if_neg e]
      have q2 : hF len l q = fun j => if j = len then q else l j := by
        funext j; unfold hF; rw [if_neg e]
      rw [q1, q2]; exact d2
/-- what a change of the current state leaves: it, the deque with the copy, all other states, all other cells -/
def gMut (cd o : Nat) (h : gH) (n st : Nat) (S S' : gS) (len : Nat) (hs : Nat → Nat) (h3 : gH) (n3 : Nat) : Prop :=
  (n + 5 ≤ n3 ∧ gFr h3 n3) ∧ gOut o h3 ∧ (∀ b, rgn o b ∨ b = cd ∨ b = cd + 1 ∨ b = cd + 9 ∨ b = cd + 10 ∨ b = cd + 11 → h3 b = h b) ∧ (∃ sa', StAt h3 st S' sa') ∧ (∃ hd', DqAt h3 (cd + 7) hd' (hL len) (hF len hs n)) ∧ StE h3 n S ∧ ∀ st2 S2, StE h st2 S2 → WF S2 → st2 ≠ st → StE h3 st2 S2
theorem gMut.mk {h1 h2 h3 : gH} {n2 hd' : Nat} {sa' : Nat → Nat} (w : gW cd o h n M st S sa len hd hs HS fv VS) (u1 : gPas h n h1 (n + 5) noD) (t1 : StAt h1 n S sa) (u2 : gPas h1 (n + 5) h2 n2 (DS st)) (t2 : StAt h2 st S' sa') (hw' : WF S') (d3 : DqAt h3 (cd + 7) hd' (hL len) (hF len hs n)) (f3 : ∀ b, b ≠ cd + 7 → b ≠ cd + 8 → h3 b = h2 b) (d2 : DqAt h2 (cd + 7) hd len hs) : gMut cd o h n st S S' len hs h3 n2 := by
  obtain ⟨F, w1, w2, w3, w4, ⟨w5, w6, w7⟩, ⟨w8, w9, w10⟩, ⟨w11, w12⟩, w13⟩ := w
  have hlt := w3.lt F
  have lst := F.lt w5.1
  have s1 := u1.st F w5
  have k3 : ∀ b e, h2 b = some e → kSt e → h3 b = some e := fun b e hb he => by
    obtain ⟨-, -, a3, f, a4, -⟩ := d2
    rw [f3 b (fun z => by rw [z, a3] at hb; cases hb; exact kS_noO ⟨by decide, by decide, by decide⟩ he) (fun z => by rw [z, a4] at hb; cases hb; exact kS_no3 (by decide) he)]
    exact hb
  have hDS : ∀ b, DS st b → ∃ e, h b = some e ∧ kSt e := fun b q => DS_k w5 w6 q
  have same : ∀ b, b < n → ¬ DS st b → b ≠ cd + 7 → b ≠ cd + 8 → h3 b = h b := fun b q1 q2 q3 q4 => by
    rw [f3 b q3 q4, u2.2.2 b (by omega) q2, u1.2.2 b q1 fun z => z]
  have sameK : ∀ b e, h b = some e → ¬ kSt e → b ≠ cd + 7 → b ≠ cd + 8 → h3 b = some e := fun b e hb hk q3 q4 => by
    rw [same b (F.lt hb) (DS_not w5 w6 hb hk) q3 q4]; exact hb
  obtain ⟨c1, ⟨cf, cL, c2, -⟩, ⟨cg, c6⟩, ⟨ck, cW, c7, -⟩⟩ := w4
  refine ⟨⟨u2.1, fun b hb => ?_⟩, ?_, fun b hb => ?_, ⟨sa', t2.kS hw' k3⟩, ⟨hd', d3⟩, ⟨sa, (u2.stD u1.2.1 s1 t1 (by omega)).kS w6 k3⟩, fun st2 S2 hT hw2 hne => ?_⟩
  · have := u2.1
    rw [f3 b (by omega) (by omega)]; exact u2.2.1 b hb
  · obtain ⟨⟨g1, r1⟩, ⟨g2, r2⟩⟩ := w3
    exact ⟨⟨g1, sameK _ _ r1 (kS_no (by decide)) (by omega) (by omega)⟩, ⟨g2, sameK _ _ r2 (kS_no (by decide)) (by omega) (by omega)⟩⟩
  · rcases hb with q | q | q | q | q | q
    · exact same b (by unfold rgn at q; omega) (fun z => DS_rgn w2 w5 z q) (by unfold rgn at q; omega) (by unfold rgn at q; omega)
    · subst q; rw [sameK _ _ c1 (kS_noO ⟨by decide, by decide, by decide⟩) (by omega) (by omega)]; exact c1.symm
    · subst q; rw [sameK _ _ c2 (kS_no1 (by decide)) (by omega) (by omega)]; exact c2.symm
    · subst q; rw [sameK _ _ w11 (kS_no (by decide)) (by omega) (by omega)]; exact w11.symm
    · subst q; rw [sameK _ _ c6 (kS_no0 (by decide)) (by omega) (by omega)]; exact c6.symm
    · subst q; rw [sameK _ _ c7 (kS_no1 (by decide)) (by omega) (by omega)]; exact c7.symm
  · obtain ⟨sa2, hT⟩ := hT
    exact ⟨sa2, (u2.stD u1.2.1 s1 (u1.st F hT) hne).kS hw2 k3⟩
theorem gMut.out {h3 h4 : gH} {n3 : Nat} {f : Nat → Int64} (g : gMut cd o h n st S S' len hs h3 n3) (hc : cd + 12 ≤ o) (hw : WF S) (hw' : WF S') (e : h4 = g_up h3 (o + 11) (.inl (5, 1, .inr (.inl f)))) : gMut cd o h n st S S' len hs h4 n3 := by
  obtain ⟨⟨g1, g2⟩, g3, g4, ⟨sa', g5⟩, ⟨hd', g6⟩, g7, g8⟩ := g
  have hlt := g3.lt g2
  have k : ∀ b e, h3 b = some e → kSt e → h4 b = some e := by
    obtain ⟨⟨f1, q1⟩, -⟩ := g3
    rw [e]; exact kS_up q1 (kS_no (by decide))
  refine ⟨⟨g1, fun b hb => by rw [e, g_up_n (by omega)]; exact g2 b hb⟩, ?_, fun b hb => ?_, ⟨sa', g5.kS hw' k⟩, ⟨hd', g6.keep fun b e' hb q => by rw [e, g_up_n (by omega)]; exact hb⟩, g7.kS hw k, fun st2 S2 hT hw2 hne => (g8 st2 S2 hT hw2 hne).kS hw2 k⟩
  · obtain ⟨-, f2, q2⟩ := g3
    rw [e]
    exact ⟨⟨f, g_up_s⟩, ⟨f2, by rw [g_up_n (by omega)]; exact q2⟩⟩
  · rw [e, g_up_n (by unfold rgn at hb; omega)]; exact g4 b hb
theorem hF_cases {α : Type} {len : Nat} {l : Nat → α} {x : α} {j : Nat} (hj : j < hL len) : (hF len l x j = x ∧ j + 1 = hL len) ∨ ∃ i, i < len ∧ hF len l x j = l i ∧ i + hL len = j + (if len = 6 then 7 else hL len) := by
  by_cases q : len = 6
  · have e1 : hL len = 6 := by unfold hL; rw [if_pos q]
    rw [e1] at hj ⊢
    rw [if_pos q]
    by_cases q2 : j = 5
    · exact .inl ⟨by unfold hF; rw [if_pos q, if_pos q2], by omega⟩
    · exact .inr ⟨j + 1, by omega, by unfold hF; rw [if_pos q, if_neg q2], by omega⟩
  · have e1 : hL len = len + 1 := by unfold hL; rw [if_neg q]
    rw [e1] at hj ⊢
    rw [if_neg q]
    by_cases q2 : j = len
    · exact .inl ⟨by unfold hF; rw [if_neg q, if_pos q2], by omega⟩
    · exact .inr ⟨j, by omega, by unfold hF; rw [if_neg q, if_neg q2], by omega⟩
/-- .. and the world behind it, when the reference has done the like -/
theorem gMut.W {h3 : gH} {n3 : Nat} (w : gW cd o h n M st S sa len hd hs HS fv VS) (g : gMut cd o h n st S S' len hs h3 n3) (hw' : WF S') (rB : BlkAt M'.aM 0 S') (rH : ∀ j, j < hL len → BlkAt M'.aM (j + 1) (hF len HS S j) ∧ WF (hF len HS S j)) (rV : ∀ j, 212 * 7 ≤ j → M'.aM j = M.aM j) (e : M'.aS = M.aS ∧ M'.iU = iI (hL len) ∧ M'.aB = M.aB ∧ M'.iL = M.iL ∧ M'.iE = M.iE ∧ M'.iP = M.iP ∧ M'.aR = M.aR ∧ M'.iW = M.iW) : gWx cd o (M'.H h3 o) n3 := by
  obtain ⟨F, w1, w2, w3, w4, ⟨w5, w6, w7⟩, ⟨w8, w9, w10⟩, ⟨w11, w12⟩, w13⟩ := w
  obtain ⟨⟨g1, g2⟩, g3, g4, ⟨sa', g5⟩, ⟨hd', g6⟩, g7, g8⟩ := g
  obtain ⟨e2, e3, e4, e5, e6, e7, e8, e9⟩ := e
  have hlt := w3.lt F
  have hl := w8.2.1
  have lst := F.lt w5.1
  have hM3 : mR h3 o = some M := mR_st w2 fun b r => g4 b (.inl r)
  have fin : ∀ b, b < o → M'.H h3 o b = h3 b := fun b q => mH_ot (by unfold rgn; omega)
  have lhs : ∀ j, j < len → hs j < n := fun j hj => by
    obtain ⟨⟨sa2, a1⟩, -⟩ := w10 j hj
    exact F.lt a1.1
  have lfv : ∀ i, i < 2 → ∀ v, fv i = some v → v < n := fun i hi v hv => by
    rcases w12 i hi with ⟨-, a2⟩ | ⟨v2, -, a2, ⟨sa2, a3⟩, -⟩
    · rw [a2] at hv; cases hv
    · rw [a2] at hv; cases hv; exact F.lt a3.1
  refine ⟨M', st, S', sa', hL len, hd', hF len hs n, hF len HS S, fv, VS, fun b q => ?_, w1, mR_s, ?_, w4.keep (fun b q => by rw [fin b (by omega)]; exact g4 b (by omega)) e5 e6 e7 e9 e4 e8, ⟨g5.H hM3, hw', rB⟩, ⟨g6.keep fun b e hb q => by rw [fin b (by omega)]; exact hb, e3, fun j hj => ⟨?_, rH j hj⟩⟩, ⟨by rw [fin _ (by omega), g4 _ (.inr (.inr (.inr (.inl rfl))))]; exact w11, fun i hi => ?_⟩, ?_⟩
  · rw [mH_ot (by unfold rgn; omega)]; exact g2 b q
  · obtain ⟨⟨f1, r1⟩, ⟨f2, r2⟩⟩ := g3
    exact ⟨⟨f1, by rw [mH_ot (by unfold rgn; omega)]; exact r1⟩, ⟨f2, by rw [mH_ot (by unfold rgn; omega)]; exact r2⟩⟩
  · have old : ∀ i, i < len → StE (M'.H h3 o) (hs i) (HS i) := fun i hi => (g8 _ _ (w10 i hi).1 (w10 i hi).2.2 (w13.1 i hi)).H hM3
    have new : StE (M'.H h3 o) n S := g7.H hM3
    by_cases q : len = 6
    · have e1 : hL len = 6 := by unfold hL; rw [if_pos q]
      rw [e1] at hj
      by_cases q2 : j = 5
      · have a1 : hF len hs n j = n := by unfold hF; rw [if_pos q, if_pos q2]
        have a2 : hF len HS S j = S := by unfold hF; rw [if_pos q, if_pos q2]
        rw [a1, a2]; exact new
      · have a1 : hF len hs n j = hs (j + 1) := by unfold hF; rw [if_pos q, if_neg q2]
        have a2 : hF len HS S j = HS (j + 1) := by unfold hF; rw [if_pos q, if_neg q2]
        rw [a1, a2]; exact old _ (by omega)
    · have e1 : hL len = len + 1 := by unfold hL; rw [if_neg q]
      rw [e1] at hj
      by_cases q2 : j = len
      · have a1 : hF len hs n j = n := by unfold hF; rw [if_neg q, if_pos q2]
        have a2 : hF len HS S j = S := by unfold hF; rw [if_neg q, if_pos q2]
        rw [a1, a2]; exact new
      · have a1 : hF len hs n j = hs j := by unfold hF; rw [if_neg q, if_neg q2]
        have a2 : hF len HS S j = HS j := by unfold hF; rw [if_neg q, if_neg q2]
        rw [a1, a2]; exact old _ (by omega)
  · rcases w12 i hi with ⟨a1, a2⟩ | ⟨v, a1, a2, a3, a4, a5⟩
    · exact .inl ⟨by rw [e2]; exact a1, a2⟩
    · refine .inr ⟨v, by rw [e2]; exact a1, a2, (g8 _ _ a3 a5 fun z => (w13.2.2 i hi).1 (by rw [a2, z])).H hM3, BlkAt_sh a5 (fun k hk => rV _ (by omega)) a4, a5⟩
  · have cases_ := fun j hj => hF_cases (l := hs) (x := n) (len := len) (j := j) hj
    refine ⟨fun j hj => ?_, fun j k hj hk e0 => ?_, fun i hi => ⟨(w13.2.2 i hi).1, fun j hj z => ?_⟩⟩
    · rcases cases_ j hj with ⟨a1, -⟩ | ⟨i, a1, a2, -⟩
      · rw [a1]; omega
      · rw [a2]; exact w13.1 i a1
    · rcases cases_ j hj with ⟨a1, a2⟩ | ⟨i, a1, a2, a3⟩
      · rcases cases_ k hk with ⟨b1, b2⟩ | ⟨i2, b1, b2, b3⟩
        · omega
        · rw [a1, b2] at e0
          have := lhs i2 b1
          omega
      · rcases cases_ k hk with ⟨b1, b2⟩ | ⟨i2, b1, b2, b3⟩
        · rw [a2, b1] at e0
          have := lhs i a1
          omega
        · rw [a2, b2] at e0
          have := w13.2.1 i i2 a1 b1 e0
          omega
    · rcases cases_ j hj with ⟨a1, -⟩ | ⟨i2, a1, a2, -⟩
      · rw [a1] at z
        have := lfv i hi _ z
        omega
      · rw [a2] at z
        exact (w13.2.2 i hi).2 i2 a1 z
end MU
