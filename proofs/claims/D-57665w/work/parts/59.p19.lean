/-! THE WORLD: the class's heap beside the reference -/
def StE (h : gH) (st : Nat) (S : gS) : Prop := ∃ sa, StAt h st S sa
/-- cells that a state may hold -/
def kSt : gE → Prop
  | .inr o => o.1 = 0 ∨ o.1 = 1 ∨ o.1 = 7
  | .inl y => (y.1 = 0 ∧ y.2.1 ≤ 24) ∨ (y.1 = 1 ∧ y.2.1 ≤ 6) ∨ (y.1 = 2 ∧ y.2.1 = 6) ∨ (y.1 = 3 ∧ y.2.1 = 6)
theorem StAt.kS {h h' : gH} {st : Nat} {S : gS} {sa : Nat → Nat} (hS : StAt h st S sa) (hw : WF S) (k : ∀ b e, h b = some e → kSt e → h' b = some e) : StAt h' st S sa := by
  have hc := hw.1.2
  obtain ⟨h1, ⟨mc, h2⟩, ⟨f3, h3, h3'⟩, ⟨f4, h4⟩, ⟨f5, h5, h5'⟩, h6⟩ := hS
  refine ⟨k _ _ h1 (.inl rfl), ⟨mc, k _ _ h2 (.inr (.inr rfl))⟩, ⟨f3, k _ _ h3 (.inr (.inr (.inr ⟨rfl, rfl⟩))), h3'⟩, ⟨f4, k _ _ h4 (.inr (.inr (.inl ⟨rfl, rfl⟩)))⟩, ⟨f5, k _ _ h5 (.inl ⟨rfl, hc⟩), h5'⟩, fun s hs => ?_⟩
  obtain ⟨na, w1, ⟨f7, w2, w2'⟩, ⟨f8, w3, w3'⟩⟩ := h6 s hs
  have hl := (hw.2.2.2.2 s hs).1.2
  exact ⟨na, k _ _ w1 (.inr (.inl rfl)), ⟨f7, k _ _ w2 (.inl ⟨rfl, hc⟩), w2'⟩, ⟨f8, k _ _ w3 (.inr (.inl ⟨rfl, hl⟩)), w3'⟩⟩
theorem StE.kS {h h' : gH} {st : Nat} {S : gS} (hS : StE h st S) (hw : WF S) (k : ∀ b e, h b = some e → kSt e → h' b = some e) : StE h' st S := by
  obtain ⟨sa, hS⟩ := hS
  exact ⟨sa, hS.kS hw k⟩
theorem kS_up {h : gH} {q : Nat} {e0 y : gE} (hq : h q = some e0) (hk : ¬ kSt e0) : ∀ b e, h b = some e → kSt e → g_up h q y b = some e := fun b e hb he => by
  rw [g_up_n (fun w => by rw [w, hq] at hb; cases hb; exact hk he)]; exact hb
theorem kS_no {t N : Nat} {p : gPy} (ht : 4 ≤ t) : ¬ kSt (.inl (t, N, p)) := by
  rintro (⟨y, -⟩ | ⟨y, -⟩ | ⟨y, -⟩ | ⟨y, -⟩) <;> change t = _ at y <;> omega
theorem kS_no1 {N : Nat} {p : gPy} (hN : 7 ≤ N) : ¬ kSt (.inl (1, N, p)) := by
  rintro (⟨y, w⟩ | ⟨y, w⟩ | ⟨y, w⟩ | ⟨y, w⟩)
  · cases y
  · change N ≤ 6 at w; omega
  · cases y
  · cases y
theorem kS_no3 {N : Nat} {p : gPy} (hN : 7 ≤ N) : ¬ kSt (.inl (3, N, p)) := by
  rintro (⟨y, w⟩ | ⟨y, w⟩ | ⟨y, w⟩ | ⟨y, w⟩)
  · cases y
  · cases y
  · cases y
  · change N = 6 at w; omega
theorem kS_no0 {N : Nat} {p : gPy} (hN : 25 ≤ N) : ¬ kSt (.inl (0, N, p)) := by
  rintro (⟨y, w⟩ | ⟨y, w⟩ | ⟨y, w⟩ | ⟨y, w⟩)
  · change N ≤ 24 at w; omega
  · cases y
  · cases y
  · cases y
theorem kS_noO {k : Nat} {fs : List Value} (hk : k ≠ 0 ∧ k ≠ 1 ∧ k ≠ 7) : ¬ kSt (.inr (k, fs)) := by
  rintro (y | y | y) <;> change k = _ at y <;> omega
def rgn (o b : Nat) : Prop := o ≤ b ∧ b ≤ o + 10
theorem mH_ot {h : gH} {o b : Nat} {M : gMS} (hb : ¬ rgn o b) : M.H h o b = h b := by
  unfold rgn at hb
  unfold gMS.H mH
  rw [if_neg (by omega), if_neg (by omega), if_neg (by omega), if_neg (by omega), if_neg (by omega), if_neg (by omega), if_neg (by omega), if_neg (by omega), if_neg (by omega), if_neg (by omega), if_neg (by omega)]
section RG
variable {h : gH} {o : Nat} {M M' : gMS}
theorem rg_o (hM : mR h o = some M) : ∃ fs, h o = some (.inr (4, fs)) := by
  have := mR_i hM
  rw [this]
  exact ⟨_, mH_0⟩
theorem rg_i (hM : mR h o = some M) {i : Nat} (h1 : 1 ≤ i) (h2 : i ≤ 10) : ∃ t N y, h (o + i) = some (.inl (t, N, y)) ∧ (t = 0 ∨ t = 2) := by
  have hi := mR_i hM
  have e : h (o + i) = M.H h o (o + i) := congrFun hi _
  rw [e]
  have c : i = 1 ∨ i = 2 ∨ i = 3 ∨ i = 4 ∨ i = 5 ∨ i = 6 ∨ i = 7 ∨ i = 8 ∨ i = 9 ∨ i = 10 := by omega
  rcases c with q | q | q | q | q | q | q | q | q | q
  · subst q; exact ⟨_, _, _, mH_aaM, .inl rfl⟩
  · subst q; exact ⟨_, _, _, mH_aaS, .inr rfl⟩
  · subst q; exact ⟨_, _, _, mH_aaB, .inl rfl⟩
  · subst q; exact ⟨_, _, _, mH_aaR, .inl rfl⟩
  · subst q; exact ⟨_, _, _, mH_aaT, .inl rfl⟩
  · subst q; exact ⟨_, _, _, mH_aaC, .inl rfl⟩
  · subst q; exact ⟨_, _, _, mH_aaH, .inr rfl⟩
  · subst q; exact ⟨_, _, _, mH_aaE, .inl rfl⟩
  · subst q; exact ⟨_, _, _, mH_aaQ, .inl rfl⟩
  · subst q; exact ⟨_, _, _, mH_aaK, .inl rfl⟩
theorem rg_obj (hM : mR h o = some M) {b k : Nat} {fs : List Value} (hb : h b = some (.inr (k, fs))) (hk : k ≠ 4) : ¬ rgn o b := fun r => by
  unfold rgn at r
  by_cases q : b = o
  · obtain ⟨gs, e⟩ := rg_o hM
    rw [q, e] at hb; cases hb; exact hk rfl
  · obtain ⟨t, N, y, e, -⟩ := rg_i hM (i := b - o) (by omega) (by omega)
    rw [show o + (b - o) = b by omega, hb] at e; cases e
theorem rg_arr (hM : mR h o = some M) {b t N : Nat} {y : gPy} (hb : h b = some (.inl (t, N, y))) (ht : t ≠ 0 ∧ t ≠ 2) : ¬ rgn o b := fun r => by
  unfold rgn at r
  by_cases q : b = o
  · obtain ⟨gs, e⟩ := rg_o hM
    rw [q, e] at hb; cases hb
  · obtain ⟨t2, N2, y2, e, c⟩ := rg_i hM (i := b - o) (by omega) (by omega)
    rw [show o + (b - o) = b by omega, hb] at e
    cases e
    rcases c with c | c
    · exact ht.1 c
    · exact ht.2 c
theorem rg_nx (hM : mR h o = some M) {b : Nat} {y : Nat × vp_A} (hb : h (b + 1) = some (.inl y)) (h0 : ¬ rgn o b) : ¬ rgn o (b + 1) := fun r => by
  unfold rgn at r h0
  have q : b + 1 = o := by omega
  obtain ⟨gs, e⟩ := rg_o hM
  rw [q, e] at hb; cases hb
theorem StAt.H {st : Nat} {S : gS} {sa : Nat → Nat} (hM : mR h o = some M) (hS : StAt h st S sa) : StAt (M'.H h o) st S sa := by
  obtain ⟨h1, ⟨mc, h2⟩, ⟨f3, h3, h3'⟩, ⟨f4, h4⟩, ⟨f5, h5, h5'⟩, h6⟩ := hS
  have r0 := rg_obj hM h1 (by decide)
  have r1 := rg_obj hM h2 (by decide)
  have r2 := rg_arr hM h3 ⟨by decide, by decide⟩
  have r3 := rg_nx hM h4 r2
  have r4 := rg_nx hM h5 r3
  refine ⟨by rw [mH_ot r0]; exact h1, ⟨mc, by rw [mH_ot r1]; exact h2⟩, ⟨f3, by rw [mH_ot r2]; exact h3, h3'⟩, ⟨f4, by rw [mH_ot r3]; exact h4⟩, ⟨f5, by rw [mH_ot r4]; exact h5, h5'⟩, fun s hs => ?_⟩
  obtain ⟨na, w1, ⟨f7, w2, w2'⟩, ⟨f8, w3, w3'⟩⟩ := h6 s hs
  have s0 := rg_obj hM w1 (by decide)
  have s1 := rg_nx hM w2 s0
  have s2 := rg_arr hM w3 ⟨by decide, by decide⟩
  exact ⟨na, by rw [mH_ot s0]; exact w1, ⟨f7, by rw [mH_ot s1]; exact w2, w2'⟩, ⟨f8, by rw [mH_ot s2]; exact w3, w3'⟩⟩
theorem StE.H {st : Nat} {S : gS} (hM : mR h o = some M) (hS : StE h st S) : StE (M'.H h o) st S := by
  obtain ⟨sa, hS⟩ := hS
  exact ⟨sa, hS.H hM⟩
theorem mR_H : mR (M'.H h o) o = some M' := mR_s
theorem mR_st {h' : gH} (hM : mR h o = some M) (e : ∀ b, rgn o b → h' b = h b) : mR h' o = some M := by
  have hi := mR_i hM
  have : h' = M.H h' o := by
    funext b
    by_cases r : rgn o b
    · rw [e b r, hi]
      have e2 : ∀ (x y : gH), M.H x o b = M.H y o b := by
        intro x y
        unfold rgn at r
        have c : b = o ∨ b = o + 1 ∨ b = o + 2 ∨ b = o + 3 ∨ b = o + 4 ∨ b = o + 5 ∨ b = o + 6 ∨ b = o + 7 ∨ b = o + 8 ∨ b = o + 9 ∨ b = o + 10 := by omega
        unfold gMS.H
        rcases c with q | q | q | q | q | q | q | q | q | q | q <;> subst q
        · rw [mH_0, mH_0]
        · rw [mH_aaM, mH_aaM]
        · rw [mH_aaS, mH_aaS]
        · rw [mH_aaB, mH_aaB]
        · rw [mH_aaR, mH_aaR]
        · rw [mH_aaT, mH_aaT]
        · rw [mH_aaC, mH_aaC]
        · rw [mH_aaH, mH_aaH]
        · rw [mH_aaE, mH_aaE]
        · rw [mH_aaQ, mH_aaQ]
        · rw [mH_aaK, mH_aaK]
      exact e2 _ _
    · rw [mH_ot r]
  rw [this]; exact mR_s
end RG
-- the class object, the buffer, the output
def clO (cd st : Nat) (L ec ep wr : Int32) : gE := .inr (3, [.ref (cd + 1), .int L, .int ec, .int ep, .ref st, .ref (cd + 7), .ref (cd + 9), .ref (cd + 10), .ref (cd + 11), .int wr])
def bufZ (f g : Nat → Int32) (L : Nat) : Prop := ∀ i, i < L → ∃ z : Int, (0 ≤ z ∧ z < 256) ∧ g i = iI z ∧ f i = iI (if z < 128 then z else z - 256)
def gClw (cd st : Nat) (h : gH) (M : gMS) : Prop :=
  h cd = some (clO cd st M.iL M.iE M.iP M.iW) ∧
  (∃ (f : Nat → Int32) (L : Nat), h (cd + 1) = some (.inl (1, 600, .inl f)) ∧ L ≤ 600 ∧ M.iL = iI L ∧ bufZ f M.aB L) ∧
  (∃ f : Nat → Int32, h (cd + 10) = some (.inl (0, 120, .inl f))) ∧
  (∃ (f : Nat → Int32) (W : Nat), h (cd + 11) = some (.inl (1, 240, .inl f)) ∧ W ≤ 240 ∧ M.iW = iI W ∧ ∀ i, i < W → f i = M.aR i)
def gHi (h : gH) (m : Nat → Int32) (len : Nat) (hs : Nat → Nat) (HS : Nat → gS) : Prop := ∀ j, j < len → StE h (hs j) (HS j) ∧ BlkAt m (j + 1) (HS j) ∧ WF (HS j)
def gSv (h : gH) (m aS : Nat → Int32) (fv : Nat → Option Nat) (VS : Nat → gS) : Prop := ∀ i, i < 2 → (aS i = 0 ∧ fv i = none) ∨ ∃ v, aS i = 1 ∧ fv i = some v ∧ StE h v (VS i) ∧ BlkAt m (7 + i) (VS i) ∧ WF (VS i)
def gDi (st len : Nat) (hs : Nat → Nat) (fv : Nat → Option Nat) : Prop := (∀ j, j < len → hs j ≠ st) ∧ (∀ j k, j < len → k < len → hs j = hs k → j = k) ∧ ∀ i, i < 2 → fv i ≠ some st ∧ ∀ j, j < len → fv i ≠ some (hs j)
def gOut (o : Nat) (h : gH) : Prop := (∃ f : Nat → Int64, h (o + 11) = some (.inl (5, 1, .inr (.inl f)))) ∧ ∃ f : Nat → UInt64, h (o + 12) = some (.inl (6, 1, .inr (.inr (.inr (.inl f)))))
def gW (cd o : Nat) (h : gH) (n : Nat) (M : gMS) (st : Nat) (S : gS) (sa : Nat → Nat) (len hd : Nat) (hs : Nat → Nat) (HS : Nat → gS) (fv : Nat → Option Nat) (VS : Nat → gS) : Prop :=
  gFr h n ∧ cd + 12 ≤ o ∧ mR h o = some M ∧ gOut o h ∧ gClw cd st h M ∧ (StAt h st S sa ∧ WF S ∧ BlkAt M.aM 0 S) ∧ (DqAt h (cd + 7) hd len hs ∧ M.iU = iI len ∧ gHi h M.aM len hs HS) ∧ (h (cd + 9) = some (.inl (4, 2, .inr (.inr (.inr (.inr fv))))) ∧ gSv h M.aM M.aS fv VS) ∧ gDi st len hs fv
def gWx (cd o : Nat) (h : gH) (n : Nat) : Prop := ∃ M st S sa len hd hs HS fv VS, gW cd o h n M st S sa len hd hs HS fv VS
section WF1
variable {h : gH} {cd o n : Nat} {M M' : gMS} {st : Nat} {S : gS} {sa : Nat → Nat} {len hd : Nat} {hs : Nat → Nat} {HS : Nat → gS} {fv : Nat → Option Nat} {VS : Nat → gS}
theorem gClw.cur (c : gClw cd st h M) : CurAt h cd st := ⟨_, c.1, rfl⟩
theorem gClw.ob (c : gClw cd st h M) : ∃ fs, g_obj h cd 3 = some fs := ⟨_, g_obj_s c.1⟩
theorem gClw.keep {h' : gH} (c : gClw cd st h M) (e : ∀ b, b = cd ∨ b = cd + 1 ∨ b = cd + 10 ∨ b = cd + 11 → h' b = h b) (eL : M'.iL = M.iL) (eE : M'.iE = M.iE) (eP : M'.iP = M.iP) (eW : M'.iW = M.iW) (eB : M'.aB = M.aB) (eR : M'.aR = M.aR) : gClw cd st h' M' := by
  obtain ⟨c1, ⟨f, L, c2, c3, c4, c5⟩, ⟨g, c6⟩, ⟨k, W, c7, c8, c9, c10⟩⟩ := c
  refine ⟨?_, ⟨f, L, ?_, c3, by rw [eL]; exact c4, by rw [eB]; exact c5⟩, ⟨g, ?_⟩, ⟨k, W, ?_, c8, by rw [eW]; exact c9, by rw [eR]; exact c10⟩⟩
  · rw [e _ (.inl rfl), eL, eE, eP, eW]; exact c1
  · rw [e _ (.inr (.inl rfl))]; exact c2
  · rw [e _ (.inr (.inr (.inl rfl)))]; exact c6
  · rw [e _ (.inr (.inr (.inr rfl)))]; exact c7
theorem gOut.lt (hu : gOut o h) (F : gFr h n) : o + 12 < n := by
  obtain ⟨-, f, q⟩ := hu
  exact F.lt q
/-- nothing but new cells and the two out cells, and the reference's scratch -/
theorem gW.rd {h' : gH} {n' : Nat} (w : gW cd o h n M st S sa len hd hs HS fv VS) (u : gPas h n h' n' fun b => b = o + 11 ∨ b = o + 12) (hu : gOut o h') (e : (∀ j, j < 1908 → M'.aM j = M.aM j) ∧ M'.aS = M.aS ∧ M'.iU = M.iU ∧ M'.aB = M.aB ∧ M'.iL = M.iL ∧ M'.iE = M.iE ∧ M'.iP = M.iP ∧ M'.aR = M.aR ∧ M'.iW = M.iW) : gW cd o (M'.H h' o) n' M' st S sa len hd hs HS fv VS := by
  obtain ⟨F, w1, w2, w3, w4, ⟨w5, w6, w7⟩, ⟨w8, w9, w10⟩, ⟨w11, w12⟩, w13⟩ := w
  obtain ⟨e1, e2, e3, e4, e5, e6, e7, e8, e9⟩ := e
  have hlt := w3.lt F
  have same : ∀ b, b < n → b ≠ o + 11 → b ≠ o + 12 → h' b = h b := fun b q1 q2 q3 => u.2.2 b q1 fun w => w.elim q2 q3
  have hM' : mR h' o = some M := mR_st w2 fun b r => same b (by unfold rgn at r; omega) (by unfold rgn at r; omega) (by unfold rgn at r; omega)
  have fin : ∀ b, b < o → M'.H h' o b = h b := fun b q => by
    rw [mH_ot (by unfold rgn; omega)]; exact same b (by omega) (by omega) (by omega)
  obtain ⟨⟨f1, q1⟩, ⟨f2, q2⟩⟩ := w3
  have kk : ∀ b e, h b = some e → kSt e → h' b = some e := fun b e hb he => by
    rw [same b (F.lt hb) (fun z => by rw [z, q1] at hb; cases hb; exact kS_no (by decide) he) (fun z => by rw [z, q2] at hb; cases hb; exact kS_no (by decide) he)]
    exact hb
  have keep : ∀ st S sa, StAt h st S sa → WF S → StAt (M'.H h' o) st S sa := fun st S sa hS hw => (hS.kS hw kk).H hM'
  have keepE : ∀ st S, StE h st S → WF S → StE (M'.H h' o) st S := fun st S hS hw => (hS.kS hw kk).H hM'
  refine ⟨fun b q => ?_, w1, mR_s, ?_, w4.keep (fun b q => fin b (by omega)) e5 e6 e7 e9 e4 e8, ⟨keep _ _ _ w5 w6, w6, BlkAt_sh w6 (fun j hj => e1 _ (by omega)) w7⟩, ⟨w8.keep fun b e hb q => by rw [fin b (by omega)]; exact hb, by rw [e3]; exact w9, fun j hj => ?_⟩, ⟨by rw [fin _ (by omega)]; exact w11, fun i hi => ?_⟩, w13⟩
  · have := u.1
    rw [mH_ot (by unfold rgn; omega)]; exact u.2.1 b q
  · obtain ⟨⟨g1, r1⟩, ⟨g2, r2⟩⟩ := hu
    exact ⟨⟨g1, by rw [mH_ot (by unfold rgn; omega)]; exact r1⟩, ⟨g2, by rw [mH_ot (by unfold rgn; omega)]; exact r2⟩⟩
  · obtain ⟨a1, a2, a3⟩ := w10 j hj
    have := w8.2.1
    exact ⟨keepE _ _ a1 a3, BlkAt_sh a3 (fun k hk => e1 _ (by omega)) a2, a3⟩
  · rcases w12 i hi with ⟨a1, a2⟩ | ⟨v, a1, a2, a3, a4, a5⟩
    · exact .inl ⟨by rw [e2]; exact a1, a2⟩
    · exact .inr ⟨v, by rw [e2]; exact a1, a2, keepE _ _ a3 a5, BlkAt_sh a5 (fun k hk => e1 _ (by omega)) a4, a5⟩
end WF1
