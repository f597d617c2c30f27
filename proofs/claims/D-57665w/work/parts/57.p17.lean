/-! THE CHANGES, checked: give, release, swap, divide, round robin, setValue (class) -/
abbrev gPy : Type := (Nat → Int32) ⊕ (Nat → Int64) ⊕ (Nat → UInt32) ⊕ (Nat → UInt64) ⊕ (Nat → Option Nat)
def DS (st b : Nat) : Prop := b = st + 2 ∨ b = st + 3 ∨ b = st + 4
section OP
variable {h : gH} {n cd st : Nat} {S : gS} {sa : Nat → Nat} {m : Nat → Int32}
theorem FrO.pas {h' : gH} (fr : FrO h h' st) (F : gFr h n) (hS : StAt h st S sa) : gPas h n h' n (DS st) := by
  obtain ⟨-, -, -, ⟨g4, k4⟩, ⟨g5, k5, -⟩, -⟩ := hS
  have u1 := F.lt k4
  have u2 := F.lt k5
  refine ⟨Nat.le_refl _, fun b q => ?_, fun b q1 q2 => fr b (fun w => q2 (.inr (.inl w))) (fun w => q2 (.inr (.inr w)))⟩
  rw [fr b (by omega) (by omega)]
  exact F b q
theorem DS_arr (hS : StAt h st S sa) {b : Nat} {o : Nat × List Value} (hb : h b = some (.inr o)) : ¬ DS st b := by
  obtain ⟨-, -, ⟨f3, h3, -⟩, ⟨g4, k4⟩, ⟨g5, k5, -⟩, -⟩ := hS
  rintro (q | q | q)
  · rw [q, h3] at hb; cases hb
  · rw [q, k4] at hb; cases hb
  · rw [q, k5] at hb; cases hb
theorem gPas.curD {h' : gH} {n' st2 : Nat} (u : gPas h n h' n' (DS st)) (F : gFr h n) (hS : StAt h st S sa) (hO : CurAt h cd st2) : CurAt h' cd st2 := by
  obtain ⟨fs, h1, h2⟩ := hO
  exact ⟨fs, u.ce F h1 (DS_arr hS h1), h2⟩
theorem gPas.stD {h' : gH} {n' st2 : Nat} {S2 : gS} {sa2 : Nat → Nat} (u : gPas h n h' n' (DS st)) (F : gFr h n) (hS : StAt h st S sa) (hT : StAt h st2 S2 sa2) (hne : st2 ≠ st) : StAt h' st2 S2 sa2 := by
  have hS0 := hS
  obtain ⟨-, -, ⟨k3, j3, -⟩, ⟨k4, j4⟩, ⟨k5, j5, -⟩, -⟩ := hS
  obtain ⟨h1, ⟨mc, h2⟩, ⟨f3, h3, h3'⟩, ⟨f4, h4⟩, ⟨f5, h5, h5'⟩, h6⟩ := hT
  have ob : ∀ (b : Nat) (o : Nat × List Value), h b = some (.inr o) → h' b = some (.inr o) := fun b o hb => u.ce F hb (DS_arr hS0 hb)
  have ta : ∀ (b t N : Nat) (y : gPy), h b = some (.inl (t, N, y)) → (t ≠ 0 ∧ t ≠ 2 ∧ t ≠ 3) → h' b = some (.inl (t, N, y)) := fun b t N y hb ht => u.ce F hb (by
    rintro (q | q | q)
    · rw [q, j3] at hb; cases hb; exact ht.2.2 rfl
    · rw [q, j4] at hb; cases hb; exact ht.2.1 rfl
    · rw [q, j5] at hb; cases hb; exact ht.1 rfl)
  refine ⟨ob _ _ h1, ⟨mc, ob _ _ h2⟩, ⟨f3, u.ce F h3 ?_, h3'⟩, ⟨f4, u.ce F h4 ?_⟩, ⟨f5, u.ce F h5 ?_, h5'⟩, fun s hs => ?_⟩
  · rintro (q | q | q)
    · omega
    · rw [q, j4] at h3; cases h3
    · rw [q, j5] at h3; cases h3
  · rintro (q | q | q)
    · rw [q, j3] at h4; cases h4
    · omega
    · rw [q, j5] at h4; cases h4
  · rintro (q | q | q)
    · rw [q, j3] at h5; cases h5
    · rw [q, j4] at h5; cases h5
    · omega
  · obtain ⟨na, w1, ⟨f7, w2, w2'⟩, ⟨f8, w3, w3'⟩⟩ := h6 s hs
    refine ⟨na, ob _ _ w1, ⟨f7, u.ce F w2 ?_, w2'⟩, ⟨f8, ta _ _ _ _ w3 ⟨by decide, by decide, by decide⟩, w3'⟩⟩
    rintro (q | q | q)
    · rw [q, j3] at w2; cases w2
    · rw [q, j4] at w2; cases w2
    · have q2 : sa2 s = st + 3 := by omega
      rw [q2, j4] at w1; cases w1
theorem cDoGive_ok {a b e : Nat} (F : gFr h n) (hO : CurAt h cd st) (hS : StAt h st S sa) (hw : WF S) (h1 : a < S.n) (h2 : b ≤ e) (h3 : e < S.c) : gRt (f_X1_doGive cd (iI a) (iI b) (iI e) h n) (iI (sWS (owG S a b (e + 1)) a a)) h n (DS st) fun h' _ => StAt h' st (owG S a b (e + 1)) sa := by
  have hn := hw.2.1
  have hc := hw.1
  have u := ar1_p F (iI a)
  have hO1 := u.cur F hO
  have hS1 := u.st F hS
  obtain ⟨fs, o1, o2⟩ := hO1
  obtain ⟨fs2, o3⟩ := a_obj hS1
  obtain ⟨h2', e2, u2⟩ := cGive' hS1 hw (o := a) (a := b) (e := e + 1) (by omega) (by omega)
  have e2' : f_X2_give st (iI a) (iI b) (iI e) (ar1 h n (iI a)) = some h2' := by
    rw [← e2]; congr 2; omega
  have hS2 : StAt h2' st (owG S a b (e + 1)) sa := OwUp.st (g := (owG S a b (e + 1)).ow) hS1 u2
  have hO2 := (u2.fr).cur hS1 ⟨fs, o1, o2⟩
  obtain ⟨gs, p1, p2⟩ := hO2
  obtain ⟨gs2, p3⟩ := a_obj hS2
  refine ⟨h2', n + 1, ?_, u.no.tr' (u2.fr.pas u.2.1 hS1), hS2⟩
  unfold f_X1_doGive
  rw [ar1_e, g_obj_s o1, gB_s, cS1a_ok (a := (a : Int)) ⟨fs, o1, o2⟩ hS1 hn.2 (by omega), gTX_l, g_obj_s o1, gB_s, cCC_ok ⟨fs, o1, o2⟩ hS1 hc.2 h2 h3, gTX_l, fA_at o1 o2, gB_s, o3, gB_s, e2', gB_s, fA_at p1 p2, gB_s, p3, gB_s, cWf hS2 (WF_owG hw ⟨by omega, by omega⟩) h1, gB_s]
theorem cDoGive_n1 {a b e : Int} (F : gFr h n) (hO : CurAt h cd st) (hS : StAt h st S sa) (hw : WF S) (ha : -2147483648 ≤ a ∧ a < 2147483648) (h1 : ¬ (0 ≤ a ∧ a < S.n)) : gThr (f_X1_doGive cd (iI a) (iI b) (iI e) h n) 12 h n := by
  have hn := hw.2.1
  have u := ar1_p F (iI a)
  have hO1 := u.cur F hO
  have hS1 := u.st F hS
  obtain ⟨fs, o1, o2⟩ := hO1
  unfold f_X1_doGive
  rw [ar1_e, g_obj_s o1, gB_s]
  exact ((cS1_no u.2.1 ar1_at rfl ⟨fs, o1, o2⟩ hS1 hn.2 ha h1).X).pre u
theorem cDoGive_n2 {a b e : Int} (F : gFr h n) (hO : CurAt h cd st) (hS : StAt h st S sa) (hw : WF S) (h1 : 0 ≤ a ∧ a < S.n) (hb : -2147483648 ≤ b ∧ b < 2147483648) (he : -2147483648 ≤ e ∧ e < 2147483648) (h2 : ¬ (0 ≤ b ∧ b ≤ e ∧ e < S.c)) : gThr (f_X1_doGive cd (iI a) (iI b) (iI e) h n) 11 h n := by
  have hn := hw.2.1
  have hc := hw.1
  have u := ar1_p F (iI a)
  have hO1 := u.cur F hO
  have hS1 := u.st F hS
  obtain ⟨fs, o1, o2⟩ := hO1
  unfold f_X1_doGive
  rw [ar1_e, g_obj_s o1, gB_s, cS1a_ok (a := (a : Int)) ⟨fs, o1, o2⟩ hS1 hn.2 h1, gTX_l, g_obj_s o1, gB_s]
  exact ((cCC_no u.2.1 ⟨fs, o1, o2⟩ hS1 hc.2 hb he h2).X).pre u
theorem cDoRel_ok {a e : Nat} (F : gFr h n) (hO : CurAt h cd st) (hS : StAt h st S sa) (hw : WF S) (h2 : a ≤ e) (h3 : e < S.c) : gRt (f_X1_doRelease cd (iI a) (iI e) h n) (iI (cntZ (owG S (-1) a (e + 1)) (-1))) h n (DS st) fun h' _ => StAt h' st (owG S (-1) a (e + 1)) sa := by
  have hn := hw.2.1
  have hc := hw.1
  have hO1 := hO
  obtain ⟨fs, o1, o2⟩ := hO1
  obtain ⟨fs2, o3⟩ := a_obj hS
  obtain ⟨h2', e2, u2⟩ := cRel hS hw (a := a) (e := e + 1) (by omega) (by omega)
  have e2' : f_X2_release st (iI a) (iI e) h = some h2' := by
    rw [← e2]; congr 2; omega
  have hS2 : StAt h2' st (owG S (-1) a (e + 1)) sa := OwUp.st (g := (owG S (-1) a (e + 1)).ow) hS u2
  have hO2 := (u2.fr).cur hS hO
  obtain ⟨gs, p1, p2⟩ := hO2
  obtain ⟨gs2, p3⟩ := a_obj hS2
  refine ⟨h2', n, ?_, u2.fr.pas F hS, hS2⟩
  unfold f_X1_doRelease
  rw [g_obj_s o1, gB_s, cCC_ok hO hS hc.2 h2 h3, gTX_l, fA_at o1 o2, gB_s, o3, gB_s, e2', gB_s, fA_at p1 p2, gB_s, p3, gB_s, iI_n1, cCnt hS2 (WF_owG hw ⟨by omega, by omega⟩) (by omega), gB_s]
theorem cDoRel_no {a e : Int} (F : gFr h n) (hO : CurAt h cd st) (hS : StAt h st S sa) (hw : WF S) (ha : -2147483648 ≤ a ∧ a < 2147483648) (he : -2147483648 ≤ e ∧ e < 2147483648) (h2 : ¬ (0 ≤ a ∧ a ≤ e ∧ e < S.c)) : gThr (f_X1_doRelease cd (iI a) (iI e) h n) 11 h n := by
  have hc := hw.1
  have hO1 := hO
  obtain ⟨fs, o1, o2⟩ := hO1
  unfold f_X1_doRelease
  rw [g_obj_s o1, gB_s]
  exact (cCC_no F hO hS hc.2 ha he h2).X
-- the exchange of two shares
def swI (S : gS) (a b : Nat) (i : Nat) (k : Nat) : Int := if k < i then (if S.ow k = a then (b : Int) else if S.ow k = b then (a : Int) else S.ow k) else S.ow k
def swS (S : gS) (a b : Nat) : gS := setOw S (swI S a b S.c)
theorem swI_s {a b i k : Nat} : swI S a b (i + 1) k = if k = i then (if S.ow i = a then (b : Int) else if S.ow i = b then (a : Int) else S.ow i) else swI S a b i k := by
  unfold swI
  by_cases q : k = i
  · subst q; rw [if_pos (by omega), if_pos rfl]
  · rw [if_neg q]
    by_cases q2 : k < i
    · rw [if_pos (by omega), if_pos q2]
    · rw [if_neg (by omega), if_neg q2]
theorem swS_wf (hw : WF S) {a b : Nat} (ha : a < S.n) (hb : b < S.n) : WF (swS S a b) := WF_ow hw fun k hk => by
  have := hw.2.2.1 k hk
  unfold swI
  split
  · split
    · omega
    · split <;> omega
  · omega
theorem swC_loop {a b nx : Nat} (hw : WF S) (ha : a < S.n) (hb : b < S.n) : ∀ (d i k : Nat) (h : gH), i + d = S.c → d < k → CurAt h cd st → StAt h st (setOw S (swI S a b i)) sa → ∃ h', gL2 (f_X1_doSwapShares_L30 cd (iI a) (iI b) nx) k (iI i) h = some (.inl (iI (envZ (swS S a b))), h', nx) ∧ StAt h' st (swS S a b) sa ∧ FrO h h' st := by
  have hc := hw.1
  have hn := hw.2.1
  intro d
  induction d with
  | zero =>
    intro i k h e hk hO hS
    obtain ⟨k, rfl⟩ : ∃ k', k = k' + 1 := ⟨k - 1, by omega⟩
    have e1 : i = S.c := by omega
    subst e1
    obtain ⟨fs, o1, o2⟩ := hO
    obtain ⟨fs2, o3⟩ := a_obj hS
    refine ⟨h, ?_, hS, FrO.rf⟩
    show f_X1_doSwapShares_L30 cd (iI a) (iI b) nx (gL2 (f_X1_doSwapShares_L30 cd (iI a) (iI b) nx) k) _ _ = _
    unfold f_X1_doSwapShares_L30
    rw [fA_at o1 o2, gB_s, o3, gB_s, a_cells hS, gB_s]
    show (if iI (S.c : Int) ≤ iI (S.c : Int) then _ else _) = _
    rw [if_pos (Int32.le_refl _), gB_s, o3, gB_s, cEnvN hS (swS_wf hw ha hb), gB_s]
    rfl
  | succ d ih =>
    intro i k h e hk hO hS
    obtain ⟨k, rfl⟩ : ∃ k', k = k' + 1 := ⟨k - 1, by omega⟩
    have hO0 := hO
    obtain ⟨fs, o1, o2⟩ := hO
    obtain ⟨fs2, o3⟩ := a_obj hS
    have hS0 := hS
    obtain ⟨-, -, -, -, ⟨f5, h5, h5'⟩, -⟩ := hS0
    have hk5 : f5 i = iI (S.ow i) := by
      rw [h5' i (by show i < S.c; omega)]
      show iI (swI S a b i i) = _
      unfold swI; rw [if_neg (by omega)]
    have hnext : StAt (g_up h (st + 4) (.inl (0, S.c, .inl (upd f5 i (iI (swI S a b (i + 1) i)))))) st (setOw S (swI S a b (i + 1))) sa := StAt_ow (S := setOw S (swI S a b i)) hS fun k hk => by
      have hk : k < S.c := hk
      by_cases q : k = i
      · subst q; unfold upd; rw [if_pos rfl]
      · unfold upd
        rw [if_neg q, h5' k hk, swI_s, if_neg q]
        rfl
    have fr : FrO h (g_up h (st + 4) (.inl (0, S.c, .inl (upd f5 i (iI (swI S a b (i + 1) i)))))) st := fun b _ q => g_up_n q
    obtain ⟨h', e2, e3, e4⟩ := ih (i + 1) k _ (by omega) (by omega) (fr.cur hS hO0) hnext
    refine ⟨h', ?_, e3, fr.trans e4⟩
    show f_X1_doSwapShares_L30 cd (iI a) (iI b) nx (gL2 (f_X1_doSwapShares_L30 cd (iI a) (iI b) nx) k) _ _ = _
    generalize gL2 (f_X1_doSwapShares_L30 cd (iI a) (iI b) nx) k = r at e2 ⊢
    unfold f_X1_doSwapShares_L30
    rw [Int.natCast_add, Int.natCast_one] at e2
    have hb2 := hw.2.2.1 i (by omega)
    rw [fA_at o1 o2, gB_s, o3, gB_s, a_cells hS, gB_s]
    show (if iI (S.c : Int) ≤ iI (i : Int) then _ else _) = _
    rw [if_neg (by rw [iI_le (by omega) (by omega) (by omega) (by omega)]; omega), gB_s, a_ow hS, gB_s, aI_at h5 rfl (by show i < S.c; omega) (by show ((S.c : Nat) : Int) < _; omega) hk5, gB_s, gB_s, a_ow hS, gB_s]
    have hsw := swI_s (S := S) (a := a) (b := b) (i := i) (k := i)
    rw [if_pos rfl] at hsw
    by_cases q1 : S.ow i = a
    · rw [if_pos (by rw [q1]), sI_at (j := i) h5 rfl (by show i < S.c; omega) (by show ((S.c : Nat) : Int) < _; omega), gB_s, iI_1, iI_add]
      rw [hsw, if_pos q1] at e2
      exact e2
    · rw [if_neg (by rw [iI_eq (by omega) (by omega) (by omega) (by omega)]; exact q1)]
      by_cases q2 : S.ow i = b
      · rw [if_pos (by rw [q2]), sI_at (j := i) h5 rfl (by show i < S.c; omega) (by show ((S.c : Nat) : Int) < _; omega), gB_s, iI_1, iI_add]
        rw [hsw, if_neg q1, if_pos q2] at e2
        exact e2
      · rw [if_neg (by rw [iI_eq (by omega) (by omega) (by omega) (by omega)]; exact q2), sI_at (j := i) h5 rfl (by show i < S.c; omega) (by show ((S.c : Nat) : Int) < _; omega), gB_s, iI_1, iI_add]
        rw [hsw, if_neg q1, if_neg q2] at e2
        exact e2
theorem swI_0 {a b : Nat} : setOw S (swI S a b 0) = S := by
  have : swI S a b 0 = S.ow := by
    funext k; unfold swI; rw [if_neg (by omega)]
  rw [this]; rfl
theorem cDoSw_ok {a b : Nat} (F : gFr h n) (hO : CurAt h cd st) (hS : StAt h st S sa) (hw : WF S) (h1 : a < S.n) (h2 : b < S.n) (h3 : a ≠ b) : gRt (f_X1_doSwapShares cd (iI a) (iI b) h n) (iI (envZ (swS S a b))) h n (DS st) fun h' _ => StAt h' st (swS S a b) sa := by
  have hn := hw.2.1
  have hc := hw.1
  have u := ar2_p F (iI a) (iI b)
  have hO1 := u.cur F hO
  have hS1 := u.st F hS
  obtain ⟨fs, o1, o2⟩ := hO1
  obtain ⟨h', e1, e2, e3⟩ := swC_loop (nx := n + 1) hw h1 h2 S.c 0 gN _ (by omega) (by unfold gN; omega) ⟨fs, o1, o2⟩ (by rw [swI_0]; exact hS1)
  refine ⟨h', n + 1, ?_, u.no.tr' (e3.pas u.2.1 hS1), e2⟩
  unfold f_X1_doSwapShares
  rw [ar2_e, g_obj_s o1, gB_s, cS2a_ok (a := (a : Int)) (b := (b : Int)) ⟨fs, o1, o2⟩ hS1 hn.2 (by omega) (by omega), gTX_l, if_neg (by rw [iI_eq (by omega) (by omega) (by omega) (by omega)]; omega)]
  unfold f_X1_doSwapShares_J25
  rw [cCt_ok, gTX_l]
  exact e1
theorem cDoSw_n1 {a b : Int} (F : gFr h n) (hO : CurAt h cd st) (hS : StAt h st S sa) (hw : WF S) (ha : -2147483648 ≤ a ∧ a < 2147483648) (hb : -2147483648 ≤ b ∧ b < 2147483648) (hx : ¬ ((0 ≤ a ∧ a < S.n) ∧ 0 ≤ b ∧ b < S.n)) : gThr (f_X1_doSwapShares cd (iI a) (iI b) h n) 12 h n := by
  have hn := hw.2.1
  have u := ar2_p F (iI a) (iI b)
  have hO1 := u.cur F hO
  have hS1 := u.st F hS
  obtain ⟨fs, o1, o2⟩ := hO1
  unfold f_X1_doSwapShares
  rw [ar2_e, g_obj_s o1, gB_s]
  exact ((cS2_no u.2.1 ar2_at rfl rfl ⟨fs, o1, o2⟩ hS1 hn.2 ha hb hx).X).pre u
theorem cDoSw_n2 {a : Int} (F : gFr h n) (hO : CurAt h cd st) (hS : StAt h st S sa) (hw : WF S) (hx : 0 ≤ a ∧ a < S.n) : gThr (f_X1_doSwapShares cd (iI a) (iI a) h n) 10 h n := by
  have hn := hw.2.1
  have u := ar2_p F (iI a) (iI a)
  have hO1 := u.cur F hO
  have hS1 := u.st F hS
  obtain ⟨fs, o1, o2⟩ := hO1
  unfold f_X1_doSwapShares
  rw [ar2_e, g_obj_s o1, gB_s, cS2a_ok (a := (a : Int)) (b := (a : Int)) ⟨fs, o1, o2⟩ hS1 hn.2 hx hx, gTX_l, if_pos rfl]
  unfold f_X1_doSwapShares_J25
  exact ((cCt_no u.2.1).X).pre u
theorem cDoDv_ok {a b : Nat} (F : gFr h n) (hO : CurAt h cd st) (hS : StAt h st S sa) (hw : WF S) (h1 : a < S.n) (h2 : b < S.n) (h3 : a ≠ b) : gRt (f_X1_doDivide cd (iI a) (iI b) h n) (iI ((ctZ S a S.c).1 : Nat)) h n (DS st) fun h' _ => StAt h' st (dvZ S a b) sa := by
  have hn := hw.2.1
  have hc := hw.1
  have u := ar2_p F (iI a) (iI b)
  have hO1 := u.cur F hO
  have hS1 := u.st F hS
  obtain ⟨fs, o1, o2⟩ := hO1
  obtain ⟨fs2, o3⟩ := a_obj hS1
  obtain ⟨h', e1, e2⟩ := cDv hS1 hw h1 h2
  refine ⟨h', n + 1, ?_, u.no.tr' (e2.fr.pas u.2.1 hS1), OwUp.st (S := S) (g := (dvZ S a b).ow) hS1 e2⟩
  unfold f_X1_doDivide
  rw [ar2_e, g_obj_s o1, gB_s, cS2a_ok (a := (a : Int)) (b := (b : Int)) ⟨fs, o1, o2⟩ hS1 hn.2 (by omega) (by omega), gTX_l, if_neg (by rw [iI_eq (by omega) (by omega) (by omega) (by omega)]; omega), cCt_ok, gTX_l, fA_at o1 o2, gB_s, o3, gB_s, e1, gT2_s]
theorem cDoDv_n1 {a b : Int} (F : gFr h n) (hO : CurAt h cd st) (hS : StAt h st S sa) (hw : WF S) (ha : -2147483648 ≤ a ∧ a < 2147483648) (hb : -2147483648 ≤ b ∧ b < 2147483648) (hx : ¬ ((0 ≤ a ∧ a < S.n) ∧ 0 ≤ b ∧ b < S.n)) : gThr (f_X1_doDivide cd (iI a) (iI b) h n) 12 h n := by
  have hn := hw.2.1
  have u := ar2_p F (iI a) (iI b)
  have hO1 := u.cur F hO
  have hS1 := u.st F hS
  obtain ⟨fs, o1, o2⟩ := hO1
  unfold f_X1_doDivide
  rw [ar2_e, g_obj_s o1, gB_s]
  exact ((cS2_no u.2.1 ar2_at rfl rfl ⟨fs, o1, o2⟩ hS1 hn.2 ha hb hx).X).pre u
theorem cDoDv_n2 {a : Int} (F : gFr h n) (hO : CurAt h cd st) (hS : StAt h st S sa) (hw : WF S) (hx : 0 ≤ a ∧ a < S.n) : gThr (f_X1_doDivide cd (iI a) (iI a) h n) 10 h n := by
  have hn := hw.2.1
  have u := ar2_p F (iI a) (iI a)
  have hO1 := u.cur F hO
  have hS1 := u.st F hS
  obtain ⟨fs, o1, o2⟩ := hO1
  unfold f_X1_doDivide
  rw [ar2_e, g_obj_s o1, gB_s, cS2a_ok (a := (a : Int)) (b := (a : Int)) ⟨fs, o1, o2⟩ hS1 hn.2 hx hx, gTX_l, if_pos rfl]
  exact ((cCt_no u.2.1).X).pre u
theorem cDoRr_ok {a : Nat} (F : gFr h n) (hO : CurAt h cd st) (hS : StAt h st S sa) (hw : WF S) (h1 : a < S.n) : gRt (f_X1_doRoundRobin cd (iI a) h n) (iI (rrZ 24 S a 0).2) h n (DS st) fun h' _ => StAt h' st (rrZ 24 S a 0).1 sa := by
  have hn := hw.2.1
  have hc := hw.1
  have u := ar1_p F (iI a)
  have hO1 := u.cur F hO
  have hS1 := u.st F hS
  obtain ⟨fs, o1, o2⟩ := hO1
  obtain ⟨fs2, o3⟩ := a_obj hS1
  obtain ⟨h', e1, e2⟩ := cRr hS1 hw h1
  obtain ⟨g, eg⟩ := rrZ_ow 24 S a 0
  refine ⟨h', n + 1, ?_, u.no.tr' (e2.fr.pas u.2.1 hS1), ?_⟩
  · unfold f_X1_doRoundRobin
    rw [ar1_e, g_obj_s o1, gB_s, cS1a_ok (a := (a : Int)) ⟨fs, o1, o2⟩ hS1 hn.2 (by omega), gTX_l, fA_at o1 o2, gB_s, o3, gB_s, e1, gT2_s]
  · rw [eg] at e2 ⊢
    exact OwUp.st hS1 e2
theorem cDoRr_no {a : Int} (F : gFr h n) (hO : CurAt h cd st) (hS : StAt h st S sa) (hw : WF S) (ha : -2147483648 ≤ a ∧ a < 2147483648) (h1 : ¬ (0 ≤ a ∧ a < S.n)) : gThr (f_X1_doRoundRobin cd (iI a) h n) 12 h n := by
  have hn := hw.2.1
  have u := ar1_p F (iI a)
  have hO1 := u.cur F hO
  have hS1 := u.st F hS
  obtain ⟨fs, o1, o2⟩ := hO1
  unfold f_X1_doRoundRobin
  rw [ar1_e, g_obj_s o1, gB_s]
  exact ((cS1_no u.2.1 ar1_at rfl ⟨fs, o1, o2⟩ hS1 hn.2 ha h1).X).pre u
-- a value is set: a new sibling
theorem cSibNew {z a c k : Nat} {vv : Nat → Int} {nm : List Int} {x : Int} (F : gFr h (z + 1)) (hz : h z = some (.inr (1, [.null, .null]))) (hb : SibAt h a c vv nm) (hc : c ≤ 24) (hk : k < c) : ∃ h', f_X5_init_2 z a (iI k) (iI x) h (z + 1) = some (h', z + 2) ∧ SibAt h' z c (fun j => if j = k then x else vv j) nm ∧ gFr h' (z + 2) ∧ ∀ b, b < z → h' b = h b := by
  obtain ⟨na, w1, ⟨f7, w2, w2'⟩, ⟨f8, w3, w3'⟩⟩ := hb
  have l2 := F.lt w2
  have l3 := F.lt w3
  have l1 : a + 1 ≠ z := fun q => by rw [q, hz] at w2; cases w2
  have l4 : na ≠ z := fun q => by rw [q, hz] at w3; cases w3
  unfold f_X5_init_2 f_X5_init
  rw [fA_at w1 rfl, gB_s, fA_at w1 rfl, gB_s, pf_at hz (by show _ < 2; decide), gB_s]
  generalize e1 : g_up h z (.inr (1, [Value.null, Value.null].set 0 (.ref na))) = h1
  have q0 : h1 z = some (.inr (1, [.ref na, .null])) := by rw [← e1, g_up_s]; rfl
  have q1 : h1 (a + 1) = some (.inl (0, c, .inl f7)) := by rw [← e1, g_up_n l1]; exact w2
  rw [len_at q1, gB_s, nI_at (by omega) (by show ((c : Nat) : Int) ≤ _; omega) (by decide), gT3_s]
  show ∃ h', gT2 (Option.bind (g_pf (g_up h1 (z + 1) (.inl (0, c, .inl fun _ => 0))) z 1 1 (.ref (z + 1))) _) _ = _ ∧ _
  generalize e2 : g_up h1 (z + 1) (.inl (0, c, .inl fun _ => 0)) = h2
  have r0 : h2 z = some (.inr (1, [.ref na, .null])) := by rw [← e2, g_up_n (by omega)]; exact q0
  rw [pf_at r0 (by show _ < 2; decide), gB_s]
  generalize e3 : g_up h2 z (.inr (1, [Value.ref na, Value.null].set 1 (.ref (z + 1)))) = h3
  have s0 : h3 z = some (.inr (1, [.ref na, .ref (z + 1)])) := by rw [← e3, g_up_s]; rfl
  have s1 : h3 (a + 1) = some (.inl (0, c, .inl f7)) := by rw [← e3, g_up_n l1, ← e2, g_up_n (by omega)]; exact q1
  have s2 : h3 (z + 1) = some (.inl (0, c, .inl fun _ => 0)) := by rw [← e3, g_up_n (by omega), ← e2, g_up_s]
  have s3 : h3 na = some (.inl (1, nm.length, .inl f8)) := by rw [← e3, g_up_n l4, ← e2, g_up_n (by omega), ← e1, g_up_n l4]; exact w3
  have hcp := cpy_at (c := c) s1 s2 (Nat.le_refl _) (Nat.le_refl _) (by omega)
  have hl : g_len h3 (a + 1) 0 = some (iI c) := len_at s1
  rw [fA_at s0 rfl, gB_s, hl, gB_s, hcp, gB_s, gT2_s]
  generalize e4 : g_up h3 (z + 1) (.inl (0, c, .inl (va_cpy f7 (fun _ => 0) 0 0 c))) = h4
  have t0 : h4 z = some (.inr (1, [.ref na, .ref (z + 1)])) := by rw [← e4, g_up_n (by omega)]; exact s0
  have t2 : h4 (z + 1) = some (.inl (0, c, .inl (va_cpy f7 (fun _ => 0) 0 0 c))) := by rw [← e4, g_up_s]
  rw [fA_at t0 rfl, gB_s, sI_at (j := k) t2 rfl hk (by omega), gB_s]
  have hot : ∀ b, b ≠ z → b ≠ z + 1 → h4 b = h b := fun b b1 b2 => by
    rw [← e4, g_up_n b2, ← e3, g_up_n b1, ← e2, g_up_n b2, ← e1, g_up_n b1]
  refine ⟨_, rfl, ⟨na, by rw [g_up_n (by omega)]; exact t0, ⟨_, g_up_s, fun j hj => ?_⟩, f8, ?_, w3'⟩, fun b hb => ?_, fun b hb => ?_⟩
  · show (if j = k then iI x else if 0 ≤ j ∧ j < 0 + c then f7 (0 + (j - 0)) else 0) = iI (if j = k then x else vv j)
    by_cases q : j = k
    · rw [if_pos q, if_pos q]
    · rw [if_neg q, if_neg q, if_pos (by omega), ← w2' j hj]
      congr 1; omega
  · rw [g_up_n (by omega), hot _ l4 (by omega)]; exact w3
  · rw [g_up_n (by omega), hot _ (by omega) (by omega)]; exact F b (by omega)
  · rw [g_up_n (by omega), hot _ (by omega) (by omega)]
theorem a_ci {s N : Nat} (hs : s < N) (hN : N ≤ 100) : f_J18_checkIndex (iI s) (iI N) h = some (iI s) := by
  unfold f_J18_checkIndex f_J14_checkIndex
  rw [if_neg (by rw [iI_0, iI_lt (by omega) (by omega) (by omega) (by omega)]; omega), if_pos (by rw [iI_lt (by omega) (by omega) (by omega) (by omega)]; omega)]
  rfl
def valV (S : gS) (s : Nat) (vv : Nat → Int) : gS := (S.c, S.n, S.ow, fun a => if a = s then vv else S.v a, S.nm)
def valS (S : gS) (s k : Nat) (x : Int) : gS := valV S s (fun j => if j = k then x else S.v s j)
theorem valS_wf (hw : WF S) {s k : Nat} {x : Int} (hx : 0 ≤ x ∧ x ≤ 9) : WF (valS S s k x) := by
  refine ⟨hw.1, hw.2.1, hw.2.2.1, fun a ha j hj => ?_, hw.2.2.2.2⟩
  show 0 ≤ (if a = s then fun j => if j = k then x else S.v s j else S.v a) j ∧ (if a = s then fun j => if j = k then x else S.v s j else S.v a) j ≤ 9
  by_cases q : a = s
  · subst q
    rw [if_pos rfl]
    show 0 ≤ (if j = k then x else S.v a j) ∧ (if j = k then x else S.v a j) ≤ 9
    have := hw.2.2.2.1 a ha j hj
    split <;> omega
  · rw [if_neg q]; exact hw.2.2.2.1 a ha j hj
theorem cSet {q s : Nat} {vv : Nat → Int} (hS : StAt h st S sa) (hn : S.n ≤ 6) (hs : s < S.n) (hq : SibAt h q S.c vv (S.nm s)) : ∃ h', f_J2_set (st + 1) (iI s) q h = some (sa s, h') ∧ StAt h' st (valV S s vv) (fun a => if a = s then q else sa a) ∧ ∀ b, b ≠ st + 2 → h' b = h b := by
  have hS0 := hS
  obtain ⟨h1, ⟨mc, h2⟩, ⟨f3, h3, h3'⟩, ⟨f4, h4⟩, ⟨f5, h5, h5'⟩, h6⟩ := hS0
  obtain ⟨na, w1, ⟨f7, w2, w2'⟩, ⟨f8, w3, w3'⟩⟩ := hq
  unfold f_J2_set f_J2_elementData
  rw [fI_at h2 rfl, gB_s, a_ci hs (by omega), gB_s, g_obj_s h2, gB_s, fA_at h2 rfl, gB_s, aA_at h3 rfl (by omega) (by decide) (h3' s hs), gB_s, gB_s, gB_s, g_obj_s w1, gB_s, sQ_at (j := s) h3 rfl (by omega) (by decide), gB_s]
  have nob : ∀ (b : Nat) (o : Nat × List Value), h b = some (.inr o) → b ≠ st + 2 := fun b o hb e => by rw [e, h3] at hb; cases hb
  have n0 : ∀ (b N : Nat) (y : gPy), h b = some (.inl (0, N, y)) → b ≠ st + 2 := fun b N y hb e => by rw [e, h3] at hb; cases hb
  have n1 : ∀ (b N : Nat) (y : gPy), h b = some (.inl (1, N, y)) → b ≠ st + 2 := fun b N y hb e => by rw [e, h3] at hb; cases hb
  have ks : ∀ a c vv nm, SibAt h a c vv nm → SibAt (g_up h (st + 2) (.inl (3, 6, .inr (.inr (.inr (.inr (va_up f3 s (some q)))))))) a c vv nm := by
    intro a c vv nm hb
    obtain ⟨na, w1, ⟨f7, w2, w2'⟩, ⟨f8, w3, w3'⟩⟩ := hb
    exact ⟨na, by rw [g_up_n (nob _ _ w1)]; exact w1, ⟨f7, by rw [g_up_n (n0 _ _ _ w2)]; exact w2, w2'⟩, ⟨f8, by rw [g_up_n (n1 _ _ _ w3)]; exact w3, w3'⟩⟩
  refine ⟨_, rfl, ⟨by rw [g_up_n (by omega)]; exact h1, ⟨mc, by rw [g_up_n (by omega)]; exact h2⟩, ⟨_, g_up_s, fun a ha => ?_⟩, ⟨f4, by rw [g_up_n (by omega)]; exact h4⟩, ⟨f5, by rw [g_up_n (by omega)]; exact h5, h5'⟩, fun a ha => ?_⟩, fun b hb => g_up_n hb⟩
  · have ha : a < S.n := ha
    show (if a = s then some q else f3 a) = some (if a = s then q else sa a)
    split
    · rfl
    · exact h3' a ha
  · have ha : a < S.n := ha
    show SibAt _ (if a = s then q else sa a) S.c (if a = s then vv else S.v a) (S.nm a)
    by_cases e : a = s
    · subst e
      rw [if_pos rfl, if_pos rfl]
      exact ks _ _ _ _ ⟨na, w1, ⟨f7, w2, w2'⟩, ⟨f8, w3, w3'⟩⟩
    · rw [if_neg e, if_neg e]
      exact ks _ _ _ _ (h6 a ha)
theorem cDoSv_ok {s k : Nat} {x : Int} (F : gFr h n) (hO : CurAt h cd st) (hS : StAt h st S sa) (hw : WF S) (h1 : s < S.n) (h2 : k < S.c) (h3 : 0 ≤ x ∧ x ≤ 9) : gRt (f_X1_doSetValue cd (iI s) (iI k) (iI x) h n) (iI (S.v s k)) h n (DS st) fun h' _ => ∃ sa', StAt h' st (valS S s k x) sa' := by
  have hn := hw.2.1
  have hc := hw.1
  have u := ar1_p F (iI s)
  have hO0 := hO
  obtain ⟨fs0, o0, -⟩ := hO0
  have hO1 := u.cur F hO
  have hS1 := u.st F hS
  obtain ⟨fs, o1, o2⟩ := hO1
  obtain ⟨fs2, o3⟩ := a_obj hS1
  have u2 := gPas.new (D := noD) (e := .inr (1, [.null, .null])) u.2.1
  have hS2 := u2.st u.2.1 hS1
  obtain ⟨h3', e3, e4, e5, e6⟩ := cSibNew (x := x) u2.2.1 g_up_s (hS2.2.2.2.2.2 s h1) hc.2 h2
  have u3 : gPas h n h3' (n + 1 + 2) noD := by
    refine ⟨by omega, e5, fun b hb _ => ?_⟩
    rw [e6 b (by omega), g_up_n (by omega)]
    exact u.2.2 b hb fun q => q
  have hS3 := u3.st F hS
  obtain ⟨h4, e7, e8, e9⟩ := cSet hS3 hn.2 h1 e4
  obtain ⟨fs3, o4⟩ := a_alo hS3
  have l2 : st + 2 < n := by
    obtain ⟨-, -, ⟨f, q, -⟩, -⟩ := hS
    exact F.lt q
  have u4 : gPas h n h4 (n + 1 + 2) (DS st) := u3.no.tr' ⟨Nat.le_refl _, fun b hb => by rw [e9 b (by omega)]; exact e5 b hb, fun b _ hD => e9 b fun q => hD (.inl q)⟩
  have hsib := hS3.2.2.2.2.2 s h1
  obtain ⟨na, w1, ⟨f7, w2, w2'⟩, -⟩ := hsib
  have v1 : h4 (sa s) = some (.inr (1, [.ref na, .ref (sa s + 1)])) := by
    rw [e9 _ (fun q => by
      obtain ⟨-, -, ⟨f, q3, -⟩, -⟩ := hS3
      rw [q, q3] at w1; cases w1)]
    exact w1
  have v2 : h4 (sa s + 1) = some (.inl (0, S.c, .inl f7)) := by
    rw [e9 _ (fun q => by
      obtain ⟨-, -, ⟨f, q3, -⟩, -⟩ := hS3
      rw [q, q3] at w2; cases w2)]
    exact w2
  refine ⟨h4, n + 1 + 2, ?_, u4, _, e8⟩
  unfold f_X1_doSetValue
  rw [g_obj_s o0, gB_s, cSA_ok F hO hS hn.2 h1, gTX_l, fA_at o1 o2, gB_s, o3, gB_s, a_cells hS1, gB_s, cCI_ok (by omega) (by omega), gTX_l, iI_9, cBt_ok0 (by omega) (by omega) (by omega) h3, gB_s, cCA_ok, gTX_l, fA_at o1 o2, gB_s, a_al hS1, gB_s]
  show gT2 (f_X5_init_2 (n + 1) (sa s) (iI k) (iI x) _ (n + 1 + 1)) _ = _
  rw [e3, gT2_s, o4, gB_s, e7, gT2_s, g_obj_s v1, gB_s]
  unfold f_X5_value
  rw [fA_at v1 rfl, gB_s, aI_at v2 rfl h2 (by omega) (w2' k h2), gB_s, gB_s]
theorem cDoSv_n1 {s k x : Int} (F : gFr h n) (hO : CurAt h cd st) (hS : StAt h st S sa) (hw : WF S) (hs : -2147483648 ≤ s ∧ s < 2147483648) (h1 : ¬ (0 ≤ s ∧ s < S.n)) : gThr (f_X1_doSetValue cd (iI s) (iI k) (iI x) h n) 12 h n := by
  have hn := hw.2.1
  have hO0 := hO
  obtain ⟨fs0, o0, -⟩ := hO0
  unfold f_X1_doSetValue
  rw [g_obj_s o0, gB_s]
  exact (cSA_no F hO hS hn.2 hs h1).X
theorem cDoSv_n2 {s : Nat} {k x : Int} (F : gFr h n) (hO : CurAt h cd st) (hS : StAt h st S sa) (hw : WF S) (h1 : s < S.n) (hk : -2147483648 ≤ k ∧ k < 2147483648) (h2 : ¬ (0 ≤ k ∧ k < S.c)) : gThr (f_X1_doSetValue cd (iI s) (iI k) (iI x) h n) 12 h n := by
  have hn := hw.2.1
  have hc := hw.1
  have u := ar1_p F (iI s)
  have hO0 := hO
  obtain ⟨fs0, o0, -⟩ := hO0
  have hO1 := u.cur F hO
  have hS1 := u.st F hS
  obtain ⟨fs, o1, o2⟩ := hO1
  obtain ⟨fs2, o3⟩ := a_obj hS1
  unfold f_X1_doSetValue
  rw [g_obj_s o0, gB_s, cSA_ok F hO hS hn.2 h1, gTX_l, fA_at o1 o2, gB_s, o3, gB_s, a_cells hS1, gB_s]
  exact ((cCI_no u.2.1 hk h2 (by omega)).X).pre u
theorem cDoSv_n3 {s k : Nat} {x : Int} (F : gFr h n) (hO : CurAt h cd st) (hS : StAt h st S sa) (hw : WF S) (h1 : s < S.n) (h2 : k < S.c) (hx : -2147483648 ≤ x ∧ x < 2147483648) (h3 : ¬ (0 ≤ x ∧ x ≤ 9)) : gThr (f_X1_doSetValue cd (iI s) (iI k) (iI x) h n) 11 h n := by
  have hn := hw.2.1
  have hc := hw.1
  have u := ar1_p F (iI s)
  have hO0 := hO
  obtain ⟨fs0, o0, -⟩ := hO0
  have hO1 := u.cur F hO
  have hS1 := u.st F hS
  obtain ⟨fs, o1, o2⟩ := hO1
  obtain ⟨fs2, o3⟩ := a_obj hS1
  unfold f_X1_doSetValue
  rw [g_obj_s o0, gB_s, cSA_ok F hO hS hn.2 h1, gTX_l, fA_at o1 o2, gB_s, o3, gB_s, a_cells hS1, gB_s, cCI_ok (by omega) (by omega), gTX_l, iI_9, cBt_no0 hx (by omega) (by omega) h3, gB_s]
  exact ((cCA_no u.2.1).X).pre u
end OP
