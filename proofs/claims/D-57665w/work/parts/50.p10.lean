/-! CHANGES, 3: frames; divide, exchange -/
/-- only owners and served flags of st are written -/
def FrO (h h' : gH) (st : Nat) : Prop := ∀ b : Nat, b ≠ st + 3 → b ≠ st + 4 → h' b = h b
theorem FrO.rf {h : gH} {st : Nat} : FrO h h st := fun _ _ _ => rfl
theorem FrO.trans {h h1 h2 : gH} {st : Nat} (u : FrO h h1 st) (v : FrO h1 h2 st) : FrO h h2 st := fun b q1 q2 => (v b q1 q2).trans (u b q1 q2)
theorem OwUp.fr {h h' : gH} {st : Nat} {S' : gS} (u : OwUp h h' st S') : FrO h h' st := fun b _ q2 => u.ne q2
/-- .. so any other state stays -/
theorem FrO.st {h h' : gH} {st st2 : Nat} {S S2 : gS} {sa sa2 : Nat → Nat} (fr : FrO h h' st) (hS : StAt h st S sa) (hT : StAt h st2 S2 sa2) (hne : st2 ≠ st) : StAt h' st2 S2 sa2 := by
  obtain ⟨-, -, -, ⟨g4, k4⟩, ⟨g5, k5, -⟩, -⟩ := hS
  have n34 : ∀ (b : Nat) (o : Nat × List Value), h b = some (.inr o) → h' b = h b := fun b o hb => fr b (fun q => by rw [q, k4] at hb; cases hb) (fun q => by rw [q, k5] at hb; cases hb)
  obtain ⟨h1, ⟨mc, h2⟩, ⟨f3, h3, h3'⟩, ⟨f4, h4⟩, ⟨f5, h5, h5'⟩, h6⟩ := hT
  refine ⟨by rw [n34 _ _ h1]; exact h1, ⟨mc, by rw [n34 _ _ h2]; exact h2⟩, ⟨f3, by rw [fr _ (fun q => by rw [q, k4] at h3; cases h3) (fun q => by rw [q, k5] at h3; cases h3)]; exact h3, h3'⟩, ⟨f4, by rw [fr _ (by omega) (fun q => by rw [q, k5] at h4; cases h4)]; exact h4⟩, ⟨f5, by rw [fr _ (fun q => by rw [q, k4] at h5; cases h5) (by omega)]; exact h5, h5'⟩, fun s hs => ?_⟩
  obtain ⟨na, w1, ⟨f7, w2, w2'⟩, ⟨f8, w3, w3'⟩⟩ := h6 s hs
  have n2 : sa2 s + 1 ≠ st + 4 := fun q => by
    have q2 : sa2 s = st + 3 := by omega
    rw [q2, k4] at w1; cases w1
  exact ⟨na, by rw [n34 _ _ w1]; exact w1, ⟨f7, by rw [fr _ (fun q => by rw [q, k4] at w2; cases w2) n2]; exact w2, w2'⟩, ⟨f8, by rw [fr _ (fun q => by rw [q, k4] at w3; cases w3) (fun q => by rw [q, k5] at w3; cases w3)]; exact w3, w3'⟩⟩
theorem FrO.ob {h h' : gH} {st b : Nat} {S : gS} {sa : Nat → Nat} {o : Nat × List Value} (fr : FrO h h' st) (hS : StAt h st S sa) (hb : h b = some (.inr o)) : h' b = some (.inr o) := by
  obtain ⟨-, -, -, ⟨g4, k4⟩, ⟨g5, k5, -⟩, -⟩ := hS
  rw [fr b (fun q => by rw [q, k4] at hb; cases hb) (fun q => by rw [q, k5] at hb; cases hb)]
  exact hb
theorem FrO.cur {h h' : gH} {st cd st2 : Nat} {S : gS} {sa : Nat → Nat} (fr : FrO h h' st) (hS : StAt h st S sa) (hO : CurAt h cd st2) : CurAt h' cd st2 := by
  obtain ⟨fs, h1, h2⟩ := hO
  exact ⟨fs, fr.ob hS h1, h2⟩
theorem cGive' {h : gH} {st : Nat} {S : gS} {sa : Nat → Nat} (hS : StAt h st S sa) (hw : WF S) {o : Int} {a e : Nat} (hae : a ≤ e) (he : e ≤ S.c) : ∃ h', f_X2_give st (iI o) (iI a) (iI ((e : Int) - 1)) h = some h' ∧ OwUp h h' st (owG S o a e) := by
  obtain ⟨f, h1, h2⟩ := cGive hS hw hae he
  exact ⟨_, h1, f, rfl, h2⟩
theorem mOwn' {m : Nat → Int32} {S : gS} (hB : BlkAt m 0 S) (hw : WF S) {o : Int} {a e : Nat} (hae : a ≤ e) (he : e ≤ S.c) : ∃ m', f_X6_own (iI o) (iI a) (iI ((e : Int) - 1)) m = some m' ∧ BlkUp m m' (owG S o a e) := by
  obtain ⟨f, h1, h2, h3⟩ := mOwn hB hw hae he
  exact ⟨_, h1, h2, h3⟩
theorem cRel {h : gH} {st : Nat} {S : gS} {sa : Nat → Nat} (hS : StAt h st S sa) (hw : WF S) {a e : Nat} (hae : a ≤ e) (he : e ≤ S.c) : ∃ h', f_X2_release st (iI a) (iI ((e : Int) - 1)) h = some h' ∧ OwUp h h' st (owG S (-1) a e) := by
  obtain ⟨fs, h1⟩ := a_obj hS
  obtain ⟨h', h2, h3⟩ := cGive' hS hw (o := -1) hae he
  refine ⟨h', ?_, h3⟩
  unfold f_X2_release
  rw [h1, gB_s, iI_n1, h2, gB_s]
-- divide
def dvT (S : gS) (ch cut : Nat) : Bool := decide (totZ S ch ≤ 2 * pS S ch cut)
def dvZ (S : gS) (a b : Nat) : gS := owG (owG S (if dvT S b (ctZ S a S.c).1 = true then (b : Int) else a) 0 (ctZ S a S.c).1) (if dvT S b (ctZ S a S.c).1 = true then (a : Int) else b) (ctZ S a S.c).1 S.c
theorem dvZ_wf {S : gS} (hw : WF S) {a b : Nat} (ha : a < S.n) (hb : b < S.n) : WF (dvZ S a b) := WF_owG (WF_owG hw (by split <;> omega)) (by show _ ∧ _ < (S.n : Int); split <;> omega)
theorem cDv {h : gH} {st : Nat} {S : gS} {sa : Nat → Nat} (hS : StAt h st S sa) (hw : WF S) {a b : Nat} (ha : a < S.n) (hb : b < S.n) : ∃ h', f_X2_divideAndChoose st (iI a) (iI b) h = some (iI ((ctZ S a S.c).1 : Nat), h') ∧ OwUp h h' st (dvZ S a b) := by
  have hc := hw.1
  have hn := hw.2.1
  have q0 := (ctZ_b hw ha S.c (Nat.le_refl _)).1
  obtain ⟨fs, h1⟩ := a_obj hS
  obtain ⟨fs2, h2⟩ := a_sobj hS hb
  have b1 := pS_m hw hb (a := (ctZ S a S.c).1) (b := S.c) q0 (Nat.le_refl _)
  have b2 := pS_b hw hb q0
  have b4 : totZ S b = pS S b S.c := rfl
  have w1 := cWr hS hw hb (a := 0) (e := (ctZ S a S.c).1) (by omega) q0
  have w2 := cWr hS hw hb (a := (ctZ S a S.c).1) (e := S.c) q0 (Nat.le_refl _)
  rw [pS_0, Int.sub_zero] at w1
  have w1' : f_X5_worth (sa b) (0 : Int32) (iI ((ctZ S a S.c).1 : Int) - (1 : Int32)) h = some (iI (pS S b (ctZ S a S.c).1)) := by rw [iI_1, iI_sub]; exact w1
  have w2' : f_X5_worth (sa b) (iI ((ctZ S a S.c).1 : Int)) (iI (S.c : Int) - (1 : Int32)) h = some (iI (pS S b S.c - pS S b (ctZ S a S.c).1)) := by rw [iI_1, iI_sub]; exact w2
  have key : ∀ x y : Nat, x < S.n → ∃ h', Option.bind (f_X2_give st (iI x) (0 : Int32) (iI ((ctZ S a S.c).1 : Int) - (1 : Int32)) h) (fun h18 => f_X2_divideAndChoose_J72 st (iI ((ctZ S a S.c).1 : Int)) st (iI y) h18) = some (iI ((ctZ S a S.c).1 : Nat), h') ∧ OwUp h h' st (owG (owG S x 0 (ctZ S a S.c).1) y (ctZ S a S.c).1 S.c) := by
    intro x y hx
    obtain ⟨h3, e3, u3⟩ := cGive' hS hw (o := x) (a := 0) (e := (ctZ S a S.c).1) (by omega) q0
    have hS3 : StAt h3 st (owG S x 0 (ctZ S a S.c).1) sa := OwUp.st (g := (owG S x 0 (ctZ S a S.c).1).ow) hS u3
    have hw3 := WF_owG (o := (x : Int)) (a := 0) (e := (ctZ S a S.c).1) hw (by omega)
    obtain ⟨h4, e4, u4⟩ := cGive' hS3 hw3 (o := y) (a := (ctZ S a S.c).1) (e := S.c) q0 (Nat.le_refl _)
    obtain ⟨fs3, o3⟩ := a_obj hS3
    refine ⟨h4, ?_, OwUp.trans u3 u4⟩
    have e3' : f_X2_give st (iI x) (0 : Int32) (iI ((ctZ S a S.c).1 : Int) - (1 : Int32)) h = some h3 := by rw [iI_1, iI_sub]; exact e3
    rw [e3', gB_s]
    unfold f_X2_divideAndChoose_J72
    have e4' : f_X2_give st (iI y) (iI ((ctZ S a S.c).1 : Int)) (iI (S.c : Int) - (1 : Int32)) h3 = some h4 := by rw [iI_1, iI_sub]; exact e4
    rw [o3, gB_s, a_cells hS3, gB_s, gB_s]
    show Option.bind (f_X2_give st (iI y) (iI ((ctZ S a S.c).1 : Int)) (iI (S.c : Int) - (1 : Int32)) h3) _ = _
    rw [e4', gB_s]
  unfold f_X2_divideAndChoose
  rw [h1, gB_s, cCut hS hw ha, gB_s, a_sib hS hb hn.2, gB_s, h2, gB_s, w1', gB_s, gB_s, a_cells hS, gB_s, h2, gB_s, w2', gB_s]
  unfold f_X2_divideAndChoose_J41 f_X2_divideAndChoose_J54
  unfold dvZ
  by_cases q : dvT S b (ctZ S a S.c).1 = true
  · have q2 := of_decide_eq_true q
    obtain ⟨h', e9, u9⟩ := key b a hb
    refine ⟨h', ?_, by rw [if_pos q, if_pos q]; exact u9⟩
    rw [if_neg (by rw [iI_lt (by omega) (by omega) (by omega) (by omega)]; omega), if_neg (by decide), h1, gB_s, ← e9]
    congr 1
  · have q2 : ¬ totZ S b ≤ 2 * pS S b (ctZ S a S.c).1 := fun z => q (decide_eq_true z)
    obtain ⟨h', e9, u9⟩ := key a b ha
    refine ⟨h', ?_, by rw [if_neg q, if_neg q]; exact u9⟩
    rw [if_pos (by rw [iI_lt (by omega) (by omega) (by omega) (by omega)]; omega), if_pos rfl, h1, gB_s, ← e9]
    congr 1
theorem mDv {m : Nat → Int32} {S : gS} (hB : BlkAt m 0 S) (hw : WF S) {a b : Nat} (ha : a < S.n) (hb : b < S.n) : ∃ m', f_X6_divide (iI a) (iI b) m = some (iI ((ctZ S a S.c).1 : Nat), m') ∧ BlkUp m m' (dvZ S a b) := by
  have hc := hw.1
  have hn := hw.2.1
  have q0 := (ctZ_b hw ha S.c (Nat.le_refl _)).1
  have b2 := pS_b hw hb q0
  have b3 := totZ_b hw hb
  have w1 := mWr hB hw hb (a := 0) (e := (ctZ S a S.c).1) (by omega) q0
  rw [pS_0, Int.sub_zero] at w1
  have w1' : f_X6_worthOf (iI b) (0 : Int32) (iI ((ctZ S a S.c).1 : Int) - (1 : Int32)) m = some (iI (pS S b (ctZ S a S.c).1)) := by rw [iI_1, iI_sub]; exact w1
  have key : ∀ x y : Nat, x < S.n → ∃ m', Option.bind (f_X6_own (iI x) (0 : Int32) (iI ((ctZ S a S.c).1 : Int) - (1 : Int32)) m) (fun m18 => f_X6_divide_J61 (iI ((ctZ S a S.c).1 : Int)) (iI y) m18) = some (iI ((ctZ S a S.c).1 : Nat), m') ∧ BlkUp m m' (owG (owG S x 0 (ctZ S a S.c).1) y (ctZ S a S.c).1 S.c) := by
    intro x y hx
    obtain ⟨h3, e3, u3⟩ := mOwn' hB hw (o := x) (a := 0) (e := (ctZ S a S.c).1) (by omega) q0
    have hw3 := WF_owG (o := (x : Int)) (a := 0) (e := (ctZ S a S.c).1) hw (by omega)
    obtain ⟨h4, e4, u4⟩ := mOwn' u3.1 hw3 (o := y) (a := (ctZ S a S.c).1) (e := S.c) q0 (Nat.le_refl _)
    refine ⟨h4, ?_, BlkUp.trans u3 u4⟩
    have e3' : f_X6_own (iI x) (0 : Int32) (iI ((ctZ S a S.c).1 : Int) - (1 : Int32)) m = some h3 := by rw [iI_1, iI_sub]; exact e3
    rw [e3', gB_s]
    unfold f_X6_divide_J61
    have e4' : f_X6_own (iI y) (iI ((ctZ S a S.c).1 : Int)) (iI (S.c : Int) - (1 : Int32)) h3 = some h4 := by rw [iI_1, iI_sub]; exact e4
    rw [iI_0, b_c u3.1, gB_s]
    show Option.bind (f_X6_own (iI y) (iI ((ctZ S a S.c).1 : Int)) (iI (S.c : Int) - (1 : Int32)) h3) _ = _
    rw [e4', gB_s]
  unfold f_X6_divide
  rw [mCut hB hw ha, gB_s, w1', gB_s, mTot hB hw hb, gB_s, iI_2, iI_mul]
  unfold f_X6_divide_J30 f_X6_divide_J43
  unfold dvZ
  by_cases q : dvT S b (ctZ S a S.c).1 = true
  · have q2 := of_decide_eq_true q
    obtain ⟨h', e9, u9⟩ := key b a hb
    refine ⟨h', ?_, by rw [if_pos q, if_pos q]; exact u9⟩
    rw [if_neg (by rw [iI_lt (by omega) (by omega) (by omega) (by omega)]; omega), if_neg (by decide), ← e9]
    congr 1
  · have q2 : ¬ totZ S b ≤ 2 * pS S b (ctZ S a S.c).1 := fun z => q (decide_eq_true z)
    obtain ⟨h', e9, u9⟩ := key a b ha
    refine ⟨h', ?_, by rw [if_neg q, if_neg q]; exact u9⟩
    rw [if_pos (by rw [iI_lt (by omega) (by omega) (by omega) (by omega)]; omega), if_pos rfl, ← e9]
    congr 1
