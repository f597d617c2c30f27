/-! READS, 6: marks, favourites, cuts -/
theorem mul_b {x p : Int} (h1 : 0 ≤ x ∧ x ≤ 216) (h2 : 0 ≤ p ∧ p ≤ 24) : 0 ≤ x * p ∧ x * p ≤ 5184 := by
  have h3 := Int.mul_nonneg h1.1 h2.1
  have h4 : x * p ≤ 216 * 24 := Int.mul_le_mul h1.2 h2.2 h2.1 (by omega)
  omega
def mkP (S : gS) (s c0 : Nat) (parts : Int) (e : Nat) : Bool := decide (pS S s S.c - pS S s c0 ≤ (pS S s (e + 1) - pS S s c0) * parts)
def frst (p : Nat → Bool) : Nat → Nat → Nat
  | 0, e => e
  | f + 1, e => if p e = true then e else frst p f (e + 1)
theorem frst_b (p : Nat → Bool) : ∀ f e, e ≤ frst p f e ∧ frst p f e ≤ e + f := by
  intro f
  induction f with
  | zero => intro e; exact ⟨Nat.le_refl _, Nat.le_refl _⟩
  | succ f ih =>
    intro e
    simp only [frst]
    have := ih (e + 1)
    split <;> omega
def mkZ (S : gS) (s c0 : Nat) (parts : Int) : Nat := frst (mkP S s c0 parts) (S.c - 1 - c0) c0
theorem mkZ_b {S : gS} {s c0 : Nat} {parts : Int} (h0 : c0 < S.c) : c0 ≤ mkZ S s c0 parts ∧ mkZ S s c0 parts < S.c := by
  have := frst_b (mkP S s c0 parts) (S.c - 1 - c0) c0
  unfold mkZ
  omega
theorem mkP_last {S : gS} (hw : WF S) {s c0 : Nat} (hs : s < S.n) (h0 : c0 < S.c) {parts : Int} (hp : 1 ≤ parts) : mkP S s c0 parts (S.c - 1) = true := by
  unfold mkP
  rw [show S.c - 1 + 1 = S.c by omega]
  have h1 := pS_m hw hs (a := c0) (b := S.c) (by omega) (Nat.le_refl _)
  refine decide_eq_true ?_
  have h2 : (pS S s S.c - pS S s c0) * 1 ≤ (pS S s S.c - pS S s c0) * parts := Int.mul_le_mul_of_nonneg_left hp (by omega)
  omega
section RD7
variable {h : gH} {st cd : Nat} {S : gS} {sa : Nat → Nat} {m : Nat → Int32}
theorem mkC_loop (hS : StAt h st S sa) (hw : WF S) {s c0 : Nat} (hs : s < S.n) (h0 : c0 < S.c) {parts : Int} (hp : 1 ≤ parts ∧ parts ≤ 24) : ∀ d e k : Nat, e + d = S.c - 1 → c0 ≤ e → d < k → gL1 (f_X5_mark_L16 (sa s) (iI c0) (iI parts) (iI (pS S s S.c - pS S s c0)) h) k (iI e) = some (iI (frst (mkP S s c0 parts) d e : Nat)) := by
  have hc := hw.1
  obtain ⟨fs2, h2⟩ := a_sobj hS hs
  have b0 := pS_m hw hs (a := c0) (b := S.c) (by omega) (Nat.le_refl _)
  intro d
  induction d with
  | zero =>
    intro e k e1 hce hk
    obtain ⟨k, rfl⟩ : ∃ k', k = k' + 1 := ⟨k - 1, by omega⟩
    show f_X5_mark_L16 (sa s) (iI c0) (iI parts) (iI (pS S s S.c - pS S s c0)) h (gL1 (f_X5_mark_L16 (sa s) (iI c0) (iI parts) (iI (pS S s S.c - pS S s c0)) h) k) _ = _
    unfold f_X5_mark_L16
    have e2 : e = S.c - 1 := by omega
    have e3 : (e : Int) = ((e + 1 : Nat) : Int) - 1 := by omega
    have h3 := mkP_last hw hs h0 hp.1
    rw [← e2] at h3
    have h4 := of_decide_eq_true h3
    have b1 := pS_m hw hs (a := c0) (b := e + 1) (by omega) (by omega)
    have b2 := mul_b (x := pS S s (e + 1) - pS S s c0) (p := parts) (by omega) (by omega)
    rw [h2, gB_s]
    conv => lhs; rw [e3]
    rw [cWr hS hw hs (a := c0) (e := e + 1) (by omega) (by omega), gB_s, iI_mul, if_pos (by rw [iI_le (by omega) (by omega) (by omega) (by omega)]; exact h4), ← e3]
    rfl
  | succ d ih =>
    intro e k e1 hce hk
    obtain ⟨k, rfl⟩ : ∃ k', k = k' + 1 := ⟨k - 1, by omega⟩
    show f_X5_mark_L16 (sa s) (iI c0) (iI parts) (iI (pS S s S.c - pS S s c0)) h (gL1 (f_X5_mark_L16 (sa s) (iI c0) (iI parts) (iI (pS S s S.c - pS S s c0)) h) k) _ = _
    have ih := ih (e + 1) k (by omega) (by omega) (by omega)
    generalize gL1 (f_X5_mark_L16 (sa s) (iI c0) (iI parts) (iI (pS S s S.c - pS S s c0)) h) k = r at ih ⊢
    unfold f_X5_mark_L16
    rw [Int.natCast_add, Int.natCast_one] at ih
    have e3 : iI (e : Int) = iI (((e + 1 : Nat) : Int) - 1) := congrArg iI (by omega)
    have b1 := pS_m hw hs (a := c0) (b := e + 1) (by omega) (by omega)
    have b2 := mul_b (x := pS S s (e + 1) - pS S s c0) (p := parts) (by omega) (by omega)
    have hwr := cWr hS hw hs (a := c0) (e := e + 1) (by omega) (by omega)
    rw [← e3] at hwr
    rw [h2, gB_s, hwr, gB_s, iI_mul, iI_1, iI_add]
    simp only [frst]
    by_cases q : mkP S s c0 parts e = true
    · rw [if_pos q, if_pos (by rw [iI_le (by omega) (by omega) (by omega) (by omega)]; exact of_decide_eq_true q)]
    · rw [if_neg q, if_neg (by rw [iI_le (by omega) (by omega) (by omega) (by omega)]; intro z; exact q (decide_eq_true z))]
      exact ih
theorem cMk (hS : StAt h st S sa) (hw : WF S) {s c0 : Nat} (hs : s < S.n) (h0 : c0 < S.c) {parts : Int} (hp : 1 ≤ parts ∧ parts ≤ 24) : f_X5_mark (sa s) (iI c0) (iI parts) h = some (iI (mkZ S s c0 parts : Nat)) := by
  obtain ⟨fs2, h2⟩ := a_sobj hS hs
  unfold f_X5_mark
  rw [a_vals hS hs, gB_s, a_vlen hS hs, gB_s, h2, gB_s, iI_1, iI_sub, cWr hS hw hs (by omega) (Nat.le_refl _), gB_s]
  exact mkC_loop hS hw hs h0 hp (S.c - 1 - c0) c0 gN (by omega) (Nat.le_refl _) (by unfold gN; have := hw.1; omega)
theorem mkM_loop (hB : BlkAt m 0 S) (hw : WF S) {s c0 : Nat} (hs : s < S.n) (h0 : c0 < S.c) {parts : Int} (hp : 1 ≤ parts ∧ parts ≤ 24) : ∀ d e k : Nat, e + d = S.c - 1 → c0 ≤ e → d < k → gL2 (f_X6_markOf_L27 (iI s) (iI parts) (iI (pS S s S.c - pS S s c0)) m) k (iI e) (iI (pS S s (e + 1) - pS S s c0)) = some (iI (frst (mkP S s c0 parts) d e : Nat)) := by
  have hc := hw.1
  have hn := hw.2.1
  have b0 := pS_m hw hs (a := c0) (b := S.c) (by omega) (Nat.le_refl _)
  intro d
  induction d with
  | zero =>
    intro e k e1 hce hk
    obtain ⟨k, rfl⟩ : ∃ k', k = k' + 1 := ⟨k - 1, by omega⟩
    show f_X6_markOf_L27 (iI s) (iI parts) (iI (pS S s S.c - pS S s c0)) m (gL2 (f_X6_markOf_L27 (iI s) (iI parts) (iI (pS S s S.c - pS S s c0)) m) k) _ _ = _
    unfold f_X6_markOf_L27
    have e2 : e = S.c - 1 := by omega
    have h3 := mkP_last hw hs h0 hp.1
    rw [← e2] at h3
    have h4 := of_decide_eq_true h3
    have b1 := pS_m hw hs (a := c0) (b := e + 1) (by omega) (by omega)
    have b2 := mul_b (x := pS S s (e + 1) - pS S s c0) (p := parts) (by omega) (by omega)
    rw [iI_mul, if_pos (by rw [iI_le (by omega) (by omega) (by omega) (by omega)]; exact h4)]
    rfl
  | succ d ih =>
    intro e k e1 hce hk
    obtain ⟨k, rfl⟩ : ∃ k', k = k' + 1 := ⟨k - 1, by omega⟩
    show f_X6_markOf_L27 (iI s) (iI parts) (iI (pS S s S.c - pS S s c0)) m (gL2 (f_X6_markOf_L27 (iI s) (iI parts) (iI (pS S s S.c - pS S s c0)) m) k) _ _ = _
    have ih := ih (e + 1) k (by omega) (by omega) (by omega)
    generalize gL2 (f_X6_markOf_L27 (iI s) (iI parts) (iI (pS S s S.c - pS S s c0)) m) k = r at ih ⊢
    unfold f_X6_markOf_L27
    have e3 : (e : Int) + 1 = ((e + 1 : Nat) : Int) := by omega
    have b1 := pS_m hw hs (a := c0) (b := e + 1) (by omega) (by omega)
    have b2 := mul_b (x := pS S s (e + 1) - pS S s c0) (p := parts) (by omega) (by omega)
    rw [iI_mul, iI_1, iI_add, e3, b_val hB hs hn.2 (by omega) hc.2, gB_s, iI_add]
    simp only [frst]
    by_cases q : mkP S s c0 parts e = true
    · rw [if_pos q, if_pos (by rw [iI_le (by omega) (by omega) (by omega) (by omega)]; exact of_decide_eq_true q)]
    · rw [if_neg q, if_neg (by rw [iI_le (by omega) (by omega) (by omega) (by omega)]; intro z; exact q (decide_eq_true z)), ← ih, pS_s S s (e + 1)]
      congr 2
      omega
theorem mMk (hB : BlkAt m 0 S) (hw : WF S) {s c0 : Nat} (hs : s < S.n) (h0 : c0 < S.c) {parts : Int} (hp : 1 ≤ parts ∧ parts ≤ 24) : f_X6_markOf (iI s) (iI c0) (iI parts) m = some (iI (mkZ S s c0 parts : Nat)) := by
  have hc := hw.1
  have hn := hw.2.1
  unfold f_X6_markOf
  rw [iI_0, b_c hB, gB_s, iI_1, iI_sub, mWr hB hw hs (by omega) (Nat.le_refl _), gB_s, b_val hB hs hn.2 h0 hc.2, gB_s]
  have h9 := mkM_loop hB hw hs h0 hp (S.c - 1 - c0) c0 gN (by omega) (Nat.le_refl _) (by unfold gN; have := hw.1; omega)
  rw [pS_s, show pS S s c0 + S.v s c0 - pS S s c0 = S.v s c0 by omega] at h9
  exact h9
-- favourite
def fvZ (S : gS) (s : Nat) : Nat → Int
  | 0 => -1
  | k + 1 => if S.ow k = -1 then (if fvZ S s k = -1 then (k : Int) else if S.v s k ≤ S.v s (fvZ S s k).toNat then fvZ S s k else (k : Int)) else fvZ S s k
theorem fvZ_b (S : gS) (s : Nat) : ∀ k : Nat, -1 ≤ fvZ S s k ∧ fvZ S s k < k := by
  intro k
  induction k with
  | zero => simp [fvZ]
  | succ k ih =>
    simp only [fvZ]
    split
    · split
      · omega
      · split <;> omega
    · omega
theorem fvC_loop (hS : StAt h st S sa) (hw : WF S) {s : Nat} (hs : s < S.n) : ∀ d i k : Nat, i + d = S.c → d < k → gL2 (f_X2_favourite_L4 st (iI s) h) k (iI (fvZ S s i)) (iI i) = some (iI (fvZ S s S.c)) := by
  obtain ⟨fs, h1⟩ := a_obj hS
  have hc := hw.1
  have hn := hw.2.1
  intro d
  induction d with
  | zero =>
    intro i k e hk
    obtain ⟨k, rfl⟩ : ∃ k', k = k' + 1 := ⟨k - 1, by omega⟩
    show f_X2_favourite_L4 st (iI s) h (gL2 (f_X2_favourite_L4 st (iI s) h) k) (iI (fvZ S s i)) (iI i) = _
    unfold f_X2_favourite_L4
    have e1 : i = S.c := by omega
    subst e1
    rw [h1, gB_s, a_cells hS, gB_s, if_pos (by rw [iI_le (by omega) (by omega) (by omega) (by omega)]; omega)]
  | succ d ih =>
    intro i k e hk
    obtain ⟨k, rfl⟩ : ∃ k', k = k' + 1 := ⟨k - 1, by omega⟩
    show f_X2_favourite_L4 st (iI s) h (gL2 (f_X2_favourite_L4 st (iI s) h) k) (iI (fvZ S s i)) (iI i) = _
    have ih := ih (i + 1) k (by omega) (by omega)
    generalize gL2 (f_X2_favourite_L4 st (iI s) h) k = r at ih ⊢
    unfold f_X2_favourite_L4
    rw [Int.natCast_add, Int.natCast_one] at ih
    have hi : i < S.c := by omega
    have q0 := hw.2.2.1 i hi
    have q1 := fvZ_b S s i
    have q2 := hw.2.2.2.1 s hs i hi
    have e3 : (i : Int) + 1 = ((i + 1 : Nat) : Int) := by omega
    rw [← ih]
    simp only [fvZ]
    obtain ⟨fs2, h2⟩ := a_sobj hS hs
    rw [h1, gB_s, a_cells hS, gB_s, if_neg (by rw [iI_le (by omega) (by omega) (by omega) (by omega)]; omega), a_ow hS, gB_s, a_own hS hi hc.2, gB_s, iI_n1]
    unfold f_X2_favourite_J27
    by_cases w1 : S.ow i = -1
    · rw [if_pos (by rw [w1]), if_pos w1, if_neg (by decide)]
      by_cases w2 : fvZ S s i = -1
      · rw [if_pos (by rw [w2]; rfl), if_pos w2, iI_1, iI_add]
      · obtain ⟨j, hj⟩ : ∃ j : Nat, fvZ S s i = (j : Int) := ⟨(fvZ S s i).toNat, by omega⟩
        have q3 := hw.2.2.2.1 s hs j (by omega)
        rw [if_neg (by rw [iI_n1, iI_eq (by omega) (by omega) (by omega) (by omega)]; exact w2), if_neg w2, h1, gB_s, a_sib hS hs hn.2, gB_s, h2, gB_s, a_value hS hs hi hc.2, gB_s, gB_s, h2, gB_s, hj, a_value hS hs (by omega) hc.2, gB_s, Int.toNat_natCast, iI_1, iI_add]
        simp (disch := omega) only [iI_le]
        split <;> rfl
    · rw [if_neg (by rw [iI_eq (by omega) (by omega) (by omega) (by omega)]; exact w1), if_neg w1, if_pos rfl, iI_1, iI_add]

theorem fvM_loop (hB : BlkAt m 0 S) (hw : WF S) {s : Nat} (hs : s < S.n) : ∀ d i k : Nat, i + d = S.c → d < k → gL2 (f_X6_favourite_L4 (iI s) m) k (iI (fvZ S s i)) (iI i) = some (iI (fvZ S s S.c)) := by
  have hc := hw.1
  have hn := hw.2.1
  intro d
  induction d with
  | zero =>
    intro i k e hk
    obtain ⟨k, rfl⟩ : ∃ k', k = k' + 1 := ⟨k - 1, by omega⟩
    show f_X6_favourite_L4 (iI s) m (gL2 (f_X6_favourite_L4 (iI s) m) k) (iI (fvZ S s i)) (iI i) = _
    unfold f_X6_favourite_L4
    have e1 : i = S.c := by omega
    subst e1
    rw [iI_0, b_c hB, gB_s, if_pos (by rw [iI_le (by omega) (by omega) (by omega) (by omega)]; omega)]
  | succ d ih =>
    intro i k e hk
    obtain ⟨k, rfl⟩ : ∃ k', k = k' + 1 := ⟨k - 1, by omega⟩
    show f_X6_favourite_L4 (iI s) m (gL2 (f_X6_favourite_L4 (iI s) m) k) (iI (fvZ S s i)) (iI i) = _
    have ih := ih (i + 1) k (by omega) (by omega)
    generalize gL2 (f_X6_favourite_L4 (iI s) m) k = r at ih ⊢
    unfold f_X6_favourite_L4
    rw [Int.natCast_add, Int.natCast_one] at ih
    have hi : i < S.c := by omega
    have q0 := hw.2.2.1 i hi
    have q1 := fvZ_b S s i
    have q2 := hw.2.2.2.1 s hs i hi
    have e3 : (i : Int) + 1 = ((i + 1 : Nat) : Int) := by omega
    rw [← ih]
    simp only [fvZ]
    rw [iI_0, b_c hB, gB_s, if_neg (by rw [iI_le (by omega) (by omega) (by omega) (by omega)]; omega), b_own hB hi hc.2, gB_s, iI_n1]
    by_cases w1 : S.ow i = -1
    · rw [if_pos (by rw [w1]), if_pos w1]
      by_cases w2 : fvZ S s i = -1
      · rw [if_pos (by rw [w2]), if_pos w2, iI_1, iI_add]
      · obtain ⟨j, hj⟩ : ∃ j : Nat, fvZ S s i = (j : Int) := ⟨(fvZ S s i).toNat, by omega⟩
        have q3 := hw.2.2.2.1 s hs j (by omega)
        rw [if_neg (by rw [iI_eq (by omega) (by omega) (by omega) (by omega)]; exact w2), if_neg w2, b_val hB hs hn.2 hi hc.2, gB_s, hj, b_val hB hs hn.2 (by omega) hc.2, gB_s, Int.toNat_natCast, iI_1, iI_add]
        simp (disch := omega) only [iI_le]
        split <;> rfl
    · rw [if_neg (by rw [iI_eq (by omega) (by omega) (by omega) (by omega)]; exact w1), if_neg w1, iI_1, iI_add]

theorem cFv (hS : StAt h st S sa) (hw : WF S) {s : Nat} (hs : s < S.n) : f_X2_favourite st (iI s) h = some (iI (fvZ S s S.c)) := fvC_loop hS hw hs S.c 0 gN (by omega) (by unfold gN; have := hw.1; omega)
theorem mFv (hB : BlkAt m 0 S) (hw : WF S) {s : Nat} (hs : s < S.n) : f_X6_favourite (iI s) m = some (iI (fvZ S s S.c)) := fvM_loop hB hw hs S.c 0 gN (by omega) (by unfold gN; have := hw.1; omega)
-- cuts
def dfZ (S : gS) (s k : Nat) : Int := if 0 ≤ totZ S s - 2 * pS S s k then totZ S s - 2 * pS S s k else -(totZ S s - 2 * pS S s k)
def ctZ (S : gS) (s : Nat) : Nat → Nat × Int
  | 0 => (0, dfZ S s 0)
  | k + 1 => if dfZ S s (k + 1) < (ctZ S s k).2 then (k + 1, dfZ S s (k + 1)) else ctZ S s k
theorem dfZ_b {S : gS} (hw : WF S) {s : Nat} (hs : s < S.n) {k : Nat} (hk : k ≤ S.c) : 0 ≤ dfZ S s k ∧ dfZ S s k ≤ 216 := by
  have h1 := pS_m hw hs (a := k) (b := S.c) hk (Nat.le_refl _)
  have h2 := pS_b hw hs hk
  have h3 := totZ_b hw hs
  have h4 : totZ S s = pS S s S.c := rfl
  unfold dfZ
  split <;> omega
theorem ctZ_b {S : gS} (hw : WF S) {s : Nat} (hs : s < S.n) : ∀ k, k ≤ S.c → (ctZ S s k).1 ≤ k ∧ 0 ≤ (ctZ S s k).2 ∧ (ctZ S s k).2 ≤ 216 := by
  intro k
  induction k with
  | zero => intro hk; have := dfZ_b hw hs hk; simp only [ctZ]; omega
  | succ k ih =>
    intro hk
    have h1 := dfZ_b hw hs hk
    have h2 := ih (by omega)
    simp only [ctZ]
    split
    · simp only; omega
    · omega
theorem cutC_step (hS : StAt h st S sa) (hw : WF S) {s : Nat} (hs : s < S.n) {k : Nat} (hk : k ≤ S.c) {r : Int32 → Int32 → Int32 → Option Int32} {best : Int32} {L : Int} (hL : 0 ≤ L ∧ L < 2147483648) : f_X2_cutFor_L8 st (iI s) h r best (iI L) (iI k) = (if dfZ S s k < L then r (iI k) (iI (dfZ S s k)) (iI ((k : Int) + 1)) else r best (iI L) (iI ((k : Int) + 1))) := by
  obtain ⟨fs, h1⟩ := a_obj hS
  obtain ⟨fs2, h2⟩ := a_sobj hS hs
  have hc := hw.1
  have hn := hw.2.1
  have b0 := dfZ_b hw hs hk
  have b1 := pS_m hw hs (a := k) (b := S.c) hk (Nat.le_refl _)
  have b2 := pS_b hw hs hk
  have b3 := totZ_b hw hs
  have b4 : totZ S s = pS S s S.c := rfl
  unfold f_X2_cutFor_L8
  have w1 := cWr hS hw hs (a := 0) (e := k) (by omega) hk
  have w2 := cWr hS hw hs (a := k) (e := S.c) hk (Nat.le_refl _)
  rw [pS_0, Int.sub_zero] at w1
  have w1' : f_X5_worth (sa s) (0 : Int32) (iI (k : Int) - (1 : Int32)) h = some (iI (pS S s k)) := by rw [iI_1, iI_sub]; exact w1
  have w2' : f_X5_worth (sa s) (iI (k : Int)) (iI (S.c : Int) - (1 : Int32)) h = some (iI (pS S s S.c - pS S s k)) := by rw [iI_1, iI_sub]; exact w2
  rw [h1, gB_s, a_cells hS, gB_s, if_neg (by rw [iI_lt (by omega) (by omega) (by omega) (by omega)]; omega), a_sib hS hs hn.2, gB_s, h2, gB_s, w1', gB_s, gB_s, gB_s, h2, gB_s, w2', gB_s]
  have ed : (if 0 ≤ iI (pS S s k) - iI (pS S s S.c - pS S s k) then iI (pS S s k) - iI (pS S s S.c - pS S s k) else 0 - (iI (pS S s k) - iI (pS S s S.c - pS S s k))) = iI (dfZ S s k) := by
    unfold dfZ
    rw [b4, iI_sub, iI_0, iI_sub]
    simp (disch := omega) only [iI_le]
    by_cases z : 0 ≤ pS S s k - (pS S s S.c - pS S s k)
    · rw [if_pos z]
      by_cases z2 : 0 ≤ pS S s S.c - 2 * pS S s k
      · rw [if_pos z2]; congr 1; omega
      · rw [if_neg z2]; congr 1; omega
    · rw [if_neg z, if_pos (by omega)]; congr 1; omega
  rw [ed, iI_1, iI_add]
  simp (disch := omega) only [iI_le, iI_lt]
  by_cases q : dfZ S s k < L
  · rw [if_neg (by omega), if_pos q, if_pos q]
  · rw [if_pos (by omega), if_neg q, if_neg q]
theorem cutC_loop (hS : StAt h st S sa) (hw : WF S) {s : Nat} (hs : s < S.n) : ∀ d i k : Nat, i + d = S.c → d < k → gL3 (f_X2_cutFor_L8 st (iI s) h) k (iI ((ctZ S s i).1 : Nat)) (iI (ctZ S s i).2) (iI ((i : Int) + 1)) = some (iI ((ctZ S s S.c).1 : Nat)) := by
  obtain ⟨fs, h1⟩ := a_obj hS
  have hc := hw.1
  have hn := hw.2.1
  intro d
  induction d with
  | zero =>
    intro i k e hk
    obtain ⟨k, rfl⟩ : ∃ k', k = k' + 1 := ⟨k - 1, by omega⟩
    show f_X2_cutFor_L8 st (iI s) h (gL3 (f_X2_cutFor_L8 st (iI s) h) k) (iI ((ctZ S s i).1 : Nat)) (iI (ctZ S s i).2) (iI ((i : Int) + 1)) = _
    unfold f_X2_cutFor_L8
    have e1 : i = S.c := by omega
    subst e1
    rw [h1, gB_s, a_cells hS, gB_s, if_pos (by rw [iI_lt (by omega) (by omega) (by omega) (by omega)]; omega)]
  | succ d ih =>
    intro i k e hk
    obtain ⟨k, rfl⟩ : ∃ k', k = k' + 1 := ⟨k - 1, by omega⟩
    show f_X2_cutFor_L8 st (iI s) h (gL3 (f_X2_cutFor_L8 st (iI s) h) k) (iI ((ctZ S s i).1 : Nat)) (iI (ctZ S s i).2) (iI ((i : Int) + 1)) = _
    have ih := ih (i + 1) k (by omega) (by omega)
    generalize gL3 (f_X2_cutFor_L8 st (iI s) h) k = r at ih ⊢
    unfold f_X2_cutFor_L8
    rw [Int.natCast_add, Int.natCast_one] at ih
    have q1 := ctZ_b hw hs i (by omega)
    have e3 : (i : Int) + 1 = ((i + 1 : Nat) : Int) := by omega
    have h9 := cutC_step hS hw hs (k := i + 1) (by omega) (r := r) (best := iI ((ctZ S s i).1 : Nat)) (L := (ctZ S s i).2) (by omega)
    unfold f_X2_cutFor_L8 at h9
    rw [e3]
    refine Eq.trans h9 ?_
    rw [← ih]
    simp only [ctZ]
    split <;> simp

theorem cCut (hS : StAt h st S sa) (hw : WF S) {s : Nat} (hs : s < S.n) : f_X2_cutFor st (iI s) h = some (iI ((ctZ S s S.c).1 : Nat)) := by
  have b0 := dfZ_b hw hs (k := 0) (by omega)
  unfold f_X2_cutFor
  have h9 := cutC_step hS hw hs (k := 0) (by omega) (r := gL3 (f_X2_cutFor_L8 st (iI s) h) (gN - 1)) (best := 0) (L := 2147483647) (by omega)
  rw [if_pos (by omega)] at h9
  refine Eq.trans (show gL3 (f_X2_cutFor_L8 st (iI s) h) gN 0 2147483647 0 = f_X2_cutFor_L8 st (iI s) h (gL3 (f_X2_cutFor_L8 st (iI s) h) (gN - 1)) 0 (iI 2147483647) (iI (0 : Nat)) from rfl) ?_
  refine Eq.trans h9 ?_
  exact cutC_loop hS hw hs S.c 0 (gN - 1) (by omega) (by unfold gN; have := hw.1; omega)
theorem cutM_loop (hB : BlkAt m 0 S) (hw : WF S) {s : Nat} (hs : s < S.n) : ∀ d i k : Nat, i + d = S.c → d < k → gL3 (f_X6_cutOf_L11 (iI s) m) k (iI ((ctZ S s i).1 : Nat)) (iI (ctZ S s i).2) (iI ((i : Int) + 1)) = some (iI ((ctZ S s S.c).1 : Nat)) := by
  have hc := hw.1
  have hn := hw.2.1
  intro d
  induction d with
  | zero =>
    intro i k e hk
    obtain ⟨k, rfl⟩ : ∃ k', k = k' + 1 := ⟨k - 1, by omega⟩
    show f_X6_cutOf_L11 (iI s) m (gL3 (f_X6_cutOf_L11 (iI s) m) k) (iI ((ctZ S s i).1 : Nat)) (iI (ctZ S s i).2) (iI ((i : Int) + 1)) = _
    unfold f_X6_cutOf_L11
    have e1 : i = S.c := by omega
    subst e1
    rw [iI_0, b_c hB, gB_s, if_pos (by rw [iI_lt (by omega) (by omega) (by omega) (by omega)]; omega)]
  | succ d ih =>
    intro i k e hk
    obtain ⟨k, rfl⟩ : ∃ k', k = k' + 1 := ⟨k - 1, by omega⟩
    show f_X6_cutOf_L11 (iI s) m (gL3 (f_X6_cutOf_L11 (iI s) m) k) (iI ((ctZ S s i).1 : Nat)) (iI (ctZ S s i).2) (iI ((i : Int) + 1)) = _
    have ih := ih (i + 1) k (by omega) (by omega)
    generalize gL3 (f_X6_cutOf_L11 (iI s) m) k = r at ih ⊢
    unfold f_X6_cutOf_L11
    rw [Int.natCast_add, Int.natCast_one] at ih
    have q1 := ctZ_b hw hs i (by omega)
    have b0 := dfZ_b hw hs (k := i + 1) (by omega)
    have b2 := pS_b hw hs (i := i + 1) (by omega)
    have b3 := totZ_b hw hs
    have e3 : (i : Int) + 1 = ((i + 1 : Nat) : Int) := by omega
    have w1 := mWr hB hw hs (a := 0) (e := i + 1) (by omega) (by omega)
    rw [pS_0, Int.sub_zero] at w1
    have w1' : f_X6_worthOf (iI s) (iI 0) (iI ((i + 1 : Nat) : Int) - (1 : Int32)) m = some (iI (pS S s (i + 1))) := by rw [iI_1, iI_sub]; exact w1
    unfold f_X6_cutOf_J52
    rw [e3, iI_0, b_c hB, gB_s, if_neg (by rw [iI_lt (by omega) (by omega) (by omega) (by omega)]; omega), mTot hB hw hs, gB_s, w1', gB_s, iI_2, iI_mul, iI_sub, iI_neg, iI_1, iI_add, ← ih]
    simp only [ctZ]
    simp (disch := omega) only [iI_le, iI_lt]
    unfold dfZ
    by_cases z : 0 ≤ totZ S s - 2 * pS S s (i + 1)
    · simp only [z, if_true]
      by_cases q : totZ S s - 2 * pS S s (i + 1) < (ctZ S s i).2
      · simp only [q, if_true]; simp
      · simp only [q, if_false]; simp
    · simp only [z, if_false]
      by_cases q : -(totZ S s - 2 * pS S s (i + 1)) < (ctZ S s i).2
      · simp only [q, if_true]; simp
      · simp only [q, if_false]; simp

theorem mCut (hB : BlkAt m 0 S) (hw : WF S) {s : Nat} (hs : s < S.n) : f_X6_cutOf (iI s) m = some (iI ((ctZ S s S.c).1 : Nat)) := by
  have b3 := totZ_b hw hs
  unfold f_X6_cutOf
  rw [mTot hB hw hs, gB_s]
  have h9 := cutM_loop hB hw hs S.c 0 gN (by omega) (by unfold gN; have := hw.1; omega)
  have e0 : (ctZ S s 0).2 = totZ S s := by
    show dfZ S s 0 = _
    unfold dfZ
    rw [pS_0]
    simp [b3.1]
  rw [e0] at h9
  exact h9
end RD7
