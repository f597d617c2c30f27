/-! READS, 3 -/
section RD4
variable {h : gH} {st cd : Nat} {S : gS} {sa : Nat → Nat} {m : Nat → Int32}
theorem mildC1 (hS : StAt h st S sa) (hw : WF S) {s : Nat} {o ex : Int} (k i : Nat) (hi : i ≤ S.c) : gL2 (f_X2_isMild_L19 st (iI s) (iI o) (iI ex) h) (k + 1) (iI 1) (iI i) = some (iI 1) := by
  obtain ⟨fs, h1⟩ := a_obj hS
  have hc := hw.1
  show f_X2_isMild_L19 st (iI s) (iI o) (iI ex) h (gL2 (f_X2_isMild_L19 st (iI s) (iI o) (iI ex) h) k) _ _ = _
  unfold f_X2_isMild_L19
  rw [h1, gB_s, a_cells hS, gB_s]
  have e1 : ¬ iI 1 = 0 := by decide
  have e2 : iI 1 = 0 ∨ iI 1 = 1 := Or.inr rfl
  rw [if_pos e2, if_neg e1]
  split <;> rfl
theorem mildC_loop (hS : StAt h st S sa) (hw : WF S) {s : Nat} (hs : s < S.n) {o : Int} (ho : -1 ≤ o ∧ o < 2147483648) {ex : Int} (hex : -300 ≤ ex ∧ ex ≤ 300) : ∀ d i k : Nat, i + d = S.c → d < k → anyB (mlP S s o ex) i = false → gL2 (f_X2_isMild_L19 st (iI s) (iI o) (iI ex) h) k (iI 0) (iI i) = some (iI (if anyB (mlP S s o ex) S.c = true then 1 else 0)) := by
  obtain ⟨fs, h1⟩ := a_obj hS
  have hc := hw.1
  have hn := hw.2.1
  have e0 : iI 0 = (0 : Int32) := rfl
  intro d
  induction d with
  | zero =>
    intro i k e hk ha
    obtain ⟨k, rfl⟩ : ∃ k', k = k' + 1 := ⟨k - 1, by omega⟩
    show f_X2_isMild_L19 st (iI s) (iI o) (iI ex) h (gL2 (f_X2_isMild_L19 st (iI s) (iI o) (iI ex) h) k) _ _ = _
    unfold f_X2_isMild_L19
    have e1 : i = S.c := by omega
    subst e1
    rw [h1, gB_s, a_cells hS, gB_s, if_pos (by rw [iI_le (by omega) (by omega) (by omega) (by omega)]; omega), if_pos (Or.inl e0), ha]
    simp
  | succ d ih =>
    intro i k e hk ha
    obtain ⟨k, rfl⟩ : ∃ k', k = k' + 1 := ⟨k - 1, by omega⟩
    show f_X2_isMild_L19 st (iI s) (iI o) (iI ex) h (gL2 (f_X2_isMild_L19 st (iI s) (iI o) (iI ex) h) k) _ _ = _
    have ih := ih (i + 1) k (by omega) (by omega)
    obtain ⟨k, rfl⟩ : ∃ k', k = k' + 1 := ⟨k - 1, by omega⟩
    have h9 := mildC1 hS hw (s := s) (o := o) (ex := ex) k (i + 1) (by omega)
    generalize gL2 (f_X2_isMild_L19 st (iI s) (iI o) (iI ex) h) (k + 1) = r at ih h9 ⊢
    unfold f_X2_isMild_L19
    have hi : i < S.c := by omega
    obtain ⟨fs2, h2⟩ := a_sobj hS hs
    have ho2 := hw.2.2.1 i hi
    have hv := hw.2.2.2.1 s hs i hi
    rw [h1, gB_s, a_cells hS, gB_s, if_neg (by rw [iI_le (by omega) (by omega) (by omega) (by omega)]; omega), if_pos e0, a_ow hS, gB_s, a_own hS hi hc.2, gB_s]
    have hmx : anyB (mlP S s o ex) (i + 1) = mlP S s o ex i := by simp only [anyB, ha, Bool.false_or]
    rw [Int.natCast_add, Int.natCast_one] at h9 ih
    by_cases q1 : S.ow i = o
    · rw [if_pos (by rw [q1]), a_sib hS hs hn.2, gB_s, h2, gB_s, a_value hS hs hi hc.2, gB_s]
      by_cases q2 : S.v s i < ex
      · rw [if_pos (by rw [iI_lt (by omega) (by omega) (by omega) (by omega)]; exact q2), iI_0, iI_1, iI_add]
        exact ih (by rw [hmx]; unfold mlP; exact decide_eq_false (by omega))
      · rw [if_neg (by rw [iI_lt (by omega) (by omega) (by omega) (by omega)]; exact q2), iI_1, iI_add, h9]
        have h10 : anyB (mlP S s o ex) (i + 1) = true := by rw [hmx]; unfold mlP; exact decide_eq_true ⟨q1, by omega⟩
        rw [if_pos (anyB_m h10 (by omega))]
    · rw [if_neg (by rw [iI_eq (by omega) (by omega) (by omega) (by omega)]; exact q1), iI_0, iI_1, iI_add]
      exact ih (by rw [hmx]; unfold mlP; exact decide_eq_false (fun q => q1 q.1))
theorem cMild (hS : StAt h st S sa) (hw : WF S) {a b : Nat} (ha : a < S.n) (hb : b < S.n) : f_X2_isMild st (iI a) (iI b) h = some (iI (mlZ S a b)) := by
  obtain ⟨fs, h1⟩ := a_obj hS
  have hn := hw.2.1
  have b1 := sWS_b hw ha b
  have b2 := sWS_b hw ha a
  unfold f_X2_isMild
  rw [h1, gB_s, cWS hS hw ha (by omega), gB_s, cWf hS hw ha, gB_s, iI_sub]
  exact mildC_loop hS hw ha (by omega) (by omega) S.c 0 gN (by omega) (by unfold gN; have := hw.1; omega) rfl
theorem mildM_loop (hB : BlkAt m 0 S) (hw : WF S) {a b : Nat} (ha : a < S.n) (hb : b < S.n) : ∀ d i k : Nat, i + d = S.c → d < k → gL2 (f_X6_hasMildEnvy_L5 (iI a) (iI b) m) k (iI (mxZ S a b i)) (iI i) = some (iI (if sWS S a a < sWS S a b - mxZ S a b S.c then 0 else 1)) := by
  have hc := hw.1
  have hn := hw.2.1
  have b1 := sWS_b hw ha b
  have b2 := sWS_b hw ha a
  intro d
  induction d with
  | zero =>
    intro i k e hk
    obtain ⟨k, rfl⟩ : ∃ k', k = k' + 1 := ⟨k - 1, by omega⟩
    show f_X6_hasMildEnvy_L5 (iI a) (iI b) m (gL2 (f_X6_hasMildEnvy_L5 (iI a) (iI b) m) k) _ _ = _
    unfold f_X6_hasMildEnvy_L5 f_X6_hasMildEnvy_J51
    have e1 : i = S.c := by omega
    subst e1
    have b3 := mx_b hw ha b S.c (Nat.le_refl _)
    rw [iI_0, b_c hB, gB_s, if_pos (by rw [iI_le (by omega) (by omega) (by omega) (by omega)]; omega), mWS hB hw ha (by omega), gB_s, mWf hB hw ha, gB_s, iI_sub]
    simp (disch := omega) only [iI_lt, iI_1]
    split <;> rfl
  | succ d ih =>
    intro i k e hk
    obtain ⟨k, rfl⟩ : ∃ k', k = k' + 1 := ⟨k - 1, by omega⟩
    show f_X6_hasMildEnvy_L5 (iI a) (iI b) m (gL2 (f_X6_hasMildEnvy_L5 (iI a) (iI b) m) k) _ _ = _
    have ih := ih (i + 1) k (by omega) (by omega)
    generalize gL2 (f_X6_hasMildEnvy_L5 (iI a) (iI b) m) k = r at ih ⊢
    unfold f_X6_hasMildEnvy_L5
    have hi : i < S.c := by omega
    have ho2 := hw.2.2.1 i hi
    have hv := hw.2.2.2.1 a ha i hi
    have b3 := mx_b hw ha b i (by omega)
    rw [Int.natCast_add, Int.natCast_one] at ih
    rw [iI_0, b_c hB, gB_s, if_neg (by rw [iI_le (by omega) (by omega) (by omega) (by omega)]; omega), b_own hB hi hc.2, gB_s, ← ih]
    simp only [mxZ]
    by_cases q1 : S.ow i = b
    · rw [if_pos (by rw [q1]), if_pos q1, b_val hB ha hn.2 hi hc.2, gB_s, gB_s, iI_1, iI_add]
      simp (disch := omega) only [iI_le]
      split <;> rfl
    · rw [if_neg (by rw [iI_eq (by omega) (by omega) (by omega) (by omega)]; exact q1), if_neg q1, iI_1, iI_add]
theorem mMild (hB : BlkAt m 0 S) (hw : WF S) {a b : Nat} (ha : a < S.n) (hb : b < S.n) (he : eZ S a b = 1) : f_X6_hasMildEnvy (iI a) (iI b) m = some (iI (mlZ S a b)) := by
  have h1 := mildM_loop hB hw ha hb S.c 0 gN (by omega) (by unfold gN; have := hw.1; omega)
  have h2 : ¬ sWS S a b ≤ sWS S a a := by
    unfold eZ at he
    intro q
    rw [if_pos q] at he
    omega
  have h3 := mx_any (S := S) (s := a) (o := b) (ex := sWS S a b - sWS S a a) (by omega) S.c
  refine Eq.trans h1 ?_
  unfold mlZ
  by_cases q : anyB (mlP S a b (sWS S a b - sWS S a a)) S.c = true
  · have := h3.mp q
    rw [if_pos q, if_neg (by omega)]
  · have : ¬ sWS S a b - sWS S a a ≤ mxZ S a b S.c := fun z => q (h3.mpr z)
    rw [if_neg q, if_pos (by omega)]
theorem mlZ_01 (S : gS) (a b : Nat) : mlZ S a b = 0 ∨ mlZ S a b = 1 := by
  unfold mlZ
  split <;> simp
def seZ (S : gS) (a b : Nat) : Int := if eZ S a b = 0 then 0 else (if mlZ S a b = 0 then 1 else 0)
def senvZ (S : gS) : Int := sumZ (fun a => sumZ (seZ S a) S.n) S.n
theorem senC_in (hS : StAt h st S sa) (hw : WF S) (hO : CurAt h cd st) {a : Nat} (ha : a < S.n) {r4 : Int32 → Int32 → Option Int32} {acc : Int}  : ∀ d j k : Nat, j + d = S.n → d < k → gL2 (f_X1_strongEnvyCount_L17 r4 cd (iI a) h) k (iI (acc + sumZ (seZ S a) j)) (iI j) = r4 (iI (acc + sumZ (seZ S a) S.n)) (iI a + iI 1) := by
  obtain ⟨fs, h1⟩ := a_obj hS
  obtain ⟨fo, o1⟩ := cur_o hO
  have o2 := cur_s hO
  have hc := hw.1
  have hn := hw.2.1
  intro d
  induction d with
  | zero =>
    intro j k e hk
    obtain ⟨k, rfl⟩ : ∃ k', k = k' + 1 := ⟨k - 1, by omega⟩
    show f_X1_strongEnvyCount_L17 r4 cd (iI a) h (gL2 (f_X1_strongEnvyCount_L17 r4 cd (iI a) h) k) _ _ = _
    unfold f_X1_strongEnvyCount_L17
    have e1 : j = S.n := by omega
    subst e1
    rw [o2, gB_s, h1, gB_s, a_size hS, gB_s, if_pos (by rw [iI_le (by omega) (by omega) (by omega) (by omega)]; omega)] <;> rfl
  | succ d ih =>
    intro j k e hk
    obtain ⟨k, rfl⟩ : ∃ k', k = k' + 1 := ⟨k - 1, by omega⟩
    show f_X1_strongEnvyCount_L17 r4 cd (iI a) h (gL2 (f_X1_strongEnvyCount_L17 r4 cd (iI a) h) k) _ _ = _
    have ih := ih (j + 1) k (by omega) (by omega)
    generalize gL2 (f_X1_strongEnvyCount_L17 r4 cd (iI a) h) k = r at ih ⊢
    unfold f_X1_strongEnvyCount_L17
    have hi : j < S.n := by omega
    have hle : ¬ ((S.n : Int) ≤ (j : Int)) := by omega
    have q0 := eZ_01 S a j
    have q6 := mlZ_01 S a j
    simp (disch := omega) only [o2, h1, a_size hS, cEnv hS hw ha hi, cMild hS hw ha hi, gB_s, iI_le, iI_lt, iI_eq, hle, if_false, iI_add, iI_sub, iI_mul, iI_0, iI_1, iI_n1, iI_2, iI_3, iI_4, iI_5, iI_6, iI_7, iI_8, iI_9, iI_10, iI_20, iI_24, iI_25, iI_26, iI_31, iI_32, iI_39, iI_45, iI_48, iI_57, iI_59, iI_97, iI_122, iI_212, iI_217, iI_240, iI_255, iI_600, iI_2147483647, Int.natCast_add, Int.natCast_one] at ih ⊢
    simp only [sumZ, seZ] at ih
    have q := eZ_01 S a j
    have q3 := mlZ_01 S a j
    by_cases q1 : eZ S a j = 0
    · simp only [q1, if_true, Int.add_zero] at ih ⊢; exact ih
    · have q2 : eZ S a j = 1 := by omega
      have e9 : ¬ ((1 : Int) = 0) := by decide
      simp only [q2, e9, if_false, cMild hS hw ha hi] at ih ⊢
      by_cases q4 : mlZ S a j = 0
      · simp only [q4, if_true, ← Int.add_assoc] at ih ⊢; exact ih
      · have q5 : mlZ S a j = 1 := by omega
        simp (disch := omega) only [q5, e9, if_false, Int.add_zero, iI_0, iI_eq] at ih ⊢; exact ih
theorem senC_loop (hS : StAt h st S sa) (hw : WF S) (hO : CurAt h cd st) : ∀ d i k : Nat, i + d = S.n → d < k → gL2 (f_X1_strongEnvyCount_L4 cd h) k (iI (sumZ (fun a => sumZ (seZ S a) S.n) i)) (iI i) = some (iI (sumZ (fun a => sumZ (seZ S a) S.n) S.n)) := by
  obtain ⟨fs, h1⟩ := a_obj hS
  obtain ⟨fo, o1⟩ := cur_o hO
  have o2 := cur_s hO
  have hc := hw.1
  have hn := hw.2.1
  intro d
  induction d with
  | zero =>
    intro i k e hk
    obtain ⟨k, rfl⟩ : ∃ k', k = k' + 1 := ⟨k - 1, by omega⟩
    show f_X1_strongEnvyCount_L4 cd h (gL2 (f_X1_strongEnvyCount_L4 cd h) k) (iI (sumZ (fun a => sumZ (seZ S a) S.n) i)) (iI i) = _
    unfold f_X1_strongEnvyCount_L4
    have e1 : i = S.n := by omega
    subst e1
    rw [o2, gB_s, h1, gB_s, a_size hS, gB_s, if_pos (by rw [iI_le (by omega) (by omega) (by omega) (by omega)]; omega)]
  | succ d ih =>
    intro i k e hk
    obtain ⟨k, rfl⟩ : ∃ k', k = k' + 1 := ⟨k - 1, by omega⟩
    show f_X1_strongEnvyCount_L4 cd h (gL2 (f_X1_strongEnvyCount_L4 cd h) k) (iI (sumZ (fun a => sumZ (seZ S a) S.n) i)) (iI i) = _
    have ih := ih (i + 1) k (by omega) (by omega)
    generalize gL2 (f_X1_strongEnvyCount_L4 cd h) k = r at ih ⊢
    unfold f_X1_strongEnvyCount_L4
    have hi : i < S.n := by omega
    have hle : ¬ ((S.n : Int) ≤ (i : Int)) := by omega
    have h9 := senC_in hS hw hO hi (r4 := r) (acc := sumZ (fun a => sumZ (seZ S a) S.n) i) S.n 0 gN (by omega) (by unfold gN; have := hw.2.1; omega)
    simp only [sumZ, Int.add_zero] at h9
    rw [o2, gB_s, h1, gB_s, a_size hS, gB_s, if_neg (by rw [iI_le (by omega) (by omega) (by omega) (by omega)]; omega)]
    refine Eq.trans h9 ?_
    rw [iI_add]
    simp only [sumZ, Int.natCast_add, Int.natCast_one] at ih
    exact ih

theorem senM_in (hB : BlkAt m 0 S) (hw : WF S) {a : Nat} (ha : a < S.n) {r4 : Int32 → Int32 → Option (Int32 × Int32)} {acc : Int} {iT : Int32}  : ∀ d j k : Nat, j + d = S.n → d < k → gL2 (f_X6_strongEnvyCount_L21 r4 (iI a) m iT) k (iI (acc + sumZ (seZ S a) j)) (iI j) = r4 (iI (acc + sumZ (seZ S a) S.n)) (iI a + iI 1) := by
  have hc := hw.1
  have hn := hw.2.1
  intro d
  induction d with
  | zero =>
    intro j k e hk
    obtain ⟨k, rfl⟩ : ∃ k', k = k' + 1 := ⟨k - 1, by omega⟩
    show f_X6_strongEnvyCount_L21 r4 (iI a) m iT (gL2 (f_X6_strongEnvyCount_L21 r4 (iI a) m iT) k) _ _ = _
    unfold f_X6_strongEnvyCount_L21
    have e1 : j = S.n := by omega
    subst e1
    rw [iI_1, b_n hB, gB_s, if_pos (by rw [iI_le (by omega) (by omega) (by omega) (by omega)]; omega)] <;> rfl
  | succ d ih =>
    intro j k e hk
    obtain ⟨k, rfl⟩ : ∃ k', k = k' + 1 := ⟨k - 1, by omega⟩
    show f_X6_strongEnvyCount_L21 r4 (iI a) m iT (gL2 (f_X6_strongEnvyCount_L21 r4 (iI a) m iT) k) _ _ = _
    have ih := ih (j + 1) k (by omega) (by omega)
    generalize gL2 (f_X6_strongEnvyCount_L21 r4 (iI a) m iT) k = r at ih ⊢
    unfold f_X6_strongEnvyCount_L21
    have hi : j < S.n := by omega
    have hle : ¬ ((S.n : Int) ≤ (j : Int)) := by omega
    have q0 := eZ_01 S a j
    have q6 := mlZ_01 S a j
    simp (disch := omega) only [b_n hB, mEnv hB hw ha hi, gB_s, iI_le, iI_lt, iI_eq, hle, if_false, iI_add, iI_sub, iI_mul, iI_0, iI_1, iI_n1, iI_2, iI_3, iI_4, iI_5, iI_6, iI_7, iI_8, iI_9, iI_10, iI_20, iI_24, iI_25, iI_26, iI_31, iI_32, iI_39, iI_45, iI_48, iI_57, iI_59, iI_97, iI_122, iI_212, iI_217, iI_240, iI_255, iI_600, iI_2147483647, Int.natCast_add, Int.natCast_one] at ih ⊢
    simp only [sumZ, seZ] at ih
    have q := eZ_01 S a j
    have q3 := mlZ_01 S a j
    by_cases q1 : eZ S a j = 0
    · simp only [q1, if_true, Int.add_zero] at ih ⊢; exact ih
    · have q2 : eZ S a j = 1 := by omega
      have e9 : ¬ ((1 : Int) = 0) := by decide
      simp only [q2, e9, if_false, gB_s] at ih ⊢
      rw [mMild hB hw ha hi q2, gB_s]
      by_cases q4 : mlZ S a j = 0
      · simp only [q4, if_true, ← Int.add_assoc] at ih ⊢; exact ih
      · have q5 : mlZ S a j = 1 := by omega
        simp (disch := omega) only [q5, e9, if_false, Int.add_zero, iI_0, iI_eq] at ih ⊢; exact ih
theorem senM_loop (hB : BlkAt m 0 S) (hw : WF S) {iT : Int32} : ∀ d i k : Nat, i + d = S.n → d < k → gL2 (f_X6_strongEnvyCount_L9 m iT) k (iI (sumZ (fun a => sumZ (seZ S a) S.n) i)) (iI i) = some (iI (sumZ (fun a => sumZ (seZ S a) S.n) S.n), iT) := by
  have hc := hw.1
  have hn := hw.2.1
  intro d
  induction d with
  | zero =>
    intro i k e hk
    obtain ⟨k, rfl⟩ : ∃ k', k = k' + 1 := ⟨k - 1, by omega⟩
    show f_X6_strongEnvyCount_L9 m iT (gL2 (f_X6_strongEnvyCount_L9 m iT) k) (iI (sumZ (fun a => sumZ (seZ S a) S.n) i)) (iI i) = _
    unfold f_X6_strongEnvyCount_L9
    have e1 : i = S.n := by omega
    subst e1
    rw [iI_1, b_n hB, gB_s, if_pos (by rw [iI_le (by omega) (by omega) (by omega) (by omega)]; omega)]
  | succ d ih =>
    intro i k e hk
    obtain ⟨k, rfl⟩ : ∃ k', k = k' + 1 := ⟨k - 1, by omega⟩
    show f_X6_strongEnvyCount_L9 m iT (gL2 (f_X6_strongEnvyCount_L9 m iT) k) (iI (sumZ (fun a => sumZ (seZ S a) S.n) i)) (iI i) = _
    have ih := ih (i + 1) k (by omega) (by omega)
    generalize gL2 (f_X6_strongEnvyCount_L9 m iT) k = r at ih ⊢
    unfold f_X6_strongEnvyCount_L9
    have hi : i < S.n := by omega
    have hle : ¬ ((S.n : Int) ≤ (i : Int)) := by omega
    have h9 := senM_in hB hw hi (r4 := r) (acc := sumZ (fun a => sumZ (seZ S a) S.n) i) (iT := iT) S.n 0 gN (by omega) (by unfold gN; have := hw.2.1; omega)
    simp only [sumZ, Int.add_zero] at h9
    rw [iI_1, b_n hB, gB_s, if_neg (by rw [iI_le (by omega) (by omega) (by omega) (by omega)]; omega)]
    refine Eq.trans h9 ?_
    rw [iI_add]
    simp only [sumZ, Int.natCast_add, Int.natCast_one] at ih
    exact ih

theorem cSen (hS : StAt h st S sa) (hw : WF S) (hO : CurAt h cd st) : f_X1_strongEnvyCount cd h = some (iI (senvZ S)) := senC_loop hS hw hO S.n 0 gN (by omega) (by unfold gN; have := hw.2.1; omega)
theorem mSen (hB : BlkAt m 0 S) (hw : WF S) {iT : Int32} : f_X6_strongEnvyCount m iT = some (iI (senvZ S), 0) := senM_loop hB hw S.n 0 gN (by omega) (by unfold gN; have := hw.2.1; omega)
end RD4
