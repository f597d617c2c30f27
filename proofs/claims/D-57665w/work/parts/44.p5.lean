/-! READS, 4 -/
section RD5
variable {h : gH} {st cd : Nat} {S : gS} {sa : Nat → Nat} {m : Nat → Int32}
theorem mosC_loop (hS : StAt h st S sa) (hw : WF S) (hO : CurAt h cd st) : ∀ d i k : Nat, i + d = S.n - 1 → d < k → gL2 (f_X1_mostEnvied_L4 cd h) k (iI (mostE S i : Nat)) (iI ((i : Int) + 1)) = some (iI (mostE S (S.n - 1) : Nat)) := by
  obtain ⟨fs, h1⟩ := a_obj hS
  obtain ⟨fo, o1⟩ := cur_o hO
  have o2 := cur_s hO
  have hc := hw.1
  have hn := hw.2.1
  intro d
  induction d with
  | zero =>
    intro i k e hk
    obtain ⟨k, rfl⟩ : ∃ k', k = k' + 1 := ⟨k - 1, by omega⟩
    show f_X1_mostEnvied_L4 cd h (gL2 (f_X1_mostEnvied_L4 cd h) k) (iI (mostE S i : Nat)) (iI ((i : Int) + 1)) = _
    unfold f_X1_mostEnvied_L4
    have e1 : i = S.n - 1 := by omega
    subst e1
    rw [o2, gB_s, h1, gB_s, a_size hS, gB_s, if_pos (by rw [iI_le (by omega) (by omega) (by omega) (by omega)]; omega)]
  | succ d ih =>
    intro i k e hk
    obtain ⟨k, rfl⟩ : ∃ k', k = k' + 1 := ⟨k - 1, by omega⟩
    show f_X1_mostEnvied_L4 cd h (gL2 (f_X1_mostEnvied_L4 cd h) k) (iI (mostE S i : Nat)) (iI ((i : Int) + 1)) = _
    have ih := ih (i + 1) k (by omega) (by omega)
    generalize gL2 (f_X1_mostEnvied_L4 cd h) k = r at ih ⊢
    unfold f_X1_mostEnvied_L4
    rw [Int.natCast_add, Int.natCast_one] at ih
    have q1 := enrZ_b hw (S := S) (i + 1)
    have q2 := enrZ_b hw (S := S) (mostE S i)
    have q3 := mostE_le S i
    have e9 : ((i : Int) + 1) = ((i + 1 : Nat) : Int) := by omega
    rw [o2, gB_s, h1, gB_s, a_size hS, gB_s, if_neg (by rw [iI_le (by omega) (by omega) (by omega) (by omega)]; omega), o1, gB_s, e9, cEnr hS hw hO (by omega), gB_s, cEnr hS hw hO (by omega), gB_s, iI_1, iI_add, ← ih]
    simp only [mostE]
    simp (disch := omega) only [iI_le]
    by_cases q : enrZ S (i + 1) ≤ enrZ S (mostE S i)
    · rw [if_pos q, if_pos q]; simp
    · rw [if_neg q, if_neg q]; simp

theorem mosM_loop (hB : BlkAt m 0 S) (hw : WF S) {iT : Int32} : ∀ d i k : Nat, i + d = S.n - 1 → d < k → gL2 (f_X6_mostEnvied_L9 m iT) k (iI (mostE S i : Nat)) (iI ((i : Int) + 1)) = some (iI (mostE S (S.n - 1) : Nat), iT) := by
  have hc := hw.1
  have hn := hw.2.1
  intro d
  induction d with
  | zero =>
    intro i k e hk
    obtain ⟨k, rfl⟩ : ∃ k', k = k' + 1 := ⟨k - 1, by omega⟩
    show f_X6_mostEnvied_L9 m iT (gL2 (f_X6_mostEnvied_L9 m iT) k) (iI (mostE S i : Nat)) (iI ((i : Int) + 1)) = _
    unfold f_X6_mostEnvied_L9
    have e1 : i = S.n - 1 := by omega
    subst e1
    rw [iI_1, b_n hB, gB_s, if_pos (by rw [iI_le (by omega) (by omega) (by omega) (by omega)]; omega)]
  | succ d ih =>
    intro i k e hk
    obtain ⟨k, rfl⟩ : ∃ k', k = k' + 1 := ⟨k - 1, by omega⟩
    show f_X6_mostEnvied_L9 m iT (gL2 (f_X6_mostEnvied_L9 m iT) k) (iI (mostE S i : Nat)) (iI ((i : Int) + 1)) = _
    have ih := ih (i + 1) k (by omega) (by omega)
    generalize gL2 (f_X6_mostEnvied_L9 m iT) k = r at ih ⊢
    unfold f_X6_mostEnvied_L9
    rw [Int.natCast_add, Int.natCast_one] at ih
    have q1 := enrZ_b hw (S := S) (i + 1)
    have q2 := enrZ_b hw (S := S) (mostE S i)
    have q3 := mostE_le S i
    have e9 : ((i : Int) + 1) = ((i + 1 : Nat) : Int) := by omega
    rw [iI_1, b_n hB, gB_s, if_neg (by rw [iI_le (by omega) (by omega) (by omega) (by omega)]; omega),  e9, mEnr hB hw (by omega), gB_s, mEnr hB hw (by omega), gB_s, iI_add, ← ih]
    simp only [mostE]
    simp (disch := omega) only [iI_le]
    by_cases q : enrZ S (i + 1) ≤ enrZ S (mostE S i)
    · rw [if_pos q, if_pos q]; simp
    · rw [if_neg q, if_neg q]; simp

theorem cMos (hS : StAt h st S sa) (hw : WF S) (hO : CurAt h cd st) : f_X1_mostEnvied cd h = some (iI (mostE S (S.n - 1) : Nat)) := mosC_loop hS hw hO (S.n - 1) 0 gN (by omega) (by unfold gN; have := hw.2.1; omega)
theorem mMos (hB : BlkAt m 0 S) (hw : WF S) {iT : Int32} : f_X6_mostEnvied m iT = some (iI (mostE S (S.n - 1) : Nat), 0) := mosM_loop hB hw (S.n - 1) 0 gN (by omega) (by unfold gN; have := hw.2.1; omega)
theorem twC_loop (hS : StAt h st S sa) (hw : WF S) (hO : CurAt h cd st) : ∀ d i k : Nat, i + d = S.n → d < k → gL2 (f_X1_totalWelfare_L4 cd h) k (iI (sumZ (fun s => sWS S s s) i)) (iI i) = some (iI (sumZ (fun s => sWS S s s) S.n)) := by
  obtain ⟨fs, h1⟩ := a_obj hS
  obtain ⟨fo, o1⟩ := cur_o hO
  have o2 := cur_s hO
  have hc := hw.1
  have hn := hw.2.1
  intro d
  induction d with
  | zero =>
    intro i k e hk
    obtain ⟨k, rfl⟩ : ∃ k', k = k' + 1 := ⟨k - 1, by omega⟩
    show f_X1_totalWelfare_L4 cd h (gL2 (f_X1_totalWelfare_L4 cd h) k) (iI (sumZ (fun s => sWS S s s) i)) (iI i) = _
    unfold f_X1_totalWelfare_L4
    have e1 : i = S.n := by omega
    subst e1
    rw [o2, gB_s, h1, gB_s, a_size hS, gB_s, if_pos (by rw [iI_le (by omega) (by omega) (by omega) (by omega)]; omega)]
  | succ d ih =>
    intro i k e hk
    obtain ⟨k, rfl⟩ : ∃ k', k = k' + 1 := ⟨k - 1, by omega⟩
    show f_X1_totalWelfare_L4 cd h (gL2 (f_X1_totalWelfare_L4 cd h) k) (iI (sumZ (fun s => sWS S s s) i)) (iI i) = _
    have ih := ih (i + 1) k (by omega) (by omega)
    generalize gL2 (f_X1_totalWelfare_L4 cd h) k = r at ih ⊢
    unfold f_X1_totalWelfare_L4
    have hi : i < S.n := by omega
    have hle : ¬ ((S.n : Int) ≤ (i : Int)) := by omega
    simp (disch := omega) only [o2, h1, a_size hS, cWf hS hw hi, gB_s, iI_le, iI_lt, iI_eq, hle, if_false, iI_add, iI_sub, iI_mul, iI_0, iI_1, iI_n1, iI_2, iI_3, iI_4, iI_5, iI_6, iI_7, iI_8, iI_9, iI_10, iI_20, iI_24, iI_25, iI_26, iI_31, iI_32, iI_39, iI_45, iI_48, iI_57, iI_59, iI_97, iI_122, iI_212, iI_217, iI_240, iI_255, iI_600, iI_2147483647, Int.natCast_add, Int.natCast_one] at ih ⊢
    rw [← ih]
    simp only [sumZ]

theorem twM_loop (hB : BlkAt m 0 S) (hw : WF S) {iT : Int32} : ∀ d i k : Nat, i + d = S.n → d < k → gL2 (f_X6_totalWelfare_L9 m iT) k (iI (sumZ (fun s => sWS S s s) i)) (iI i) = some (iI (sumZ (fun s => sWS S s s) S.n), iT) := by
  have hc := hw.1
  have hn := hw.2.1
  intro d
  induction d with
  | zero =>
    intro i k e hk
    obtain ⟨k, rfl⟩ : ∃ k', k = k' + 1 := ⟨k - 1, by omega⟩
    show f_X6_totalWelfare_L9 m iT (gL2 (f_X6_totalWelfare_L9 m iT) k) (iI (sumZ (fun s => sWS S s s) i)) (iI i) = _
    unfold f_X6_totalWelfare_L9
    have e1 : i = S.n := by omega
    subst e1
    rw [iI_1, b_n hB, gB_s, if_pos (by rw [iI_le (by omega) (by omega) (by omega) (by omega)]; omega)]
  | succ d ih =>
    intro i k e hk
    obtain ⟨k, rfl⟩ : ∃ k', k = k' + 1 := ⟨k - 1, by omega⟩
    show f_X6_totalWelfare_L9 m iT (gL2 (f_X6_totalWelfare_L9 m iT) k) (iI (sumZ (fun s => sWS S s s) i)) (iI i) = _
    have ih := ih (i + 1) k (by omega) (by omega)
    generalize gL2 (f_X6_totalWelfare_L9 m iT) k = r at ih ⊢
    unfold f_X6_totalWelfare_L9
    have hi : i < S.n := by omega
    have hle : ¬ ((S.n : Int) ≤ (i : Int)) := by omega
    simp (disch := omega) only [b_n hB, mWf hB hw hi, gB_s, iI_le, iI_lt, iI_eq, hle, if_false, iI_add, iI_sub, iI_mul, iI_0, iI_1, iI_n1, iI_2, iI_3, iI_4, iI_5, iI_6, iI_7, iI_8, iI_9, iI_10, iI_20, iI_24, iI_25, iI_26, iI_31, iI_32, iI_39, iI_45, iI_48, iI_57, iI_59, iI_97, iI_122, iI_212, iI_217, iI_240, iI_255, iI_600, iI_2147483647, Int.natCast_add, Int.natCast_one] at ih ⊢
    rw [← ih]
    simp only [sumZ]

theorem cTw (hS : StAt h st S sa) (hw : WF S) (hO : CurAt h cd st) : f_X1_totalWelfare cd h = some (iI (sumZ (fun s => sWS S s s) S.n)) := twC_loop hS hw hO S.n 0 gN (by omega) (by unfold gN; have := hw.2.1; omega)
theorem mTw (hB : BlkAt m 0 S) (hw : WF S) {iT : Int32} : f_X6_totalWelfare m iT = some (iI (sumZ (fun s => sWS S s s) S.n), 0) := twM_loop hB hw S.n 0 gN (by omega) (by unfold gN; have := hw.2.1; omega)
def lwZ (S : gS) : Nat → Int
  | 0 => sWS S 0 0
  | k + 1 => if sWS S (k + 1) (k + 1 : Nat) < lwZ S k then sWS S (k + 1) (k + 1 : Nat) else lwZ S k
theorem lwZ_b {S : gS} (hw : WF S) : ∀ k, k < S.n → 0 ≤ lwZ S k ∧ lwZ S k ≤ 216 := by
  intro k
  induction k with
  | zero => intro h; exact sWS_b hw h 0
  | succ k ih =>
    intro h
    have h1 := ih (by omega)
    have h2 := sWS_b hw h (k + 1 : Nat)
    simp only [lwZ]
    split <;> omega
theorem lwC_loop (hS : StAt h st S sa) (hw : WF S) : ∀ d i k : Nat, i + d = S.n - 1 → d < k → gL2 (f_X2_leastWelfare_L8 st h) k (iI (lwZ S i)) (iI ((i : Int) + 1)) = some (iI (lwZ S (S.n - 1))) := by
  obtain ⟨fs, h1⟩ := a_obj hS
  have hc := hw.1
  have hn := hw.2.1
  intro d
  induction d with
  | zero =>
    intro i k e hk
    obtain ⟨k, rfl⟩ : ∃ k', k = k' + 1 := ⟨k - 1, by omega⟩
    show f_X2_leastWelfare_L8 st h (gL2 (f_X2_leastWelfare_L8 st h) k) (iI (lwZ S i)) (iI ((i : Int) + 1)) = _
    unfold f_X2_leastWelfare_L8
    have e1 : i = S.n - 1 := by omega
    subst e1
    rw [h1, gB_s, a_size hS, gB_s, if_pos (by rw [iI_le (by omega) (by omega) (by omega) (by omega)]; omega)]
  | succ d ih =>
    intro i k e hk
    obtain ⟨k, rfl⟩ : ∃ k', k = k' + 1 := ⟨k - 1, by omega⟩
    show f_X2_leastWelfare_L8 st h (gL2 (f_X2_leastWelfare_L8 st h) k) (iI (lwZ S i)) (iI ((i : Int) + 1)) = _
    have ih := ih (i + 1) k (by omega) (by omega)
    generalize gL2 (f_X2_leastWelfare_L8 st h) k = r at ih ⊢
    unfold f_X2_leastWelfare_L8
    rw [Int.natCast_add, Int.natCast_one] at ih
    have q1 := sWS_b hw (show i + 1 < S.n by omega) (i + 1 : Nat)
    have q2 := lwZ_b hw i (by omega)
    have e9 : ((i : Int) + 1) = ((i + 1 : Nat) : Int) := by omega
    rw [h1, gB_s, a_size hS, gB_s, if_neg (by rw [iI_le (by omega) (by omega) (by omega) (by omega)]; omega), e9, cWf hS hw (by omega), gB_s, iI_1, iI_add, ← ih]
    simp only [lwZ]
    simp (disch := omega) only [iI_lt]
    split <;> simp

theorem lwM_loop (hB : BlkAt m 0 S) (hw : WF S) : ∀ d i k : Nat, i + d = S.n - 1 → d < k → gL2 (f_X6_least_L8 m) k (iI (lwZ S i)) (iI ((i : Int) + 1)) = some (iI (lwZ S (S.n - 1))) := by
  have hc := hw.1
  have hn := hw.2.1
  intro d
  induction d with
  | zero =>
    intro i k e hk
    obtain ⟨k, rfl⟩ : ∃ k', k = k' + 1 := ⟨k - 1, by omega⟩
    show f_X6_least_L8 m (gL2 (f_X6_least_L8 m) k) (iI (lwZ S i)) (iI ((i : Int) + 1)) = _
    unfold f_X6_least_L8
    have e1 : i = S.n - 1 := by omega
    subst e1
    rw [iI_1, b_n hB, gB_s, if_pos (by rw [iI_le (by omega) (by omega) (by omega) (by omega)]; omega)]
  | succ d ih =>
    intro i k e hk
    obtain ⟨k, rfl⟩ : ∃ k', k = k' + 1 := ⟨k - 1, by omega⟩
    show f_X6_least_L8 m (gL2 (f_X6_least_L8 m) k) (iI (lwZ S i)) (iI ((i : Int) + 1)) = _
    have ih := ih (i + 1) k (by omega) (by omega)
    generalize gL2 (f_X6_least_L8 m) k = r at ih ⊢
    unfold f_X6_least_L8
    rw [Int.natCast_add, Int.natCast_one] at ih
    have q1 := sWS_b hw (show i + 1 < S.n by omega) (i + 1 : Nat)
    have q2 := lwZ_b hw i (by omega)
    have e9 : ((i : Int) + 1) = ((i + 1 : Nat) : Int) := by omega
    rw [iI_1, b_n hB, gB_s, if_neg (by rw [iI_le (by omega) (by omega) (by omega) (by omega)]; omega), e9, mWf hB hw (by omega), gB_s, gB_s, iI_add, ← ih]
    simp only [lwZ]
    by_cases q : sWS S (i + 1) (i + 1 : Nat) < lwZ S i
    · rw [if_pos q, if_neg (by rw [iI_le (by omega) (by omega) (by omega) (by omega)]; omega)]; simp
    · rw [if_neg q, if_pos (by rw [iI_le (by omega) (by omega) (by omega) (by omega)]; omega)]; simp

theorem cLw (hS : StAt h st S sa) (hw : WF S) : f_X2_leastWelfare st h = some (iI (lwZ S (S.n - 1))) := by
  obtain ⟨fs, h1⟩ := a_obj hS
  have hn := hw.2.1
  unfold f_X2_leastWelfare
  rw [h1, gB_s]
  show Option.bind (f_X2_welfare st (iI (0 : Nat)) h) _ = _
  rw [cWf hS hw (by omega), gB_s]
  exact lwC_loop hS hw (S.n - 1) 0 gN (by omega) (by unfold gN; have := hw.2.1; omega)
theorem mLw (hB : BlkAt m 0 S) (hw : WF S) : f_X6_least m = some (iI (lwZ S (S.n - 1))) := by
  have hn := hw.2.1
  unfold f_X6_least
  show Option.bind (f_X6_welfareOf (iI (0 : Nat)) m) _ = _
  rw [mWf hB hw (by omega), gB_s]
  exact lwM_loop hB hw (S.n - 1) 0 gN (by omega) (by unfold gN; have := hw.2.1; omega)
def wpZ (S : gS) : Nat → Int64
  | 0 => 1
  | k + 1 => wpZ S k * (iI (sWS S k k)).toInt64
theorem wpC_loop (hS : StAt h st S sa) (hw : WF S) (hO : CurAt h cd st) : ∀ d i k : Nat, i + d = S.n → d < k → gL2 (f_X1_welfareProduct_L4 cd h) k (wpZ S i) (iI i) = some (wpZ S S.n) := by
  obtain ⟨fs, h1⟩ := a_obj hS
  obtain ⟨fo, o1⟩ := cur_o hO
  have o2 := cur_s hO
  have hc := hw.1
  have hn := hw.2.1
  intro d
  induction d with
  | zero =>
    intro i k e hk
    obtain ⟨k, rfl⟩ : ∃ k', k = k' + 1 := ⟨k - 1, by omega⟩
    show f_X1_welfareProduct_L4 cd h (gL2 (f_X1_welfareProduct_L4 cd h) k) (wpZ S i) (iI i) = _
    unfold f_X1_welfareProduct_L4
    have e1 : i = S.n := by omega
    subst e1
    rw [o2, gB_s, h1, gB_s, a_size hS, gB_s, if_pos (by rw [iI_le (by omega) (by omega) (by omega) (by omega)]; omega)]
  | succ d ih =>
    intro i k e hk
    obtain ⟨k, rfl⟩ : ∃ k', k = k' + 1 := ⟨k - 1, by omega⟩
    show f_X1_welfareProduct_L4 cd h (gL2 (f_X1_welfareProduct_L4 cd h) k) (wpZ S i) (iI i) = _
    have ih := ih (i + 1) k (by omega) (by omega)
    generalize gL2 (f_X1_welfareProduct_L4 cd h) k = r at ih ⊢
    unfold f_X1_welfareProduct_L4
    have hi : i < S.n := by omega
    have hle : ¬ ((S.n : Int) ≤ (i : Int)) := by omega
    simp (disch := omega) only [o2, h1, a_size hS, cWf hS hw hi, gB_s, iI_le, iI_lt, iI_eq, hle, if_false, iI_add, iI_sub, iI_mul, iI_0, iI_1, iI_n1, iI_2, iI_3, iI_4, iI_5, iI_6, iI_7, iI_8, iI_9, iI_10, iI_20, iI_24, iI_25, iI_26, iI_31, iI_32, iI_39, iI_45, iI_48, iI_57, iI_59, iI_97, iI_122, iI_212, iI_217, iI_240, iI_255, iI_600, iI_2147483647, Int.natCast_add, Int.natCast_one] at ih ⊢
    rw [← ih]
    simp only [wpZ]

theorem wpM_loop (hB : BlkAt m 0 S) (hw : WF S) {iT : Int32} : ∀ d i k : Nat, i + d = S.n → d < k → gL2 (f_X6_welfareProduct_L9 m iT) k (wpZ S i) (iI i) = some (wpZ S S.n, iT) := by
  have hc := hw.1
  have hn := hw.2.1
  intro d
  induction d with
  | zero =>
    intro i k e hk
    obtain ⟨k, rfl⟩ : ∃ k', k = k' + 1 := ⟨k - 1, by omega⟩
    show f_X6_welfareProduct_L9 m iT (gL2 (f_X6_welfareProduct_L9 m iT) k) (wpZ S i) (iI i) = _
    unfold f_X6_welfareProduct_L9
    have e1 : i = S.n := by omega
    subst e1
    rw [iI_1, b_n hB, gB_s, if_pos (by rw [iI_le (by omega) (by omega) (by omega) (by omega)]; omega)]
  | succ d ih =>
    intro i k e hk
    obtain ⟨k, rfl⟩ : ∃ k', k = k' + 1 := ⟨k - 1, by omega⟩
    show f_X6_welfareProduct_L9 m iT (gL2 (f_X6_welfareProduct_L9 m iT) k) (wpZ S i) (iI i) = _
    have ih := ih (i + 1) k (by omega) (by omega)
    generalize gL2 (f_X6_welfareProduct_L9 m iT) k = r at ih ⊢
    unfold f_X6_welfareProduct_L9
    have hi : i < S.n := by omega
    have hle : ¬ ((S.n : Int) ≤ (i : Int)) := by omega
    simp (disch := omega) only [b_n hB, mWf hB hw hi, gB_s, iI_le, iI_lt, iI_eq, hle, if_false, iI_add, iI_sub, iI_mul, iI_0, iI_1, iI_n1, iI_2, iI_3, iI_4, iI_5, iI_6, iI_7, iI_8, iI_9, iI_10, iI_20, iI_24, iI_25, iI_26, iI_31, iI_32, iI_39, iI_45, iI_48, iI_57, iI_59, iI_97, iI_122, iI_212, iI_217, iI_240, iI_255, iI_600, iI_2147483647, Int.natCast_add, Int.natCast_one] at ih ⊢
    rw [← ih]
    simp only [wpZ]

theorem cWp (hS : StAt h st S sa) (hw : WF S) (hO : CurAt h cd st) : f_X1_welfareProduct cd h = some (wpZ S S.n) := wpC_loop hS hw hO S.n 0 gN (by omega) (by unfold gN; have := hw.2.1; omega)
theorem mWp (hB : BlkAt m 0 S) (hw : WF S) {iT : Int32} : f_X6_welfareProduct m iT = some (wpZ S S.n, 0) := wpM_loop hB hw S.n 0 gN (by omega) (by unfold gN; have := hw.2.1; omega)
def gvZ (S : gS) (c : Nat) : Nat → Int
  | 0 => 0
  | k + 1 => if gvZ S c k < S.v k c then S.v k c else gvZ S c k
theorem gvZ_b {S : gS} (hw : WF S) {c : Nat} (hc : c < S.c) : ∀ k, k ≤ S.n → 0 ≤ gvZ S c k ∧ gvZ S c k ≤ 9 := by
  intro k
  induction k with
  | zero => intro _; simp [gvZ]
  | succ k ih =>
    intro h
    have h1 := ih (by omega)
    have h2 := hw.2.2.2.1 k (by omega) c hc
    simp only [gvZ]
    split <;> omega
theorem gvC_loop (hS : StAt h st S sa) (hw : WF S) (hO : CurAt h cd st) {c : Nat} (hcc : c < S.c) : ∀ d i k : Nat, i + d = S.n → d < k → gL2 (f_X1_greatestValue_L4 cd (iI c) h) k (iI (gvZ S c i)) (iI i) = some (iI (gvZ S c S.n)) := by
  obtain ⟨fs, h1⟩ := a_obj hS
  obtain ⟨fo, o1⟩ := cur_o hO
  have o2 := cur_s hO
  have hc := hw.1
  have hn := hw.2.1
  intro d
  induction d with
  | zero =>
    intro i k e hk
    obtain ⟨k, rfl⟩ : ∃ k', k = k' + 1 := ⟨k - 1, by omega⟩
    show f_X1_greatestValue_L4 cd (iI c) h (gL2 (f_X1_greatestValue_L4 cd (iI c) h) k) (iI (gvZ S c i)) (iI i) = _
    unfold f_X1_greatestValue_L4
    have e1 : i = S.n := by omega
    subst e1
    rw [o2, gB_s, h1, gB_s, a_size hS, gB_s, if_pos (by rw [iI_le (by omega) (by omega) (by omega) (by omega)]; omega)]
  | succ d ih =>
    intro i k e hk
    obtain ⟨k, rfl⟩ : ∃ k', k = k' + 1 := ⟨k - 1, by omega⟩
    show f_X1_greatestValue_L4 cd (iI c) h (gL2 (f_X1_greatestValue_L4 cd (iI c) h) k) (iI (gvZ S c i)) (iI i) = _
    have ih := ih (i + 1) k (by omega) (by omega)
    generalize gL2 (f_X1_greatestValue_L4 cd (iI c) h) k = r at ih ⊢
    unfold f_X1_greatestValue_L4
    rw [Int.natCast_add, Int.natCast_one] at ih
    have hi : i < S.n := by omega
    obtain ⟨fs2, h2⟩ := a_sobj hS hi
    have q1 := gvZ_b hw hcc i (by omega)
    have q2 := hw.2.2.2.1 i hi c hcc
    rw [o2, gB_s, h1, gB_s, a_size hS, gB_s, if_neg (by rw [iI_le (by omega) (by omega) (by omega) (by omega)]; omega), gB_s, h1, gB_s, a_sib hS hi hn.2, gB_s, h2, gB_s, a_value hS hi hcc hc.2, gB_s, iI_1, iI_add, ← ih]
    simp only [gvZ]
    simp (disch := omega) only [iI_lt]
    split <;> rfl

theorem cGv (hS : StAt h st S sa) (hw : WF S) (hO : CurAt h cd st) {c : Nat} (hcc : c < S.c) : f_X1_greatestValue cd (iI c) h = some (iI (gvZ S c S.n)) := gvC_loop hS hw hO hcc S.n 0 gN (by omega) (by unfold gN; have := hw.2.1; omega)
theorem gtC_loop (hS : StAt h st S sa) (hw : WF S) (hO : CurAt h cd st) : ∀ d i k : Nat, i + d = S.c → d < k → gL2 (f_X1_greatestTotalWelfare_L4 cd h) k (iI (sumZ (fun c => gvZ S c S.n) i)) (iI i) = some (iI (sumZ (fun c => gvZ S c S.n) S.c)) := by
  obtain ⟨fs, h1⟩ := a_obj hS
  obtain ⟨fo, o1⟩ := cur_o hO
  have o2 := cur_s hO
  have hc := hw.1
  have hn := hw.2.1
  intro d
  induction d with
  | zero =>
    intro i k e hk
    obtain ⟨k, rfl⟩ : ∃ k', k = k' + 1 := ⟨k - 1, by omega⟩
    show f_X1_greatestTotalWelfare_L4 cd h (gL2 (f_X1_greatestTotalWelfare_L4 cd h) k) (iI (sumZ (fun c => gvZ S c S.n) i)) (iI i) = _
    unfold f_X1_greatestTotalWelfare_L4
    have e1 : i = S.c := by omega
    subst e1
    rw [o2, gB_s, h1, gB_s, a_cells hS, gB_s, if_pos (by rw [iI_le (by omega) (by omega) (by omega) (by omega)]; omega)]
  | succ d ih =>
    intro i k e hk
    obtain ⟨k, rfl⟩ : ∃ k', k = k' + 1 := ⟨k - 1, by omega⟩
    show f_X1_greatestTotalWelfare_L4 cd h (gL2 (f_X1_greatestTotalWelfare_L4 cd h) k) (iI (sumZ (fun c => gvZ S c S.n) i)) (iI i) = _
    have ih := ih (i + 1) k (by omega) (by omega)
    generalize gL2 (f_X1_greatestTotalWelfare_L4 cd h) k = r at ih ⊢
    unfold f_X1_greatestTotalWelfare_L4
    have hi : i < S.c := by omega
    have hle : ¬ ((S.c : Int) ≤ (i : Int)) := by omega
    simp (disch := omega) only [o1, o2, h1, a_cells hS, cGv hS hw hO hi, gB_s, iI_le, iI_lt, iI_eq, hle, if_false, iI_add, iI_sub, iI_mul, iI_0, iI_1, iI_n1, iI_2, iI_3, iI_4, iI_5, iI_6, iI_7, iI_8, iI_9, iI_10, iI_20, iI_24, iI_25, iI_26, iI_31, iI_32, iI_39, iI_45, iI_48, iI_57, iI_59, iI_97, iI_122, iI_212, iI_217, iI_240, iI_255, iI_600, iI_2147483647, Int.natCast_add, Int.natCast_one] at ih ⊢
    rw [← ih]
    simp only [sumZ]

theorem gtM_in (hB : BlkAt m 0 S) (hw : WF S) {c : Nat} (hcc : c < S.c) {r9 : Int32 → Int32 → Option (Int32 × Int32)} {acc : Int} {iT : Int32} : ∀ d i k : Nat, i + d = S.n → d < k → gL2 (f_X6_greatestTotalWelfare_L24 r9 (iI acc) (iI c) m iT) k (iI (gvZ S c i)) (iI i) = r9 (iI (acc + gvZ S c S.n)) (iI c + iI 1) := by
  have hc := hw.1
  have hn := hw.2.1
  intro d
  induction d with
  | zero =>
    intro i k e hk
    obtain ⟨k, rfl⟩ : ∃ k', k = k' + 1 := ⟨k - 1, by omega⟩
    show f_X6_greatestTotalWelfare_L24 r9 (iI acc) (iI c) m iT (gL2 (f_X6_greatestTotalWelfare_L24 r9 (iI acc) (iI c) m iT) k) _ _ = _
    unfold f_X6_greatestTotalWelfare_L24
    have e1 : i = S.n := by omega
    subst e1
    rw [iI_1, b_n hB, gB_s, if_pos (by rw [iI_le (by omega) (by omega) (by omega) (by omega)]; omega), iI_add]
  | succ d ih =>
    intro i k e hk
    obtain ⟨k, rfl⟩ : ∃ k', k = k' + 1 := ⟨k - 1, by omega⟩
    show f_X6_greatestTotalWelfare_L24 r9 (iI acc) (iI c) m iT (gL2 (f_X6_greatestTotalWelfare_L24 r9 (iI acc) (iI c) m iT) k) _ _ = _
    have ih := ih (i + 1) k (by omega) (by omega)
    generalize gL2 (f_X6_greatestTotalWelfare_L24 r9 (iI acc) (iI c) m iT) k = r at ih ⊢
    unfold f_X6_greatestTotalWelfare_L24
    have hi : i < S.n := by omega
    have q1 := gvZ_b hw hcc i (by omega)
    have q2 := hw.2.2.2.1 i hi c hcc
    rw [iI_1, b_n hB, gB_s, if_neg (by rw [iI_le (by omega) (by omega) (by omega) (by omega)]; omega), b_val hB hi hn.2 hcc hc.2, gB_s, gB_s, iI_add, ← ih]
    simp only [gvZ, Int.natCast_add, Int.natCast_one]
    by_cases q : gvZ S c i < S.v i c
    · rw [if_pos q, if_neg (by rw [iI_le (by omega) (by omega) (by omega) (by omega)]; omega)]
    · rw [if_neg q, if_pos (by rw [iI_le (by omega) (by omega) (by omega) (by omega)]; omega)]
theorem gtM_loop (hB : BlkAt m 0 S) (hw : WF S) {iT : Int32} : ∀ d i k : Nat, i + d = S.c → d < k → gL2 (f_X6_greatestTotalWelfare_L9 m iT) k (iI (sumZ (fun c => gvZ S c S.n) i)) (iI i) = some (iI (sumZ (fun c => gvZ S c S.n) S.c), iT) := by
  have hc := hw.1
  have hn := hw.2.1
  intro d
  induction d with
  | zero =>
    intro i k e hk
    obtain ⟨k, rfl⟩ : ∃ k', k = k' + 1 := ⟨k - 1, by omega⟩
    show f_X6_greatestTotalWelfare_L9 m iT (gL2 (f_X6_greatestTotalWelfare_L9 m iT) k) (iI (sumZ (fun c => gvZ S c S.n) i)) (iI i) = _
    unfold f_X6_greatestTotalWelfare_L9
    have e1 : i = S.c := by omega
    subst e1
    rw [iI_0, b_c hB, gB_s, if_pos (by rw [iI_le (by omega) (by omega) (by omega) (by omega)]; omega)]
  | succ d ih =>
    intro i k e hk
    obtain ⟨k, rfl⟩ : ∃ k', k = k' + 1 := ⟨k - 1, by omega⟩
    show f_X6_greatestTotalWelfare_L9 m iT (gL2 (f_X6_greatestTotalWelfare_L9 m iT) k) (iI (sumZ (fun c => gvZ S c S.n) i)) (iI i) = _
    have ih := ih (i + 1) k (by omega) (by omega)
    generalize gL2 (f_X6_greatestTotalWelfare_L9 m iT) k = r at ih ⊢
    unfold f_X6_greatestTotalWelfare_L9
    rw [Int.natCast_add, Int.natCast_one] at ih
    have hi : i < S.c := by omega
    have h9 := gtM_in hB hw hi (r9 := r) (acc := sumZ (fun c => gvZ S c S.n) i) (iT := iT) S.n 0 gN (by omega) (by unfold gN; have := hw.2.1; omega)
    rw [iI_0, b_c hB, gB_s, if_neg (by rw [iI_le (by omega) (by omega) (by omega) (by omega)]; omega)]
    refine Eq.trans h9 ?_
    rw [iI_add]
    exact ih

theorem cGt (hS : StAt h st S sa) (hw : WF S) (hO : CurAt h cd st) : f_X1_greatestTotalWelfare cd h = some (iI (sumZ (fun c => gvZ S c S.n) S.c)) := gtC_loop hS hw hO S.c 0 gN (by omega) (by unfold gN; have := hw.1; omega)
theorem mGt (hB : BlkAt m 0 S) (hw : WF S) {iT : Int32} : f_X6_greatestTotalWelfare m iT = some (iI (sumZ (fun c => gvZ S c S.n) S.c), 0) := gtM_loop hB hw S.c 0 gN (by omega) (by unfold gN; have := hw.1; omega)
end RD5
