/-! READS, 5 -/
section RD6
variable {h : gH} {st cd : Nat} {S : gS} {sa : Nat → Nat} {m : Nat → Int32}
def ccF (S : gS) (k : Nat) : Int := if S.ow k = S.ow (k + 1) then 0 else 1
theorem ccC_loop (hS : StAt h st S sa) (hw : WF S) (hO : CurAt h cd st) : ∀ d i k : Nat, i + d = S.c - 1 → d < k → gL2 (f_X1_cutCount_L4 cd h) k (iI (sumZ (ccF S) i)) (iI i) = some (iI (sumZ (ccF S) (S.c - 1))) := by
  obtain ⟨fs, h1⟩ := a_obj hS
  obtain ⟨fo, o1⟩ := cur_o hO
  have o2 := cur_s hO
  have hc := hw.1
  have hn := hw.2.1
  intro d
  induction d with
  | zero =>
    intro i k e hk
    obtain ⟨k, rfl⟩ : ∃ k', k = k' + 1 := ⟨k - 1, by omega⟩
    show f_X1_cutCount_L4 cd h (gL2 (f_X1_cutCount_L4 cd h) k) (iI (sumZ (ccF S) i)) (iI i) = _
    unfold f_X1_cutCount_L4
    have e1 : i = S.c - 1 := by omega
    subst e1
    rw [o2, gB_s, h1, gB_s, a_cells hS, gB_s, iI_1, iI_add, if_pos (by rw [iI_le (by omega) (by omega) (by omega) (by omega)]; omega)]
  | succ d ih =>
    intro i k e hk
    obtain ⟨k, rfl⟩ : ∃ k', k = k' + 1 := ⟨k - 1, by omega⟩
    show f_X1_cutCount_L4 cd h (gL2 (f_X1_cutCount_L4 cd h) k) (iI (sumZ (ccF S) i)) (iI i) = _
    have ih := ih (i + 1) k (by omega) (by omega)
    generalize gL2 (f_X1_cutCount_L4 cd h) k = r at ih ⊢
    unfold f_X1_cutCount_L4
    rw [Int.natCast_add, Int.natCast_one] at ih
    have q1 := hw.2.2.1 i (by omega)
    have q2 := hw.2.2.1 (i + 1) (by omega)
    have e9 : ((i : Int) + 1) = ((i + 1 : Nat) : Int) := by omega
    rw [o2, gB_s, h1, gB_s, a_cells hS, gB_s, iI_1, iI_add, if_neg (by rw [iI_le (by omega) (by omega) (by omega) (by omega)]; omega), gB_s, a_ow hS, gB_s, a_own hS (by omega) hc.2, gB_s, gB_s, a_ow hS, gB_s, e9, a_own hS (by omega) hc.2, gB_s, ← ih]
    simp only [sumZ, ccF]
    simp (disch := omega) only [iI_eq]
    split <;> simp [iI_add, iI_0]

theorem ccM_loop (hB : BlkAt m 0 S) (hw : WF S) {iT : Int32} : ∀ d i k : Nat, i + d = S.c - 1 → d < k → gL2 (f_X6_cutCount_L9 m iT) k (iI (sumZ (ccF S) i)) (iI ((i : Int) + 1)) = some (iI (sumZ (ccF S) (S.c - 1)), iT) := by
  have hc := hw.1
  have hn := hw.2.1
  intro d
  induction d with
  | zero =>
    intro i k e hk
    obtain ⟨k, rfl⟩ : ∃ k', k = k' + 1 := ⟨k - 1, by omega⟩
    show f_X6_cutCount_L9 m iT (gL2 (f_X6_cutCount_L9 m iT) k) (iI (sumZ (ccF S) i)) (iI ((i : Int) + 1)) = _
    unfold f_X6_cutCount_L9
    have e1 : i = S.c - 1 := by omega
    subst e1
    rw [iI_0, b_c hB, gB_s, if_pos (by rw [iI_le (by omega) (by omega) (by omega) (by omega)]; omega)]
  | succ d ih =>
    intro i k e hk
    obtain ⟨k, rfl⟩ : ∃ k', k = k' + 1 := ⟨k - 1, by omega⟩
    show f_X6_cutCount_L9 m iT (gL2 (f_X6_cutCount_L9 m iT) k) (iI (sumZ (ccF S) i)) (iI ((i : Int) + 1)) = _
    have ih := ih (i + 1) k (by omega) (by omega)
    generalize gL2 (f_X6_cutCount_L9 m iT) k = r at ih ⊢
    unfold f_X6_cutCount_L9
    rw [Int.natCast_add, Int.natCast_one] at ih
    have q1 := hw.2.2.1 i (by omega)
    have q2 := hw.2.2.1 (i + 1) (by omega)
    have e9 : ((i : Int) + 1) = ((i + 1 : Nat) : Int) := by omega
    have e8 : ((i + 1 : Nat) : Int) - 1 = i := by omega
    rw [iI_0, b_c hB, gB_s, if_neg (by rw [iI_le (by omega) (by omega) (by omega) (by omega)]; omega), iI_1, iI_add, e9, iI_sub, e8, b_own hB (by omega) hc.2, gB_s, b_own hB (by omega) hc.2, gB_s, ← ih]
    simp only [sumZ, ccF]
    simp (disch := omega) only [iI_eq]
    by_cases q : S.ow i = S.ow (i + 1)
    · rw [if_pos q, if_pos (by omega)]; simp [iI_add]
    · rw [if_neg q, if_neg (by omega)]; simp [iI_add]

theorem cCc (hS : StAt h st S sa) (hw : WF S) (hO : CurAt h cd st) : f_X1_cutCount cd h = some (iI (sumZ (ccF S) (S.c - 1))) := ccC_loop hS hw hO (S.c - 1) 0 gN (by omega) (by unfold gN; have := hw.1; omega)
theorem mCc (hB : BlkAt m 0 S) (hw : WF S) {iT : Int32} : f_X6_cutCount m iT = some (iI (sumZ (ccF S) (S.c - 1)), 0) := ccM_loop hB hw (S.c - 1) 0 gN (by omega) (by unfold gN; have := hw.1; omega)
def incF (S : gS) (k : Nat) : Int := eZ S k k - cntZ S k
theorem inC_loop (hS : StAt h st S sa) (hw : WF S) (hO : CurAt h cd st) : ∀ d i k : Nat, i + d = S.n → d < k → gL2 (f_X1_inconsistencies_L19 cd h) k (iI ((S.c : Int) - cntZ S (-1) + sumZ (incF S) i)) (iI i) = some (iI ((S.c : Int) - cntZ S (-1) + sumZ (incF S) S.n)) := by
  obtain ⟨fs, h1⟩ := a_obj hS
  obtain ⟨fo, o1⟩ := cur_o hO
  have o2 := cur_s hO
  have hc := hw.1
  have hn := hw.2.1
  intro d
  induction d with
  | zero =>
    intro i k e hk
    obtain ⟨k, rfl⟩ : ∃ k', k = k' + 1 := ⟨k - 1, by omega⟩
    show f_X1_inconsistencies_L19 cd h (gL2 (f_X1_inconsistencies_L19 cd h) k) (iI ((S.c : Int) - cntZ S (-1) + sumZ (incF S) i)) (iI i) = _
    unfold f_X1_inconsistencies_L19
    have e1 : i = S.n := by omega
    subst e1
    rw [o2, gB_s, h1, gB_s, a_size hS, gB_s, if_pos (by rw [iI_le (by omega) (by omega) (by omega) (by omega)]; omega)]
  | succ d ih =>
    intro i k e hk
    obtain ⟨k, rfl⟩ : ∃ k', k = k' + 1 := ⟨k - 1, by omega⟩
    show f_X1_inconsistencies_L19 cd h (gL2 (f_X1_inconsistencies_L19 cd h) k) (iI ((S.c : Int) - cntZ S (-1) + sumZ (incF S) i)) (iI i) = _
    have ih := ih (i + 1) k (by omega) (by omega)
    generalize gL2 (f_X1_inconsistencies_L19 cd h) k = r at ih ⊢
    unfold f_X1_inconsistencies_L19
    rw [Int.natCast_add, Int.natCast_one] at ih
    have hi : i < S.n := by omega
    have q := eZ_01 S i i
    rw [o2, gB_s, h1, gB_s, a_size hS, gB_s, if_neg (by rw [iI_le (by omega) (by omega) (by omega) (by omega)]; omega), gB_s, h1, gB_s, cCnt hS hw (by omega), gB_s, gB_s, h1, gB_s, cEnv hS hw hi hi, gB_s, eZ_if, iI_sub, iI_0, iI_1, iI_add, iI_add, iI_add, ← ih]
    simp only [sumZ, incF]
    split
    · next q1 => rw [q1]; congr 2; omega
    · next q1 => rw [show eZ S i i = 1 by omega]; congr 2; omega

theorem inM_loop (hB : BlkAt m 0 S) (hw : WF S) {iT : Int32} : ∀ d i k : Nat, i + d = S.n → d < k → gL2 (f_X6_inconsistencies_L20 m iT) k (iI ((S.c : Int) - cntZ S (-1) + sumZ (incF S) i)) (iI i) = some (iI ((S.c : Int) - cntZ S (-1) + sumZ (incF S) S.n), iT) := by
  have hc := hw.1
  have hn := hw.2.1
  intro d
  induction d with
  | zero =>
    intro i k e hk
    obtain ⟨k, rfl⟩ : ∃ k', k = k' + 1 := ⟨k - 1, by omega⟩
    show f_X6_inconsistencies_L20 m iT (gL2 (f_X6_inconsistencies_L20 m iT) k) (iI ((S.c : Int) - cntZ S (-1) + sumZ (incF S) i)) (iI i) = _
    unfold f_X6_inconsistencies_L20
    have e1 : i = S.n := by omega
    subst e1
    rw [iI_1, b_n hB, gB_s, if_pos (by rw [iI_le (by omega) (by omega) (by omega) (by omega)]; omega)]
  | succ d ih =>
    intro i k e hk
    obtain ⟨k, rfl⟩ : ∃ k', k = k' + 1 := ⟨k - 1, by omega⟩
    show f_X6_inconsistencies_L20 m iT (gL2 (f_X6_inconsistencies_L20 m iT) k) (iI ((S.c : Int) - cntZ S (-1) + sumZ (incF S) i)) (iI i) = _
    have ih := ih (i + 1) k (by omega) (by omega)
    generalize gL2 (f_X6_inconsistencies_L20 m iT) k = r at ih ⊢
    unfold f_X6_inconsistencies_L20
    rw [Int.natCast_add, Int.natCast_one] at ih
    have hi : i < S.n := by omega
    have q := eZ_01 S i i
    unfold f_X6_inconsistencies_J45
    rw [iI_1, b_n hB, gB_s, if_neg (by rw [iI_le (by omega) (by omega) (by omega) (by omega)]; omega), mEnv hB hw hi hi, gB_s, eZ_if, mCnt hB hw (by omega), gB_s, gB_s, iI_0, iI_sub, iI_sub, iI_add, iI_add, iI_add, ← ih]
    simp only [sumZ, incF]
    split
    · next q1 => rw [q1]; congr 2; omega
    · next q1 => rw [show eZ S i i = 1 by omega]; congr 2; omega

theorem cIn (hS : StAt h st S sa) (hw : WF S) (hO : CurAt h cd st) : f_X1_inconsistencies cd h = some (iI ((S.c : Int) - cntZ S (-1) + sumZ (incF S) S.n)) := by
  obtain ⟨fs, h1⟩ := a_obj hS
  have o2 := cur_s hO
  unfold f_X1_inconsistencies
  rw [o2, gB_s, h1, gB_s, a_cells hS, gB_s, gB_s, h1, gB_s, iI_n1, cCnt hS hw (by omega), gB_s, iI_sub]
  have h9 := inC_loop hS hw hO S.n 0 gN (by omega) (by unfold gN; have := hw.2.1; omega)
  simp only [sumZ, Int.add_zero] at h9
  exact h9
theorem mIn (hB : BlkAt m 0 S) (hw : WF S) {iT : Int32} : f_X6_inconsistencies m iT = some (iI ((S.c : Int) - cntZ S (-1) + sumZ (incF S) S.n), 0) := by
  unfold f_X6_inconsistencies
  rw [iI_0, b_c hB, gB_s, iI_n1, mCnt hB hw (by omega), gB_s, iI_sub]
  have h9 := inM_loop hB hw (iT := 0) S.n 0 gN (by omega) (by unfold gN; have := hw.2.1; omega)
  simp only [sumZ, Int.add_zero] at h9
  exact h9
theorem pcZ_b {S : gS} (hw : WF S) (o : Int) : 0 ≤ pcZ S o ∧ pcZ S o ≤ 24 := by
  have h1 := sumZ_b (f := (fun k => if S.ow k = o then (if (k : Int) = 0 then 1 else (if S.ow (k - 1) = o then 0 else 1)) else 0)) (b := 1) S.c (fun k _ => by
    show 0 ≤ (if S.ow k = o then (if (k : Int) = 0 then 1 else (if S.ow (k - 1) = o then 0 else 1)) else 0 : Int) ∧ (if S.ow k = o then (if (k : Int) = 0 then 1 else (if S.ow (k - 1) = o then 0 else 1)) else 0 : Int) ≤ 1
    split
    · split
      · omega
      · split <;> omega
    · omega)
  have h2 := hw.1
  unfold pcZ
  omega
def mpZ (S : gS) : UInt64 := FP.ddiv (FP.i2d (iI (sumZ (fun s => pcZ S (s : Int)) S.n))) (FP.i2d (iI S.n))
theorem mp_ok {S : gS} (hw : WF S) : g_n64 (mpZ S) = true := by
  have h1 := sumZ_b (f := (fun s => pcZ S (s : Int))) (b := 24) S.n (fun k _ => pcZ_b hw k)
  have hn := hw.2.1
  obtain ⟨a, ha⟩ : ∃ a : Nat, sumZ (fun s => pcZ S (s : Int)) S.n = (a : Int) := ⟨(sumZ (fun s => pcZ S (s : Int)) S.n).toNat, by omega⟩
  have h2 := flt_d a (by omega) (S.n - 1) (by omega)
  unfold mpZ
  rw [ha]
  rw [show S.n - 1 + 1 = S.n by omega] at h2
  exact h2
theorem mpC_loop (hS : StAt h st S sa) (hw : WF S) (hO : CurAt h cd st) : ∀ d i k : Nat, i + d = S.n → d < k → gL2 (f_X1_meanPieces_L4 cd h) k (iI (sumZ (fun s => pcZ S (s : Int)) i)) (iI i) = some (mpZ S) := by
  obtain ⟨fs, h1⟩ := a_obj hS
  obtain ⟨fo, o1⟩ := cur_o hO
  have o2 := cur_s hO
  have hc := hw.1
  have hn := hw.2.1
  intro d
  induction d with
  | zero =>
    intro i k e hk
    obtain ⟨k, rfl⟩ : ∃ k', k = k' + 1 := ⟨k - 1, by omega⟩
    show f_X1_meanPieces_L4 cd h (gL2 (f_X1_meanPieces_L4 cd h) k) (iI (sumZ (fun s => pcZ S (s : Int)) i)) (iI i) = _
    unfold f_X1_meanPieces_L4
    have e1 : i = S.n := by omega
    subst e1
    rw [o2, gB_s, h1, gB_s, a_size hS, gB_s, if_pos (by rw [iI_le (by omega) (by omega) (by omega) (by omega)]; omega), gB_s, h1, gB_s, a_size hS, gB_s]
    exact if_pos (mp_ok hw)
  | succ d ih =>
    intro i k e hk
    obtain ⟨k, rfl⟩ : ∃ k', k = k' + 1 := ⟨k - 1, by omega⟩
    show f_X1_meanPieces_L4 cd h (gL2 (f_X1_meanPieces_L4 cd h) k) (iI (sumZ (fun s => pcZ S (s : Int)) i)) (iI i) = _
    have ih := ih (i + 1) k (by omega) (by omega)
    generalize gL2 (f_X1_meanPieces_L4 cd h) k = r at ih ⊢
    unfold f_X1_meanPieces_L4
    rw [Int.natCast_add, Int.natCast_one] at ih
    have hi : i < S.n := by omega
    rw [o2, gB_s, h1, gB_s, a_size hS, gB_s, if_neg (by rw [iI_le (by omega) (by omega) (by omega) (by omega)]; omega), gB_s, h1, gB_s, cPc hS hw (by omega), gB_s, iI_1, iI_add, iI_add, ← ih]
    simp only [sumZ]

theorem mpM_loop (hB : BlkAt m 0 S) (hw : WF S) {iT : Int32} : ∀ d i k : Nat, i + d = S.n → d < k → gL2 (f_X6_meanPieces_L9 m iT) k (iI (sumZ (fun s => pcZ S (s : Int)) i)) (iI i) = some (mpZ S, iT) := by
  have hc := hw.1
  have hn := hw.2.1
  intro d
  induction d with
  | zero =>
    intro i k e hk
    obtain ⟨k, rfl⟩ : ∃ k', k = k' + 1 := ⟨k - 1, by omega⟩
    show f_X6_meanPieces_L9 m iT (gL2 (f_X6_meanPieces_L9 m iT) k) (iI (sumZ (fun s => pcZ S (s : Int)) i)) (iI i) = _
    unfold f_X6_meanPieces_L9
    have e1 : i = S.n := by omega
    subst e1
    rw [iI_1, b_n hB, gB_s, if_pos (by rw [iI_le (by omega) (by omega) (by omega) (by omega)]; omega), gB_s]
    exact if_pos (mp_ok hw)
  | succ d ih =>
    intro i k e hk
    obtain ⟨k, rfl⟩ : ∃ k', k = k' + 1 := ⟨k - 1, by omega⟩
    show f_X6_meanPieces_L9 m iT (gL2 (f_X6_meanPieces_L9 m iT) k) (iI (sumZ (fun s => pcZ S (s : Int)) i)) (iI i) = _
    have ih := ih (i + 1) k (by omega) (by omega)
    generalize gL2 (f_X6_meanPieces_L9 m iT) k = r at ih ⊢
    unfold f_X6_meanPieces_L9
    rw [Int.natCast_add, Int.natCast_one] at ih
    have hi : i < S.n := by omega
    rw [iI_1, b_n hB, gB_s, if_neg (by rw [iI_le (by omega) (by omega) (by omega) (by omega)]; omega), mPc hB hw (by omega), gB_s, iI_add, iI_add, ← ih]
    simp only [sumZ]

theorem cMp (hS : StAt h st S sa) (hw : WF S) (hO : CurAt h cd st) : f_X1_meanPieces cd h = some (mpZ S) := mpC_loop hS hw hO S.n 0 gN (by omega) (by unfold gN; have := hw.2.1; omega)
theorem mMp (hB : BlkAt m 0 S) (hw : WF S) {iT : Int32} : f_X6_meanPieces m iT = some (mpZ S, 0) := mpM_loop hB hw S.n 0 gN (by omega) (by unfold gN; have := hw.2.1; omega)
theorem sWS_tot {S : gS} (hw : WF S) {s : Nat} (hs : s < S.n) (o : Int) : sWS S s o ≤ totZ S s := by
  have h1 : ∀ k, k ≤ S.c → sumZ (fun k => if S.ow k = o then S.v s k else 0) k ≤ pS S s k := by
    intro k
    induction k with
    | zero => intro _; exact Int.le_refl _
    | succ k ih =>
      intro hk
      have h2 := ih (by omega)
      have h3 := hw.2.2.2.1 s hs k (by omega)
      rw [pS_s]
      simp only [sumZ]
      split <;> omega
  exact h1 S.c (Nat.le_refl _)
def sfZ (S : gS) (s : Nat) : UInt32 := if totZ S s = 0 then 0 else FP.fdiv (FP.i2f (iI (sWS S s s))) (FP.i2f (iI (totZ S s)))
theorem sf_ok {S : gS} (hw : WF S) {s : Nat} (hs : s < S.n) (h0 : ¬ totZ S s = 0) : g_n32 (FP.fdiv (FP.i2f (iI (sWS S s s))) (FP.i2f (iI (totZ S s)))) = true ∧ g_n64 (FP.f2d (FP.fdiv (FP.i2f (iI (sWS S s s))) (FP.i2f (iI (totZ S s))))) = true := by
  have h1 := sWS_tot hw hs s
  have h2 := sWS_b hw hs s
  have h3 := totZ_b hw hs
  obtain ⟨a, ha⟩ : ∃ a : Nat, sWS S s s = (a : Int) := ⟨(sWS S s s).toNat, by omega⟩
  obtain ⟨t, ht⟩ : ∃ t : Nat, totZ S s = ((t + 1 : Nat) : Int) := ⟨(totZ S s).toNat - 1, by omega⟩
  rw [ha, ht]
  exact flt_f t (by omega) a (by omega)
theorem sf_ok2 {S : gS} (hw : WF S) {s : Nat} (hs : s < S.n) : g_n64 (FP.f2d (sfZ S s)) = true := by
  unfold sfZ
  by_cases h0 : totZ S s = 0
  · rw [if_pos h0]; decide +kernel
  · rw [if_neg h0]; exact (sf_ok hw hs h0).2
end RD6
