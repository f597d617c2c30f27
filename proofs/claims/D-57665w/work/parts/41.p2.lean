/-! READS: the class's methods and the reference's, each to one spec -/
theorem gB_s {A D : Type} {a : A} {K : A → Option D} : Option.bind (some a) K = K a := rfl
def eZ (S : gS) (a b : Nat) : Int := if sWS S a b ≤ sWS S a a then 0 else 1
def cntZ (S : gS) (o : Int) : Int := sumZ (fun k => if S.ow k = o then 1 else 0) S.c
def pcZ (S : gS) (o : Int) : Int := sumZ (fun k => if S.ow k = o then (if (k : Int) = 0 then 1 else (if S.ow (k - 1) = o then 0 else 1)) else 0) S.c
def pS (S : gS) (s i : Nat) : Int := sumZ (S.v s) i
def totZ (S : gS) (s : Nat) : Int := pS S s S.c
def satZ (S : gS) (s : Nat) : Int := if sWS S s s * S.n < totZ S s then 0 else 1
section RD
variable {h : gH} {st : Nat} {S : gS} {sa : Nat → Nat} {m : Nat → Int32}
theorem wC_loop (hS : StAt h st S sa) (hw : WF S) {s : Nat} (hs : s < S.n) {o : Int} (ho : -1 ≤ o ∧ o < 2147483648) : ∀ d i k : Nat, i + d = S.c → d < k → gL2 (f_X2_worthOfShare_L5 st (iI s) (iI o) h) k (iI (sumZ (fun k => if S.ow k = o then S.v s k else 0) i)) (iI i) = some (iI (sumZ (fun k => if S.ow k = o then S.v s k else 0) S.c)) := by
  obtain ⟨fs, h1⟩ := a_obj hS
  have hc := hw.1
  have hn := hw.2.1
  intro d
  induction d with
  | zero =>
    intro i k e hk
    obtain ⟨k, rfl⟩ : ∃ k', k = k' + 1 := ⟨k - 1, by omega⟩
    show f_X2_worthOfShare_L5 st (iI s) (iI o) h (gL2 (f_X2_worthOfShare_L5 st (iI s) (iI o) h) k) (iI (sumZ (fun k => if S.ow k = o then S.v s k else 0) i)) (iI i) = _
    unfold f_X2_worthOfShare_L5
    have e1 : i = S.c := by omega
    subst e1
    rw [h1, gB_s, a_cells hS, gB_s, if_pos (by rw [iI_le (by omega) (by omega) (by omega) (by omega)]; omega)]
  | succ d ih =>
    intro i k e hk
    obtain ⟨k, rfl⟩ : ∃ k', k = k' + 1 := ⟨k - 1, by omega⟩
    show f_X2_worthOfShare_L5 st (iI s) (iI o) h (gL2 (f_X2_worthOfShare_L5 st (iI s) (iI o) h) k) (iI (sumZ (fun k => if S.ow k = o then S.v s k else 0) i)) (iI i) = _
    have ih := ih (i + 1) k (by omega) (by omega)
    generalize gL2 (f_X2_worthOfShare_L5 st (iI s) (iI o) h) k = r at ih ⊢
    unfold f_X2_worthOfShare_L5
    have hi : i < S.c := by omega
    have hle : ¬ ((S.c : Int) ≤ (i : Int)) := by omega
    obtain ⟨fs2, h2⟩ := a_sobj hS hs
    have ho2 := hw.2.2.1 i hi
    simp (disch := omega) only [h1, h2, a_cells hS, a_ow hS, a_own hS hi hc.2, a_sib hS hs hn.2, a_value hS hs hi hc.2, gB_s, iI_le, iI_lt, iI_eq, hle, if_false, iI_add, iI_sub, iI_mul, iI_0, iI_1, iI_n1, iI_2, iI_3, iI_4, iI_5, iI_6, iI_7, iI_8, iI_9, iI_10, iI_20, iI_24, iI_25, iI_26, iI_31, iI_32, iI_39, iI_45, iI_48, iI_57, iI_59, iI_97, iI_122, iI_212, iI_217, iI_240, iI_255, iI_600, iI_2147483647, Int.natCast_add, Int.natCast_one] at ih ⊢
    rw [← ih]
    simp only [sumZ]
    split <;> simp

theorem wM_loop (hB : BlkAt m 0 S) (hw : WF S) {s : Nat} (hs : s < S.n) {o : Int} (ho : -1 ≤ o ∧ o < 2147483648) : ∀ d i k : Nat, i + d = S.c → d < k → gL2 (f_X6_worthShare_L5 (iI s) (iI o) m) k (iI (sumZ (fun k => if S.ow k = o then S.v s k else 0) i)) (iI i) = some (iI (sumZ (fun k => if S.ow k = o then S.v s k else 0) S.c)) := by
  have hc := hw.1
  have hn := hw.2.1
  intro d
  induction d with
  | zero =>
    intro i k e hk
    obtain ⟨k, rfl⟩ : ∃ k', k = k' + 1 := ⟨k - 1, by omega⟩
    show f_X6_worthShare_L5 (iI s) (iI o) m (gL2 (f_X6_worthShare_L5 (iI s) (iI o) m) k) (iI (sumZ (fun k => if S.ow k = o then S.v s k else 0) i)) (iI i) = _
    unfold f_X6_worthShare_L5
    have e1 : i = S.c := by omega
    subst e1
    rw [iI_0, b_c hB, gB_s, if_pos (by rw [iI_le (by omega) (by omega) (by omega) (by omega)]; omega)]
  | succ d ih =>
    intro i k e hk
    obtain ⟨k, rfl⟩ : ∃ k', k = k' + 1 := ⟨k - 1, by omega⟩
    show f_X6_worthShare_L5 (iI s) (iI o) m (gL2 (f_X6_worthShare_L5 (iI s) (iI o) m) k) (iI (sumZ (fun k => if S.ow k = o then S.v s k else 0) i)) (iI i) = _
    have ih := ih (i + 1) k (by omega) (by omega)
    generalize gL2 (f_X6_worthShare_L5 (iI s) (iI o) m) k = r at ih ⊢
    unfold f_X6_worthShare_L5
    have hi : i < S.c := by omega
    have hle : ¬ ((S.c : Int) ≤ (i : Int)) := by omega
    have ho2 := hw.2.2.1 i hi
    simp (disch := omega) only [b_c hB, b_own hB hi hc.2, b_val hB hs hn.2 hi hc.2, gB_s, iI_le, iI_lt, iI_eq, hle, if_false, iI_add, iI_sub, iI_mul, iI_0, iI_1, iI_n1, iI_2, iI_3, iI_4, iI_5, iI_6, iI_7, iI_8, iI_9, iI_10, iI_20, iI_24, iI_25, iI_26, iI_31, iI_32, iI_39, iI_45, iI_48, iI_57, iI_59, iI_97, iI_122, iI_212, iI_217, iI_240, iI_255, iI_600, iI_2147483647, Int.natCast_add, Int.natCast_one] at ih ⊢
    rw [← ih]
    simp only [sumZ]
    split <;> simp

theorem cWS (hS : StAt h st S sa) (hw : WF S) {s : Nat} (hs : s < S.n) {o : Int} (ho : -1 ≤ o ∧ o < 2147483648) : f_X2_worthOfShare st (iI s) (iI o) h = some (iI (sWS S s o)) := wC_loop hS hw hs ho S.c 0 gN (by omega) (by unfold gN; have := hw.1; omega)
theorem mWS (hB : BlkAt m 0 S) (hw : WF S) {s : Nat} (hs : s < S.n) {o : Int} (ho : -1 ≤ o ∧ o < 2147483648) : f_X6_worthShare (iI s) (iI o) m = some (iI (sWS S s o)) := wM_loop hB hw hs ho S.c 0 gN (by omega) (by unfold gN; have := hw.1; omega)
theorem cWf (hS : StAt h st S sa) (hw : WF S) {s : Nat} (hs : s < S.n) : f_X2_welfare st (iI s) h = some (iI (sWS S s s)) := by
  obtain ⟨fs, h1⟩ := a_obj hS
  have hn := hw.2.1
  unfold f_X2_welfare
  rw [h1, gB_s, cWS hS hw hs (by omega), gB_s]
theorem mWf (hB : BlkAt m 0 S) (hw : WF S) {s : Nat} (hs : s < S.n) : f_X6_welfareOf (iI s) m = some (iI (sWS S s s)) := by
  have hn := hw.2.1
  unfold f_X6_welfareOf
  rw [mWS hB hw hs (by omega), gB_s]
theorem cEnv (hS : StAt h st S sa) (hw : WF S) {a b : Nat} (ha : a < S.n) (hb : b < S.n) : f_X2_envies_2 st (iI a) (iI b) h = some (iI (eZ S a b)) := by
  obtain ⟨fs, h1⟩ := a_obj hS
  have hn := hw.2.1
  have b1 := sWS_b hw ha b
  have b2 := sWS_b hw ha a
  unfold f_X2_envies_2 eZ
  rw [h1, gB_s, cWS hS hw ha (by omega), gB_s, cWf hS hw ha, gB_s]
  simp (disch := omega) only [iI_le, iI_0, iI_1]
  split <;> rfl
theorem mEnv (hB : BlkAt m 0 S) (hw : WF S) {a b : Nat} (ha : a < S.n) (hb : b < S.n) : f_X6_hasEnvy (iI a) (iI b) m = some (iI (eZ S a b)) := by
  have hn := hw.2.1
  have b1 := sWS_b hw ha b
  have b2 := sWS_b hw ha a
  unfold f_X6_hasEnvy eZ
  rw [mWS hB hw ha (by omega), gB_s, mWf hB hw ha, gB_s]
  simp (disch := omega) only [iI_le, iI_0, iI_1]
  split <;> rfl
theorem eZ_01 (S : gS) (a b : Nat) : eZ S a b = 0 ∨ eZ S a b = 1 := by
  unfold eZ
  split <;> simp
theorem eZ_if {α : Type} (S : gS) (a b : Nat) (x y : α) : (if iI (eZ S a b) = (0 : Int32) then x else y) = if eZ S a b = 0 then x else y := by
  have h1 := eZ_01 S a b
  simp (disch := omega) only [iI_0, iI_eq]
theorem cntC_loop (hS : StAt h st S sa) (hw : WF S) {o : Int} (ho : -1 ≤ o ∧ o < 2147483648) : ∀ d i k : Nat, i + d = S.c → d < k → gL2 (f_X2_count_L4 st (iI o) h) k (iI (sumZ (fun k => if S.ow k = o then 1 else 0) i)) (iI i) = some (iI (sumZ (fun k => if S.ow k = o then 1 else 0) S.c)) := by
  obtain ⟨fs, h1⟩ := a_obj hS
  have hc := hw.1
  have hn := hw.2.1
  intro d
  induction d with
  | zero =>
    intro i k e hk
    obtain ⟨k, rfl⟩ : ∃ k', k = k' + 1 := ⟨k - 1, by omega⟩
    show f_X2_count_L4 st (iI o) h (gL2 (f_X2_count_L4 st (iI o) h) k) (iI (sumZ (fun k => if S.ow k = o then 1 else 0) i)) (iI i) = _
    unfold f_X2_count_L4
    have e1 : i = S.c := by omega
    subst e1
    rw [h1, gB_s, a_cells hS, gB_s, if_pos (by rw [iI_le (by omega) (by omega) (by omega) (by omega)]; omega)]
  | succ d ih =>
    intro i k e hk
    obtain ⟨k, rfl⟩ : ∃ k', k = k' + 1 := ⟨k - 1, by omega⟩
    show f_X2_count_L4 st (iI o) h (gL2 (f_X2_count_L4 st (iI o) h) k) (iI (sumZ (fun k => if S.ow k = o then 1 else 0) i)) (iI i) = _
    have ih := ih (i + 1) k (by omega) (by omega)
    generalize gL2 (f_X2_count_L4 st (iI o) h) k = r at ih ⊢
    unfold f_X2_count_L4
    have hi : i < S.c := by omega
    have hle : ¬ ((S.c : Int) ≤ (i : Int)) := by omega
    have ho2 := hw.2.2.1 i hi
    simp (disch := omega) only [h1, a_cells hS, a_ow hS, a_own hS hi hc.2, gB_s, iI_le, iI_lt, iI_eq, hle, if_false, iI_add, iI_sub, iI_mul, iI_0, iI_1, iI_n1, iI_2, iI_3, iI_4, iI_5, iI_6, iI_7, iI_8, iI_9, iI_10, iI_20, iI_24, iI_25, iI_26, iI_31, iI_32, iI_39, iI_45, iI_48, iI_57, iI_59, iI_97, iI_122, iI_212, iI_217, iI_240, iI_255, iI_600, iI_2147483647, Int.natCast_add, Int.natCast_one] at ih ⊢
    rw [← ih]
    simp only [sumZ]
    split <;> simp

theorem cntM_loop (hB : BlkAt m 0 S) (hw : WF S) {o : Int} (ho : -1 ≤ o ∧ o < 2147483648) : ∀ d i k : Nat, i + d = S.c → d < k → gL2 (f_X6_sizeOf_L4 (iI o) m) k (iI (sumZ (fun k => if S.ow k = o then 1 else 0) i)) (iI i) = some (iI (sumZ (fun k => if S.ow k = o then 1 else 0) S.c)) := by
  have hc := hw.1
  have hn := hw.2.1
  intro d
  induction d with
  | zero =>
    intro i k e hk
    obtain ⟨k, rfl⟩ : ∃ k', k = k' + 1 := ⟨k - 1, by omega⟩
    show f_X6_sizeOf_L4 (iI o) m (gL2 (f_X6_sizeOf_L4 (iI o) m) k) (iI (sumZ (fun k => if S.ow k = o then 1 else 0) i)) (iI i) = _
    unfold f_X6_sizeOf_L4
    have e1 : i = S.c := by omega
    subst e1
    rw [iI_0, b_c hB, gB_s, if_pos (by rw [iI_le (by omega) (by omega) (by omega) (by omega)]; omega)]
  | succ d ih =>
    intro i k e hk
    obtain ⟨k, rfl⟩ : ∃ k', k = k' + 1 := ⟨k - 1, by omega⟩
    show f_X6_sizeOf_L4 (iI o) m (gL2 (f_X6_sizeOf_L4 (iI o) m) k) (iI (sumZ (fun k => if S.ow k = o then 1 else 0) i)) (iI i) = _
    have ih := ih (i + 1) k (by omega) (by omega)
    generalize gL2 (f_X6_sizeOf_L4 (iI o) m) k = r at ih ⊢
    unfold f_X6_sizeOf_L4
    have hi : i < S.c := by omega
    have hle : ¬ ((S.c : Int) ≤ (i : Int)) := by omega
    have ho2 := hw.2.2.1 i hi
    simp (disch := omega) only [b_c hB, b_own hB hi hc.2, gB_s, iI_le, iI_lt, iI_eq, hle, if_false, iI_add, iI_sub, iI_mul, iI_0, iI_1, iI_n1, iI_2, iI_3, iI_4, iI_5, iI_6, iI_7, iI_8, iI_9, iI_10, iI_20, iI_24, iI_25, iI_26, iI_31, iI_32, iI_39, iI_45, iI_48, iI_57, iI_59, iI_97, iI_122, iI_212, iI_217, iI_240, iI_255, iI_600, iI_2147483647, Int.natCast_add, Int.natCast_one] at ih ⊢
    rw [← ih]
    simp only [sumZ]
    split <;> simp

theorem cCnt (hS : StAt h st S sa) (hw : WF S) {o : Int} (ho : -1 ≤ o ∧ o < 2147483648) : f_X2_count st (iI o) h = some (iI (cntZ S o)) := cntC_loop hS hw ho S.c 0 gN (by omega) (by unfold gN; have := hw.1; omega)
theorem mCnt (hB : BlkAt m 0 S) (hw : WF S) {o : Int} (ho : -1 ≤ o ∧ o < 2147483648) : f_X6_sizeOf (iI o) m = some (iI (cntZ S o)) := cntM_loop hB hw ho S.c 0 gN (by omega) (by unfold gN; have := hw.1; omega)
theorem pcC_loop (hS : StAt h st S sa) (hw : WF S) {o : Int} (ho : -1 ≤ o ∧ o < 2147483648) : ∀ d i k : Nat, i + d = S.c → d < k → gL2 (f_X2_pieces_L4 st (iI o) h) k (iI (sumZ (fun k => if S.ow k = o then (if (k : Int) = 0 then 1 else (if S.ow (k - 1) = o then 0 else 1)) else 0) i)) (iI i) = some (iI (sumZ (fun k => if S.ow k = o then (if (k : Int) = 0 then 1 else (if S.ow (k - 1) = o then 0 else 1)) else 0) S.c)) := by
  obtain ⟨fs, h1⟩ := a_obj hS
  have hc := hw.1
  have hn := hw.2.1
  intro d
  induction d with
  | zero =>
    intro i k e hk
    obtain ⟨k, rfl⟩ : ∃ k', k = k' + 1 := ⟨k - 1, by omega⟩
    show f_X2_pieces_L4 st (iI o) h (gL2 (f_X2_pieces_L4 st (iI o) h) k) (iI (sumZ (fun k => if S.ow k = o then (if (k : Int) = 0 then 1 else (if S.ow (k - 1) = o then 0 else 1)) else 0) i)) (iI i) = _
    unfold f_X2_pieces_L4
    have e1 : i = S.c := by omega
    subst e1
    rw [h1, gB_s, a_cells hS, gB_s, if_pos (by rw [iI_le (by omega) (by omega) (by omega) (by omega)]; omega)]
  | succ d ih =>
    intro i k e hk
    obtain ⟨k, rfl⟩ : ∃ k', k = k' + 1 := ⟨k - 1, by omega⟩
    show f_X2_pieces_L4 st (iI o) h (gL2 (f_X2_pieces_L4 st (iI o) h) k) (iI (sumZ (fun k => if S.ow k = o then (if (k : Int) = 0 then 1 else (if S.ow (k - 1) = o then 0 else 1)) else 0) i)) (iI i) = _
    have ih := ih (i + 1) k (by omega) (by omega)
    generalize gL2 (f_X2_pieces_L4 st (iI o) h) k = r at ih ⊢
    unfold f_X2_pieces_L4
    have hi : i < S.c := by omega
    have hle : ¬ ((S.c : Int) ≤ (i : Int)) := by omega
    have ho2 := hw.2.2.1 i hi
    have ho3 := hw.2.2.1 (i - 1) (by omega)
    simp (disch := omega) only [h1, a_cells hS, a_ow hS, a_own hS hi hc.2, gB_s, iI_le, iI_lt, iI_eq, hle, if_false, iI_add, iI_sub, iI_mul, iI_0, iI_1, iI_n1, iI_2, iI_3, iI_4, iI_5, iI_6, iI_7, iI_8, iI_9, iI_10, iI_20, iI_24, iI_25, iI_26, iI_31, iI_32, iI_39, iI_45, iI_48, iI_57, iI_59, iI_97, iI_122, iI_212, iI_217, iI_240, iI_255, iI_600, iI_2147483647, Int.natCast_add, Int.natCast_one] at ih ⊢
    rw [← ih]
    simp only [sumZ]
    by_cases q1 : S.ow i = o
    · simp only [q1, if_true]
      by_cases q2 : (i : Int) = 0
      · simp only [q2, if_true]
      · simp only [q2, if_false]
        have e9 : ((i : Int) - 1) = ((i - 1 : Nat) : Int) := by omega
        rw [e9, a_own hS (show i - 1 < S.c by omega) hc.2, gB_s]
        simp (disch := omega) only [iI_eq]
        split <;> simp
    · simp only [q1, if_false]
      all_goals simp

theorem pcM_loop (hB : BlkAt m 0 S) (hw : WF S) {o : Int} (ho : -1 ≤ o ∧ o < 2147483648) : ∀ d i k : Nat, i + d = S.c → d < k → gL2 (f_X6_pieces_L4 (iI o) m) k (iI (sumZ (fun k => if S.ow k = o then (if (k : Int) = 0 then 1 else (if S.ow (k - 1) = o then 0 else 1)) else 0) i)) (iI i) = some (iI (sumZ (fun k => if S.ow k = o then (if (k : Int) = 0 then 1 else (if S.ow (k - 1) = o then 0 else 1)) else 0) S.c)) := by
  have hc := hw.1
  have hn := hw.2.1
  intro d
  induction d with
  | zero =>
    intro i k e hk
    obtain ⟨k, rfl⟩ : ∃ k', k = k' + 1 := ⟨k - 1, by omega⟩
    show f_X6_pieces_L4 (iI o) m (gL2 (f_X6_pieces_L4 (iI o) m) k) (iI (sumZ (fun k => if S.ow k = o then (if (k : Int) = 0 then 1 else (if S.ow (k - 1) = o then 0 else 1)) else 0) i)) (iI i) = _
    unfold f_X6_pieces_L4
    have e1 : i = S.c := by omega
    subst e1
    rw [iI_0, b_c hB, gB_s, if_pos (by rw [iI_le (by omega) (by omega) (by omega) (by omega)]; omega)]
  | succ d ih =>
    intro i k e hk
    obtain ⟨k, rfl⟩ : ∃ k', k = k' + 1 := ⟨k - 1, by omega⟩
    show f_X6_pieces_L4 (iI o) m (gL2 (f_X6_pieces_L4 (iI o) m) k) (iI (sumZ (fun k => if S.ow k = o then (if (k : Int) = 0 then 1 else (if S.ow (k - 1) = o then 0 else 1)) else 0) i)) (iI i) = _
    have ih := ih (i + 1) k (by omega) (by omega)
    generalize gL2 (f_X6_pieces_L4 (iI o) m) k = r at ih ⊢
    unfold f_X6_pieces_L4
    have hi : i < S.c := by omega
    have hle : ¬ ((S.c : Int) ≤ (i : Int)) := by omega
    have ho2 := hw.2.2.1 i hi
    have ho3 := hw.2.2.1 (i - 1) (by omega)
    simp (disch := omega) only [b_c hB, b_own hB hi hc.2, gB_s, iI_le, iI_lt, iI_eq, hle, if_false, iI_add, iI_sub, iI_mul, iI_0, iI_1, iI_n1, iI_2, iI_3, iI_4, iI_5, iI_6, iI_7, iI_8, iI_9, iI_10, iI_20, iI_24, iI_25, iI_26, iI_31, iI_32, iI_39, iI_45, iI_48, iI_57, iI_59, iI_97, iI_122, iI_212, iI_217, iI_240, iI_255, iI_600, iI_2147483647, Int.natCast_add, Int.natCast_one] at ih ⊢
    rw [← ih]
    simp only [sumZ]
    by_cases q1 : S.ow i = o
    · simp only [q1, if_true]
      by_cases q2 : (i : Int) = 0
      · simp only [q2, if_true]
      · simp only [q2, if_false]
        have e9 : ((i : Int) - 1) = ((i - 1 : Nat) : Int) := by omega
        rw [e9, b_own hB (show i - 1 < S.c by omega) hc.2, gB_s]
        simp (disch := omega) only [iI_eq]
        split <;> simp
    · simp only [q1, if_false]
      all_goals simp

theorem cPc (hS : StAt h st S sa) (hw : WF S) {o : Int} (ho : -1 ≤ o ∧ o < 2147483648) : f_X2_pieces st (iI o) h = some (iI (pcZ S o)) := pcC_loop hS hw ho S.c 0 gN (by omega) (by unfold gN; have := hw.1; omega)
theorem mPc (hB : BlkAt m 0 S) (hw : WF S) {o : Int} (ho : -1 ≤ o ∧ o < 2147483648) : f_X6_pieces (iI o) m = some (iI (pcZ S o)) := pcM_loop hB hw ho S.c 0 gN (by omega) (by unfold gN; have := hw.1; omega)
theorem pS_s (S : gS) (s i : Nat) : pS S s (i + 1) = pS S s i + S.v s i := rfl
theorem wrC (hS : StAt h st S sa) (hw : WF S) {s : Nat} (hs : s < S.n) {a e : Nat} (hec : e ≤ S.c) : ∀ d i k : Nat, i + d = e → d < k → gL2 (f_X5_worth_L5 (sa s) (iI ((e : Int) - 1)) h) k (iI (pS S s i - pS S s a)) (iI i) = some (iI (pS S s e - pS S s a)) := by
  have hc := hw.1
  intro d
  induction d with
  | zero =>
    intro i k e1 hk
    obtain ⟨k, rfl⟩ : ∃ k', k = k' + 1 := ⟨k - 1, by omega⟩
    show f_X5_worth_L5 (sa s) (iI ((e : Int) - 1)) h (gL2 (f_X5_worth_L5 (sa s) (iI ((e : Int) - 1)) h) k) _ _ = _
    unfold f_X5_worth_L5
    have e2 : i = e := by omega
    subst e2
    rw [if_pos (by rw [iI_lt (by omega) (by omega) (by omega) (by omega)]; omega)]
  | succ d ih =>
    intro i k e1 hk
    obtain ⟨k, rfl⟩ : ∃ k', k = k' + 1 := ⟨k - 1, by omega⟩
    show f_X5_worth_L5 (sa s) (iI ((e : Int) - 1)) h (gL2 (f_X5_worth_L5 (sa s) (iI ((e : Int) - 1)) h) k) _ _ = _
    have ih := ih (i + 1) k (by omega) (by omega)
    generalize gL2 (f_X5_worth_L5 (sa s) (iI ((e : Int) - 1)) h) k = r at ih ⊢
    unfold f_X5_worth_L5
    have hi : i < S.c := by omega
    rw [if_neg (by rw [iI_lt (by omega) (by omega) (by omega) (by omega)]; omega), a_vals hS hs, gB_s, a_val hS hs hi hc.2, gB_s, iI_add, iI_1, iI_add, ← ih, pS_s]
    congr 2
    omega
theorem wrM (hB : BlkAt m 0 S) (hw : WF S) {s : Nat} (hs : s < S.n) {a e : Nat} (hec : e ≤ S.c) : ∀ d i k : Nat, i + d = e → d < k → gL2 (f_X6_worthOf_L6 (iI s) (iI ((e : Int) - 1)) m) k (iI (pS S s i - pS S s a)) (iI i) = some (iI (pS S s e - pS S s a)) := by
  have hc := hw.1
  have hn := hw.2.1
  intro d
  induction d with
  | zero =>
    intro i k e1 hk
    obtain ⟨k, rfl⟩ : ∃ k', k = k' + 1 := ⟨k - 1, by omega⟩
    show f_X6_worthOf_L6 (iI s) (iI ((e : Int) - 1)) m (gL2 (f_X6_worthOf_L6 (iI s) (iI ((e : Int) - 1)) m) k) _ _ = _
    unfold f_X6_worthOf_L6
    have e2 : i = e := by omega
    subst e2
    rw [if_pos (by rw [iI_lt (by omega) (by omega) (by omega) (by omega)]; omega)]
  | succ d ih =>
    intro i k e1 hk
    obtain ⟨k, rfl⟩ : ∃ k', k = k' + 1 := ⟨k - 1, by omega⟩
    show f_X6_worthOf_L6 (iI s) (iI ((e : Int) - 1)) m (gL2 (f_X6_worthOf_L6 (iI s) (iI ((e : Int) - 1)) m) k) _ _ = _
    have ih := ih (i + 1) k (by omega) (by omega)
    generalize gL2 (f_X6_worthOf_L6 (iI s) (iI ((e : Int) - 1)) m) k = r at ih ⊢
    unfold f_X6_worthOf_L6
    have hi : i < S.c := by omega
    rw [if_neg (by rw [iI_lt (by omega) (by omega) (by omega) (by omega)]; omega), b_val hB hs hn.2 hi hc.2, gB_s, iI_add, iI_1, iI_add, ← ih, pS_s]
    congr 2
    omega
theorem cWr (hS : StAt h st S sa) (hw : WF S) {s : Nat} (hs : s < S.n) {a e : Nat} (hae : a ≤ e) (hec : e ≤ S.c) : f_X5_worth (sa s) (iI a) (iI ((e : Int) - 1)) h = some (iI (pS S s e - pS S s a)) := by
  have h1 := wrC hS hw hs (a := a) hec (e - a) a gN (by omega) (by unfold gN; have := hw.1; omega)
  rw [Int.sub_self] at h1
  exact h1
theorem mWr (hB : BlkAt m 0 S) (hw : WF S) {s : Nat} (hs : s < S.n) {a e : Nat} (hae : a ≤ e) (hec : e ≤ S.c) : f_X6_worthOf (iI s) (iI a) (iI ((e : Int) - 1)) m = some (iI (pS S s e - pS S s a)) := by
  have h1 := wrM hB hw hs (a := a) hec (e - a) a gN (by omega) (by unfold gN; have := hw.1; omega)
  rw [Int.sub_self] at h1
  exact h1
theorem pS_b {S : gS} (hw : WF S) {s : Nat} (hs : s < S.n) {i : Nat} (hi : i ≤ S.c) : 0 ≤ pS S s i ∧ pS S s i ≤ i * 9 := sumZ_b i (fun k hk => hw.2.2.2.1 s hs k (by omega))
theorem pS_m {S : gS} (hw : WF S) {s : Nat} (hs : s < S.n) {a : Nat} : ∀ {b : Nat}, a ≤ b → b ≤ S.c → pS S s a ≤ pS S s b ∧ pS S s b - pS S s a ≤ ((b : Int) - a) * 9 := by
  intro b
  induction b with
  | zero =>
    intro h1 h2
    have : a = 0 := by omega
    subst this
    simp
  | succ b ih =>
    intro h1 h2
    by_cases e : a = b + 1
    · subst e; simp
    · have h3 := ih (by omega) (by omega)
      have h4 := hw.2.2.2.1 s hs b (by omega)
      rw [pS_s]
      omega
theorem totZ_b {S : gS} (hw : WF S) {s : Nat} (hs : s < S.n) : 0 ≤ totZ S s ∧ totZ S s ≤ 216 := by
  have h1 := pS_b hw hs (Nat.le_refl S.c)
  have h2 := hw.1
  unfold totZ
  omega
theorem pS_0 (S : gS) (s : Nat) : pS S s 0 = 0 := rfl
theorem cTot (hS : StAt h st S sa) (hw : WF S) {s : Nat} (hs : s < S.n) : f_X5_total (sa s) h = some (iI (totZ S s)) := by
  obtain ⟨fs2, h2⟩ := a_sobj hS hs
  unfold f_X5_total
  rw [a_vals hS hs, gB_s, a_vlen hS hs, gB_s, h2, gB_s, iI_1, iI_sub]
  have h1 := cWr hS hw hs (a := 0) (e := S.c) (by omega) (Nat.le_refl _)
  rw [pS_0, Int.sub_zero] at h1
  show Option.bind (f_X5_worth (sa s) (iI (0 : Nat)) (iI ((S.c : Int) - 1)) h) _ = _
  rw [h1, gB_s]
  rfl
theorem mTot (hB : BlkAt m 0 S) (hw : WF S) {s : Nat} (hs : s < S.n) : f_X6_totalOf (iI s) m = some (iI (totZ S s)) := by
  unfold f_X6_totalOf
  rw [iI_0, b_c hB, gB_s, iI_1, iI_sub]
  have h1 := mWr hB hw hs (a := 0) (e := S.c) (by omega) (Nat.le_refl _)
  rw [pS_0, Int.sub_zero] at h1
  show Option.bind (f_X6_worthOf (iI s) (iI (0 : Nat)) (iI ((S.c : Int) - 1)) m) _ = _
  rw [h1, gB_s]
  rfl
theorem satZ_01 (S : gS) (s : Nat) : satZ S s = 0 ∨ satZ S s = 1 := by
  unfold satZ
  split <;> simp
theorem sn_b {x : Int} {n : Nat} (h1 : 0 ≤ x ∧ x ≤ 216) (h2 : n ≤ 6) : 0 ≤ x * n ∧ x * n ≤ 1296 := by
  have h3 : n = 0 ∨ n = 1 ∨ n = 2 ∨ n = 3 ∨ n = 4 ∨ n = 5 ∨ n = 6 := by omega
  rcases h3 with rfl | rfl | rfl | rfl | rfl | rfl | rfl <;> simp <;> omega
theorem cSat (hS : StAt h st S sa) (hw : WF S) {s : Nat} (hs : s < S.n) : f_X2_isSatisfied st (iI s) h = some (iI (satZ S s)) := by
  obtain ⟨fs, h1⟩ := a_obj hS
  obtain ⟨fs2, h2⟩ := a_sobj hS hs
  have hn := hw.2.1
  have b1 := sWS_b hw hs s
  have b2 := totZ_b hw hs
  have b3 := sn_b b1 hn.2
  unfold f_X2_isSatisfied satZ
  rw [h1, gB_s, cWf hS hw hs, gB_s, a_size hS, gB_s, a_sib hS hs hn.2, gB_s, h2, gB_s, cTot hS hw hs, gB_s, iI_mul]
  simp (disch := omega) only [iI_lt, iI_0, iI_1]
  split <;> rfl
theorem mSat (hB : BlkAt m 0 S) (hw : WF S) {s : Nat} (hs : s < S.n) : f_X6_isContent (iI s) m = some (iI (satZ S s)) := by
  have hn := hw.2.1
  have b1 := sWS_b hw hs s
  have b2 := totZ_b hw hs
  have b3 := sn_b b1 hn.2
  unfold f_X6_isContent satZ
  rw [mWf hB hw hs, gB_s, iI_1, b_n hB, gB_s, mTot hB hw hs, gB_s, iI_mul]
  simp (disch := omega) only [iI_lt, iI_0]
  split <;> rfl
theorem satC_loop (hS : StAt h st S sa) (hw : WF S) : ∀ d i k : Nat, i + d = S.n → d < k → gL2 (f_X2_satisfied_L4 st h) k (iI (sumZ (satZ S) i)) (iI i) = some (iI (sumZ (satZ S) S.n)) := by
  obtain ⟨fs, h1⟩ := a_obj hS
  have hc := hw.1
  have hn := hw.2.1
  intro d
  induction d with
  | zero =>
    intro i k e hk
    obtain ⟨k, rfl⟩ : ∃ k', k = k' + 1 := ⟨k - 1, by omega⟩
    show f_X2_satisfied_L4 st h (gL2 (f_X2_satisfied_L4 st h) k) (iI (sumZ (satZ S) i)) (iI i) = _
    unfold f_X2_satisfied_L4
    have e1 : i = S.n := by omega
    subst e1
    rw [h1, gB_s, a_size hS, gB_s, if_pos (by rw [iI_le (by omega) (by omega) (by omega) (by omega)]; omega)]
  | succ d ih =>
    intro i k e hk
    obtain ⟨k, rfl⟩ : ∃ k', k = k' + 1 := ⟨k - 1, by omega⟩
    show f_X2_satisfied_L4 st h (gL2 (f_X2_satisfied_L4 st h) k) (iI (sumZ (satZ S) i)) (iI i) = _
    have ih := ih (i + 1) k (by omega) (by omega)
    generalize gL2 (f_X2_satisfied_L4 st h) k = r at ih ⊢
    unfold f_X2_satisfied_L4
    have hi : i < S.n := by omega
    have hle : ¬ ((S.n : Int) ≤ (i : Int)) := by omega
    have q0 := satZ_01 S i
    simp (disch := omega) only [h1, a_size hS, cSat hS hw hi, gB_s, iI_le, iI_lt, iI_eq, hle, if_false, iI_add, iI_sub, iI_mul, iI_0, iI_1, iI_n1, iI_2, iI_3, iI_4, iI_5, iI_6, iI_7, iI_8, iI_9, iI_10, iI_20, iI_24, iI_25, iI_26, iI_31, iI_32, iI_39, iI_45, iI_48, iI_57, iI_59, iI_97, iI_122, iI_212, iI_217, iI_240, iI_255, iI_600, iI_2147483647, Int.natCast_add, Int.natCast_one] at ih ⊢
    rw [← ih]
    simp only [sumZ]
    have q := satZ_01 S i
    by_cases q1 : satZ S i = 0
    · simp only [q1, if_true]
    · have q2 : satZ S i = 1 := by omega
      simp [q2]

theorem satM_loop (hB : BlkAt m 0 S) (hw : WF S) : ∀ d i k : Nat, i + d = S.n → d < k → gL2 (f_X6_contentCount_L4 m) k (iI (sumZ (satZ S) i)) (iI i) = some (iI (sumZ (satZ S) S.n)) := by
  have hc := hw.1
  have hn := hw.2.1
  intro d
  induction d with
  | zero =>
    intro i k e hk
    obtain ⟨k, rfl⟩ : ∃ k', k = k' + 1 := ⟨k - 1, by omega⟩
    show f_X6_contentCount_L4 m (gL2 (f_X6_contentCount_L4 m) k) (iI (sumZ (satZ S) i)) (iI i) = _
    unfold f_X6_contentCount_L4
    have e1 : i = S.n := by omega
    subst e1
    rw [iI_1, b_n hB, gB_s, if_pos (by rw [iI_le (by omega) (by omega) (by omega) (by omega)]; omega)]
  | succ d ih =>
    intro i k e hk
    obtain ⟨k, rfl⟩ : ∃ k', k = k' + 1 := ⟨k - 1, by omega⟩
    show f_X6_contentCount_L4 m (gL2 (f_X6_contentCount_L4 m) k) (iI (sumZ (satZ S) i)) (iI i) = _
    have ih := ih (i + 1) k (by omega) (by omega)
    generalize gL2 (f_X6_contentCount_L4 m) k = r at ih ⊢
    unfold f_X6_contentCount_L4
    have hi : i < S.n := by omega
    have hle : ¬ ((S.n : Int) ≤ (i : Int)) := by omega
    have q0 := satZ_01 S i
    simp (disch := omega) only [b_n hB, mSat hB hw hi, gB_s, iI_le, iI_lt, iI_eq, hle, if_false, iI_add, iI_sub, iI_mul, iI_0, iI_1, iI_n1, iI_2, iI_3, iI_4, iI_5, iI_6, iI_7, iI_8, iI_9, iI_10, iI_20, iI_24, iI_25, iI_26, iI_31, iI_32, iI_39, iI_45, iI_48, iI_57, iI_59, iI_97, iI_122, iI_212, iI_217, iI_240, iI_255, iI_600, iI_2147483647, Int.natCast_add, Int.natCast_one] at ih ⊢
    rw [← ih]
    simp only [sumZ]
    have q := satZ_01 S i
    by_cases q1 : satZ S i = 0
    · simp only [q1, if_true]
    · have q2 : satZ S i = 1 := by omega
      simp [q2]

theorem cSatN (hS : StAt h st S sa) (hw : WF S) : f_X2_satisfied st h = some (iI (sumZ (satZ S) S.n)) := satC_loop hS hw S.n 0 gN (by omega) (by unfold gN; have := hw.2.1; omega)
theorem mSatN (hB : BlkAt m 0 S) (hw : WF S) : f_X6_contentCount m = some (iI (sumZ (satZ S) S.n)) := satM_loop hB hw S.n 0 gN (by omega) (by unfold gN; have := hw.2.1; omega)
end RD
