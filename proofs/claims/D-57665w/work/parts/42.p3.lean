/-! READS, 2: envy, mildness, welfare -/
def CurAt (h : gH) (cd st : Nat) : Prop := ∃ fs : List Value, h cd = some (.inr (3, fs)) ∧ fs[4]? = some (.ref st)
theorem cur_o {h : gH} {cd st : Nat} (hO : CurAt h cd st) : ∃ fs, g_obj h cd 3 = some fs := by
  obtain ⟨fs, h1, -⟩ := hO
  exact ⟨_, g_obj_s h1⟩
theorem cur_s {h : gH} {cd st : Nat} (hO : CurAt h cd st) : g_fA h cd 3 4 = some st := by
  obtain ⟨fs, h1, h2⟩ := hO
  exact fA_at h1 h2
theorem iI_div {a d : Nat} (ha : a < 2147483648) (h0 : 0 < d) (hd : d < 2147483648) : iI (a : Int) / iI (d : Int) = iI ((a / d : Nat) : Int) := pk_div (a := a) (d := d) ha h0 hd
theorem iI_rem {a d : Nat} (ha : a < 2147483648) (h0 : 0 < d) (hd : d < 2147483648) : iI (a : Int) - iI (a : Int) / iI (d : Int) * iI (d : Int) = iI ((a % d : Nat) : Int) := pk_rem (a := a) (d := d) ha h0 hd
theorem sumZ_app (f : Nat → Int) (a : Nat) : ∀ j, sumZ f (a + j) = sumZ f a + sumZ (fun i => f (a + i)) j := by
  intro j
  induction j with
  | zero => simp [sumZ]
  | succ j ih => rw [← Nat.add_assoc]; simp only [sumZ]; rw [ih]; omega
theorem sumZ_cong {f g : Nat → Int} : ∀ {n : Nat}, (∀ k, k < n → f k = g k) → sumZ f n = sumZ g n := by
  intro n
  induction n with
  | zero => intro _; rfl
  | succ n ih => intro h; simp only [sumZ]; rw [ih fun k hk => h k (by omega), h n (by omega)]
theorem sumZ_block (g : Nat → Nat → Int) {n : Nat} (hn : 0 < n) : ∀ a, sumZ (fun k => g (k / n) (k % n)) (a * n) = sumZ (fun x => sumZ (g x) n) a := by
  intro a
  induction a with
  | zero => simp [sumZ]
  | succ a ih =>
    rw [Nat.succ_mul, sumZ_app, ih]
    simp only [sumZ]
    congr 1
    refine sumZ_cong fun k hk => ?_
    rw [show (a * n + k) / n = a by rw [Nat.mul_comm, Nat.mul_add_div hn, Nat.div_eq_of_lt hk]; omega, show (a * n + k) % n = k by rw [Nat.mul_comm, Nat.mul_add_mod, Nat.mod_eq_of_lt hk]]
def envZ (S : gS) : Int := sumZ (fun a => sumZ (eZ S a) S.n) S.n
def anyB (p : Nat → Bool) : Nat → Bool
  | 0 => false
  | k + 1 => anyB p k || p k
theorem anyB_m {p : Nat → Bool} {i : Nat} (h : anyB p i = true) : ∀ {j : Nat}, i ≤ j → anyB p j = true := by
  intro j
  induction j with
  | zero => intro h2; rw [show i = 0 by omega] at h; exact h
  | succ j ih =>
    intro h2
    by_cases e : i = j + 1
    · rw [← e]; exact h
    · simp only [anyB, ih (by omega), Bool.true_or]
/-- a cell of o's share worth the excess for s -/
def mlP (S : gS) (s : Nat) (o : Int) (ex : Int) (k : Nat) : Bool := decide (S.ow k = o ∧ ex ≤ S.v s k)
def mlZ (S : gS) (a b : Nat) : Int := if anyB (mlP S a b (sWS S a b - sWS S a a)) S.c = true then 1 else 0
def mxZ (S : gS) (s : Nat) (o : Int) : Nat → Int
  | 0 => 0
  | k + 1 => if S.ow k = o then (if S.v s k ≤ mxZ S s o k then mxZ S s o k else S.v s k) else mxZ S s o k
theorem mx_any {S : gS} {s : Nat} {o ex : Int} (hex : 1 ≤ ex) : ∀ k, (anyB (mlP S s o ex) k = true ↔ ex ≤ mxZ S s o k) := by
  intro k
  induction k with
  | zero => simp [anyB, mxZ]; omega
  | succ k ih =>
    simp only [anyB, mxZ, Bool.or_eq_true, ih, mlP, decide_eq_true_eq]
    by_cases q1 : S.ow k = o
    · simp only [q1, if_true, true_and]
      split <;> omega
    · simp [q1]
theorem mx_b {S : gS} (hw : WF S) {s : Nat} (hs : s < S.n) (o : Int) : ∀ k, k ≤ S.c → 0 ≤ mxZ S s o k ∧ mxZ S s o k ≤ 9 := by
  intro k
  induction k with
  | zero => intro _; simp [mxZ]
  | succ k ih =>
    intro hk
    have h1 := ih (by omega)
    have h2 := hw.2.2.2.1 s hs k (by omega)
    simp only [mxZ]
    split
    · split <;> omega
    · exact h1
section RD3
variable {h : gH} {st cd : Nat} {S : gS} {sa : Nat → Nat} {m : Nat → Int32}
theorem envC_loop (hS : StAt h st S sa) (hw : WF S) : ∀ d i k : Nat, i + d = S.n * S.n → d < k → gL2 (f_X2_envies_L4 st h) k (iI (sumZ (fun k => eZ S (k / S.n) (k % S.n)) i)) (iI i) = some (iI (sumZ (fun k => eZ S (k / S.n) (k % S.n)) (S.n * S.n))) := by
  obtain ⟨fs, h1⟩ := a_obj hS
  have hc := hw.1
  have hn := hw.2.1
  have hnn : S.n * S.n ≤ 36 := Nat.mul_le_mul hn.2 hn.2
  have hnc : ((S.n * S.n : Nat) : Int) = (S.n : Int) * S.n := Int.natCast_mul _ _
  intro d
  induction d with
  | zero =>
    intro i k e hk
    obtain ⟨k, rfl⟩ : ∃ k', k = k' + 1 := ⟨k - 1, by omega⟩
    show f_X2_envies_L4 st h (gL2 (f_X2_envies_L4 st h) k) (iI (sumZ (fun k => eZ S (k / S.n) (k % S.n)) i)) (iI i) = _
    unfold f_X2_envies_L4
    have e1 : i = S.n * S.n := by omega
    subst e1
    rw [h1, gB_s, a_size hS, gB_s, gB_s, iI_mul, if_pos (by rw [iI_le (by omega) (by omega) (by omega) (by omega)]; omega)]
  | succ d ih =>
    intro i k e hk
    obtain ⟨k, rfl⟩ : ∃ k', k = k' + 1 := ⟨k - 1, by omega⟩
    show f_X2_envies_L4 st h (gL2 (f_X2_envies_L4 st h) k) (iI (sumZ (fun k => eZ S (k / S.n) (k % S.n)) i)) (iI i) = _
    have ih := ih (i + 1) k (by omega) (by omega)
    generalize gL2 (f_X2_envies_L4 st h) k = r at ih ⊢
    unfold f_X2_envies_L4
    have hi : i < S.n * S.n := by omega
    have hle : ¬ ((S.n * S.n : Int) ≤ (i : Int)) := by omega
    have d1 : i / S.n < S.n := (Nat.div_lt_iff_lt_mul (by omega)).mpr hi
    have d2 : i % S.n < S.n := Nat.mod_lt _ (by omega)
    have q0 := eZ_01 S (i / S.n) (i % S.n)
    have z0 : ¬ iI (S.n : Int) = 0 := by rw [iI_0, iI_eq (by omega) (by omega) (by omega) (by omega)]; omega
    have z1 := iI_rem (a := i) (d := S.n) (by omega) (by omega) (by omega)
    have z2 := iI_div (a := i) (d := S.n) (by omega) (by omega) (by omega)
    rw [h1, gB_s, a_size hS, gB_s, gB_s, iI_mul, if_neg (by rw [iI_le (by omega) (by omega) (by omega) (by omega)]; omega), gB_s, if_pos z0, gB_s, if_pos z0, z1, z2, cEnv hS hw d1 d2, gB_s, eZ_if]
    rw [iI_0, iI_1, iI_add, iI_add, iI_add]
    rw [Int.natCast_add] at ih
    simp only [sumZ] at ih ⊢
    have q := eZ_01 S (i / S.n) (i % S.n)
    by_cases q1 : eZ S (i / S.n) (i % S.n) = 0
    · rw [if_pos q1]; rw [q1] at ih; exact ih
    · have q2 : eZ S (i / S.n) (i % S.n) = 1 := by omega
      rw [if_neg q1]; rw [q2] at ih; exact ih

theorem enrC_loop (hS : StAt h st S sa) (hw : WF S) (hO : CurAt h cd st) {b : Nat} (hb : b < S.n) : ∀ d i k : Nat, i + d = S.n → d < k → gL2 (f_X1_enviers_L4 cd (iI b) h) k (iI (sumZ (fun a => eZ S a b) i)) (iI i) = some (iI (sumZ (fun a => eZ S a b) S.n)) := by
  obtain ⟨fs, h1⟩ := a_obj hS
  obtain ⟨fo, o1⟩ := cur_o hO
  have o2 := cur_s hO
  have hc := hw.1
  have hn := hw.2.1
  intro d
  induction d with
  | zero =>
    intro i k e hk
    obtain ⟨k, rfl⟩ : ∃ k', k = k' + 1 := ⟨k - 1, by omega⟩
    show f_X1_enviers_L4 cd (iI b) h (gL2 (f_X1_enviers_L4 cd (iI b) h) k) (iI (sumZ (fun a => eZ S a b) i)) (iI i) = _
    unfold f_X1_enviers_L4
    have e1 : i = S.n := by omega
    subst e1
    rw [o2, gB_s, h1, gB_s, a_size hS, gB_s, if_pos (by rw [iI_le (by omega) (by omega) (by omega) (by omega)]; omega)]
  | succ d ih =>
    intro i k e hk
    obtain ⟨k, rfl⟩ : ∃ k', k = k' + 1 := ⟨k - 1, by omega⟩
    show f_X1_enviers_L4 cd (iI b) h (gL2 (f_X1_enviers_L4 cd (iI b) h) k) (iI (sumZ (fun a => eZ S a b) i)) (iI i) = _
    have ih := ih (i + 1) k (by omega) (by omega)
    generalize gL2 (f_X1_enviers_L4 cd (iI b) h) k = r at ih ⊢
    unfold f_X1_enviers_L4
    have hi : i < S.n := by omega
    have hle : ¬ ((S.n : Int) ≤ (i : Int)) := by omega
    have q0 := eZ_01 S i b
    simp (disch := omega) only [o2, h1, a_size hS, cEnv hS hw hi hb, gB_s, iI_le, iI_lt, iI_eq, hle, if_false, iI_add, iI_sub, iI_mul, iI_0, iI_1, iI_n1, iI_2, iI_3, iI_4, iI_5, iI_6, iI_7, iI_8, iI_9, iI_10, iI_20, iI_24, iI_25, iI_26, iI_31, iI_32, iI_39, iI_45, iI_48, iI_57, iI_59, iI_97, iI_122, iI_212, iI_217, iI_240, iI_255, iI_600, iI_2147483647, Int.natCast_add, Int.natCast_one] at ih ⊢
    simp only [sumZ] at ih ⊢
    have q := eZ_01 S i b
    by_cases q1 : eZ S i b = 0
    · simp only [q1, if_true] at ih ⊢; exact ih
    · have q2 : eZ S i b = 1 := by omega
      simp only [q2] at ih ⊢; exact ih

theorem enrM_loop (hB : BlkAt m 0 S) (hw : WF S) {b : Nat} (hb : b < S.n) : ∀ d i k : Nat, i + d = S.n → d < k → gL2 (f_X6_enviersOf_L4 (iI b) m) k (iI (sumZ (fun a => eZ S a b) i)) (iI i) = some (iI (sumZ (fun a => eZ S a b) S.n)) := by
  have hc := hw.1
  have hn := hw.2.1
  intro d
  induction d with
  | zero =>
    intro i k e hk
    obtain ⟨k, rfl⟩ : ∃ k', k = k' + 1 := ⟨k - 1, by omega⟩
    show f_X6_enviersOf_L4 (iI b) m (gL2 (f_X6_enviersOf_L4 (iI b) m) k) (iI (sumZ (fun a => eZ S a b) i)) (iI i) = _
    unfold f_X6_enviersOf_L4
    have e1 : i = S.n := by omega
    subst e1
    rw [iI_1, b_n hB, gB_s, if_pos (by rw [iI_le (by omega) (by omega) (by omega) (by omega)]; omega)]
  | succ d ih =>
    intro i k e hk
    obtain ⟨k, rfl⟩ : ∃ k', k = k' + 1 := ⟨k - 1, by omega⟩
    show f_X6_enviersOf_L4 (iI b) m (gL2 (f_X6_enviersOf_L4 (iI b) m) k) (iI (sumZ (fun a => eZ S a b) i)) (iI i) = _
    have ih := ih (i + 1) k (by omega) (by omega)
    generalize gL2 (f_X6_enviersOf_L4 (iI b) m) k = r at ih ⊢
    unfold f_X6_enviersOf_L4
    have hi : i < S.n := by omega
    have hle : ¬ ((S.n : Int) ≤ (i : Int)) := by omega
    have q0 := eZ_01 S i b
    simp (disch := omega) only [b_n hB, mEnv hB hw hi hb, gB_s, iI_le, iI_lt, iI_eq, hle, if_false, iI_add, iI_sub, iI_mul, iI_0, iI_1, iI_n1, iI_2, iI_3, iI_4, iI_5, iI_6, iI_7, iI_8, iI_9, iI_10, iI_20, iI_24, iI_25, iI_26, iI_31, iI_32, iI_39, iI_45, iI_48, iI_57, iI_59, iI_97, iI_122, iI_212, iI_217, iI_240, iI_255, iI_600, iI_2147483647, Int.natCast_add, Int.natCast_one] at ih ⊢
    simp only [sumZ] at ih ⊢
    have q := eZ_01 S i b
    by_cases q1 : eZ S i b = 0
    · simp only [q1, if_true] at ih ⊢; exact ih
    · have q2 : eZ S i b = 1 := by omega
      simp only [q2] at ih ⊢; exact ih

def enrZ (S : gS) (b : Nat) : Int := sumZ (fun a => eZ S a b) S.n
theorem enrZ_b {S : gS} (hw : WF S) (b : Nat) : 0 ≤ enrZ S b ∧ enrZ S b ≤ 6 := by
  have h1 := sumZ_b (f := fun a => eZ S a b) (b := 1) S.n (fun k _ => by have := eZ_01 S k b; show 0 ≤ eZ S k b ∧ eZ S k b ≤ 1; omega)
  have h2 := hw.2.1
  unfold enrZ
  omega
theorem cEnr (hS : StAt h st S sa) (hw : WF S) (hO : CurAt h cd st) {b : Nat} (hb : b < S.n) : f_X1_enviers cd (iI b) h = some (iI (enrZ S b)) := enrC_loop hS hw hO hb S.n 0 gN (by omega) (by unfold gN; have := hw.2.1; omega)
theorem mEnr (hB : BlkAt m 0 S) (hw : WF S) {b : Nat} (hb : b < S.n) : f_X6_enviersOf (iI b) m = some (iI (enrZ S b)) := enrM_loop hB hw hb S.n 0 gN (by omega) (by unfold gN; have := hw.2.1; omega)
theorem cEnvN (hS : StAt h st S sa) (hw : WF S) : f_X2_envies st h = some (iI (envZ S)) := by
  have hnn : S.n * S.n ≤ 36 := Nat.mul_le_mul hw.2.1.2 hw.2.1.2
  have h1 := envC_loop hS hw (S.n * S.n) 0 gN (by omega) (by unfold gN; omega)
  rw [sumZ_block (eZ S) (by have := hw.2.1; omega)] at h1
  exact h1
def mostE (S : gS) : Nat → Nat
  | 0 => 0
  | k + 1 => if enrZ S (k + 1) ≤ enrZ S (mostE S k) then mostE S k else k + 1
theorem mostE_le (S : gS) : ∀ k, mostE S k ≤ k := by
  intro k
  induction k with
  | zero => exact Nat.le_refl _
  | succ k ih => simp only [mostE]; split <;> omega
theorem envM_in (hB : BlkAt m 0 S) (hw : WF S) {a : Nat} (ha : a < S.n) {r4 : Int32 → Int32 → Option Int32} {acc : Int}  : ∀ d j k : Nat, j + d = S.n → d < k → gL2 (f_X6_envyTotal_L16 r4 (iI a) m) k (iI (acc + sumZ (eZ S a) j)) (iI j) = r4 (iI (acc + sumZ (eZ S a) S.n)) (iI a + iI 1) := by
  have hc := hw.1
  have hn := hw.2.1
  intro d
  induction d with
  | zero =>
    intro j k e hk
    obtain ⟨k, rfl⟩ : ∃ k', k = k' + 1 := ⟨k - 1, by omega⟩
    show f_X6_envyTotal_L16 r4 (iI a) m (gL2 (f_X6_envyTotal_L16 r4 (iI a) m) k) _ _ = _
    unfold f_X6_envyTotal_L16
    have e1 : j = S.n := by omega
    subst e1
    rw [iI_1, b_n hB, gB_s, if_pos (by rw [iI_le (by omega) (by omega) (by omega) (by omega)]; omega)] <;> rfl
  | succ d ih =>
    intro j k e hk
    obtain ⟨k, rfl⟩ : ∃ k', k = k' + 1 := ⟨k - 1, by omega⟩
    show f_X6_envyTotal_L16 r4 (iI a) m (gL2 (f_X6_envyTotal_L16 r4 (iI a) m) k) _ _ = _
    have ih := ih (j + 1) k (by omega) (by omega)
    generalize gL2 (f_X6_envyTotal_L16 r4 (iI a) m) k = r at ih ⊢
    unfold f_X6_envyTotal_L16
    have hi : j < S.n := by omega
    have hle : ¬ ((S.n : Int) ≤ (j : Int)) := by omega
    have q0 := eZ_01 S a j
    simp (disch := omega) only [b_n hB, mEnv hB hw ha hi, gB_s, iI_le, iI_lt, iI_eq, hle, if_false, iI_add, iI_sub, iI_mul, iI_0, iI_1, iI_n1, iI_2, iI_3, iI_4, iI_5, iI_6, iI_7, iI_8, iI_9, iI_10, iI_20, iI_24, iI_25, iI_26, iI_31, iI_32, iI_39, iI_45, iI_48, iI_57, iI_59, iI_97, iI_122, iI_212, iI_217, iI_240, iI_255, iI_600, iI_2147483647, Int.natCast_add, Int.natCast_one] at ih ⊢
    simp only [sumZ] at ih
    have q := eZ_01 S a j
    by_cases q1 : eZ S a j = 0
    · simp only [q1, if_true, Int.add_zero] at ih ⊢; exact ih
    · have q2 : eZ S a j = 1 := by omega
      simp only [q2, ← Int.add_assoc] at ih ⊢; exact ih
theorem envM_loop (hB : BlkAt m 0 S) (hw : WF S) : ∀ d i k : Nat, i + d = S.n → d < k → gL2 (f_X6_envyTotal_L4 m) k (iI (sumZ (fun a => sumZ (eZ S a) S.n) i)) (iI i) = some (iI (sumZ (fun a => sumZ (eZ S a) S.n) S.n)) := by
  have hc := hw.1
  have hn := hw.2.1
  intro d
  induction d with
  | zero =>
    intro i k e hk
    obtain ⟨k, rfl⟩ : ∃ k', k = k' + 1 := ⟨k - 1, by omega⟩
    show f_X6_envyTotal_L4 m (gL2 (f_X6_envyTotal_L4 m) k) (iI (sumZ (fun a => sumZ (eZ S a) S.n) i)) (iI i) = _
    unfold f_X6_envyTotal_L4
    have e1 : i = S.n := by omega
    subst e1
    rw [iI_1, b_n hB, gB_s, if_pos (by rw [iI_le (by omega) (by omega) (by omega) (by omega)]; omega)]
  | succ d ih =>
    intro i k e hk
    obtain ⟨k, rfl⟩ : ∃ k', k = k' + 1 := ⟨k - 1, by omega⟩
    show f_X6_envyTotal_L4 m (gL2 (f_X6_envyTotal_L4 m) k) (iI (sumZ (fun a => sumZ (eZ S a) S.n) i)) (iI i) = _
    have ih := ih (i + 1) k (by omega) (by omega)
    generalize gL2 (f_X6_envyTotal_L4 m) k = r at ih ⊢
    unfold f_X6_envyTotal_L4
    have hi : i < S.n := by omega
    have hle : ¬ ((S.n : Int) ≤ (i : Int)) := by omega
    have h9 := envM_in hB hw hi (r4 := r) (acc := sumZ (fun a => sumZ (eZ S a) S.n) i) S.n 0 gN (by omega) (by unfold gN; have := hw.2.1; omega)
    simp only [sumZ, Int.add_zero] at h9
    rw [iI_1, b_n hB, gB_s, if_neg (by rw [iI_le (by omega) (by omega) (by omega) (by omega)]; omega)]
    refine Eq.trans h9 ?_
    rw [iI_add]
    simp only [sumZ, Int.natCast_add, Int.natCast_one] at ih
    exact ih

theorem mEnvN (hB : BlkAt m 0 S) (hw : WF S) : f_X6_envyTotal m = some (iI (envZ S)) := envM_loop hB hw S.n 0 gN (by omega) (by unfold gN; have := hw.2.1; omega)
end RD3
