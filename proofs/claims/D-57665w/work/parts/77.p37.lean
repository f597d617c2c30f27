/-! ENVY CYCLES: distances, the nearest successor, the cycle -/
def exB (P : Nat → Bool) : Nat → Bool
  | 0 => false
  | i + 1 => exB P i || P i
theorem exB_iff {P : Nat → Bool} : ∀ {n : Nat}, exB P n = true ↔ ∃ j, j < n ∧ P j = true := by
  intro n
  induction n with
  | zero => exact ⟨fun h => absurd h (by simp [exB]), fun ⟨j, h, _⟩ => absurd h (Nat.not_lt_zero j)⟩
  | succ n ih =>
    simp only [exB, Bool.or_eq_true, ih]
    constructor
    · rintro (⟨j, h1, h2⟩ | h)
      · exact ⟨j, by omega, h2⟩
      · exact ⟨n, by omega, h⟩
    · rintro ⟨j, h1, h2⟩
      by_cases q : j = n
      · subst q; exact .inr h2
      · exact .inl ⟨j, by omega, h2⟩
section EC
variable (S : gS) (g : Nat)
def Dd : Nat → Nat → Int
  | 0, k => if k = g then 0 else -1
  | s + 1, k => if Dd s k = -1 then (if exB (fun j => decide (Dd s j = (s : Int)) && decide (eZ S k j ≠ 0)) S.n = true then (s : Int) + 1 else -1) else Dd s k
def Tt : Nat → Nat → Int
  | 0, _ => -1
  | s + 1, k => if Tt s k = -1 then (if exB (fun j => (if s = 0 then decide (j = g) else decide (j ≠ g) && decide (Tt s j = (s : Int))) && decide (eZ S k j ≠ 0)) S.n = true then (s : Int) + 1 else -1) else Tt s k
variable {S g}
theorem Dd_b : ∀ s k, -1 ≤ Dd S g s k ∧ Dd S g s k ≤ s := by
  intro s
  induction s with
  | zero => intro k; simp only [Dd]; split <;> omega
  | succ s ih =>
    intro k
    have := ih k
    simp only [Dd]
    split
    · split <;> omega
    · omega
theorem Dd_g : ∀ s, Dd S g s g = 0 := by
  intro s
  induction s with
  | zero => simp [Dd]
  | succ s ih => simp only [Dd]; rw [if_neg (by omega)]; exact ih
theorem Dd_0 : ∀ s k, Dd S g s k = 0 → k = g := by
  intro s
  induction s with
  | zero => intro k h; simp only [Dd] at h; split at h <;> simp_all
  | succ s ih =>
    intro k h
    simp only [Dd] at h
    split at h
    · split at h <;> omega
    · exact ih k h
theorem Dd_up1 {s k : Nat} (h : Dd S g s k ≠ -1) : Dd S g (s + 1) k = Dd S g s k := by
  simp only [Dd]; rw [if_neg h]
theorem Dd_up {s k : Nat} (h : Dd S g s k ≠ -1) : ∀ t, s ≤ t → Dd S g t k = Dd S g s k := by
  intro t ht
  obtain ⟨d, rfl⟩ : ∃ d, t = s + d := ⟨t - s, by omega⟩
  clear ht
  induction d with
  | zero => rfl
  | succ d ih => rw [← Nat.add_assoc, Dd_up1 (by rw [ih]; exact h), ih]
/-- a distance is measured in its own step, over a nearer sibling -/
theorem Dd_at : ∀ s k, 1 ≤ Dd S g s k → Dd S g (Dd S g s k).toNat k = Dd S g s k ∧ ∃ j, j < S.n ∧ Dd S g ((Dd S g s k).toNat - 1) j = Dd S g s k - 1 ∧ eZ S k j ≠ 0 := by
  intro s
  induction s with
  | zero => intro k h; have := (Dd_b (S := S) (g := g) 0 k).2; omega
  | succ s ih =>
    intro k h
    by_cases q : Dd S g s k = -1
    · have e : Dd S g (s + 1) k = (s : Int) + 1 := by
        simp only [Dd] at h ⊢
        rw [if_pos q] at h ⊢
        split at h
        · rename_i w; rw [if_pos w]
        · omega
      have hx : exB (fun j => decide (Dd S g s j = (s : Int)) && decide (eZ S k j ≠ 0)) S.n = true := by
        simp only [Dd] at h
        rw [if_pos q] at h
        split at h
        · assumption
        · omega
      obtain ⟨j, j1, j2⟩ := exB_iff.mp hx
      simp only [Bool.and_eq_true, decide_eq_true_eq] at j2
      refine ⟨?_, j, j1, ?_, j2.2⟩
      · rw [e, show ((s : Int) + 1).toNat = s + 1 by omega]; exact e
      · rw [e, show ((s : Int) + 1).toNat - 1 = s by omega, j2.1]; omega
    · have e := Dd_up1 q
      rw [e] at h ⊢
      exact ih k h
theorem Dd_next {s k j : Nat} (hj : j < S.n) (hd : Dd S g s j = (s : Int)) (he : eZ S k j ≠ 0) : Dd S g (s + 1) k ≠ -1 := by
  simp only [Dd]
  by_cases q : Dd S g s k = -1
  · rw [if_pos q, if_pos (exB_iff.mpr ⟨j, hj, by simp [hd, he]⟩)]; omega
  · rw [if_neg q]; exact q
theorem Dd_fix {t j : Nat} (h : Dd S g t j ≠ -1) : Dd S g (Dd S g t j).toNat j = Dd S g t j := by
  have b := Dd_b (S := S) (g := g) t j
  by_cases q : Dd S g t j = 0
  · have := Dd_0 t j q
    subst this
    rw [Dd_g, Dd_g]
  · exact (Dd_at t j (by omega)).1
/-- one envy further is at most one step further -/
theorem Dd_tri {t j k : Nat} (hj : j < S.n) (h : Dd S g t j ≠ -1) (ht : (Dd S g t j) < t) (he : eZ S k j ≠ 0) : Dd S g t k ≠ -1 ∧ Dd S g t k ≤ Dd S g t j + 1 := by
  have b := Dd_b (S := S) (g := g) t j
  have f := Dd_fix h
  generalize e : (Dd S g t j).toNat = d at f
  have hd : Dd S g d j = (d : Int) := by omega
  have h1 := Dd_next hj hd he
  have h2 := Dd_b (S := S) (g := g) (d + 1) k
  have h3 := Dd_up h1 t (by omega)
  rw [h3]
  exact ⟨h1, by omega⟩
-- counting: a distance is less than the number of siblings
def cnD (S : gS) (g s : Nat) : Nat → Nat
  | 0 => 0
  | k + 1 => cnD S g s k + (if Dd S g s k = -1 then 0 else 1)
theorem cnD_le (s : Nat) : ∀ k, cnD S g s k ≤ k := by
  intro k
  induction k with
  | zero => exact Nat.le_refl _
  | succ k ih => simp only [cnD]; split <;> omega
theorem cnD_mono (s : Nat) : ∀ k, cnD S g s k ≤ cnD S g (s + 1) k := by
  intro k
  induction k with
  | zero => exact Nat.le_refl _
  | succ k ih =>
    simp only [cnD]
    by_cases q : Dd S g s k = -1
    · rw [if_pos q]; split <;> omega
    · rw [if_neg q, if_neg (by rw [Dd_up1 q]; exact q)]; omega
theorem cnD_lt {s b : Nat} (h0 : Dd S g s b = -1) (h1 : Dd S g (s + 1) b ≠ -1) : ∀ k, b < k → cnD S g s k < cnD S g (s + 1) k := by
  intro k
  induction k with
  | zero => intro h; omega
  | succ k ih =>
    intro h
    simp only [cnD]
    by_cases q : b = k
    · subst q
      rw [if_pos h0, if_neg h1]
      have := cnD_mono (S := S) (g := g) s b
      omega
    · have := ih (by omega)
      by_cases q : Dd S g s k = -1
      · rw [if_pos q]; split <;> omega
      · rw [if_neg q, if_neg (by rw [Dd_up1 q]; exact q)]; omega
theorem cnD_g {s : Nat} : ∀ k, g < k → 1 ≤ cnD S g s k := by
  intro k
  induction k with
  | zero => intro h; omega
  | succ k ih =>
    intro h
    simp only [cnD]
    by_cases q : g = k
    · subst q; rw [if_neg (by rw [Dd_g]; omega)]; omega
    · have := ih (by omega); omega
theorem cnD_ge (hg : g < S.n) : ∀ s b, b < S.n → Dd S g s b = (s : Int) → s + 1 ≤ cnD S g s S.n := by
  intro s
  induction s with
  | zero => intro b hb h; exact cnD_g _ hg
  | succ s ih =>
    intro b hb h
    have a := Dd_at (s + 1) b (by rw [h]; omega)
    obtain ⟨-, j, j1, j2, j3⟩ := a
    rw [h, show (((s + 1 : Nat) : Int)).toNat - 1 = s by omega] at j2
    have e1 := ih j j1 (by rw [j2]; omega)
    have h0 : Dd S g s b = -1 := by
      by_cases q : Dd S g s b = -1
      · exact q
      · have := Dd_up1 q
        have := Dd_b (S := S) (g := g) s b
        omega
    have e2 := cnD_lt h0 (by rw [h]; omega) S.n hb
    omega
theorem Dd_small (hg : g < S.n) {t b : Nat} (hb : b < S.n) (h : Dd S g t b ≠ -1) : Dd S g t b < S.n := by
  have f := Dd_fix h
  have b1 := Dd_b (S := S) (g := g) t b
  generalize e : (Dd S g t b).toNat = d at f
  have := cnD_ge hg d b hb (by omega)
  have := cnD_le (S := S) (g := g) d S.n
  omega
/-- the reference's steps are the distances, but for the goal itself -/
theorem Tt_D : ∀ s k, k ≠ g → Tt S g s k = Dd S g s k := by
  intro s
  induction s with
  | zero => intro k hk; simp [Tt, Dd, hk]
  | succ s ih =>
    intro k hk
    simp only [Tt, Dd, ih k hk]
    have e : exB (fun j => (if s = 0 then decide (j = g) else decide (j ≠ g) && decide (Tt S g s j = (s : Int))) && decide (eZ S k j ≠ 0)) S.n = exB (fun j => decide (Dd S g s j = (s : Int)) && decide (eZ S k j ≠ 0)) S.n := by
      congr 1
      funext j
      congr 1
      by_cases q : s = 0
      · subst q
        rw [if_pos rfl]
        simp only [Dd]
        by_cases z : j = g <;> simp [z]
      · rw [if_neg q]
        by_cases z : j = g
        · subst z
          rw [Dd_g]
          simp; omega
        · rw [ih j z]; simp [z]
    rw [e]
theorem eZ_self (a : Nat) : eZ S a a = 0 := by
  unfold eZ; rw [if_pos (Int.le_refl _)]
/-- .. and for the goal: one more than the nearest envied sibling -/
theorem Tt_g1 : ∀ s, Tt S g s g ≠ -1 → 1 ≤ Tt S g s g ∧ Tt S g s g ≤ s ∧ ∃ j, j < S.n ∧ j ≠ g ∧ Dd S g s j = Tt S g s g - 1 ∧ eZ S g j ≠ 0 := by
  intro s
  induction s with
  | zero => intro h; exact absurd rfl h
  | succ s ih =>
    intro h
    by_cases q : Tt S g s g = -1
    · simp only [Tt] at h ⊢
      rw [if_pos q] at h ⊢
      by_cases w : exB (fun j => (if s = 0 then decide (j = g) else decide (j ≠ g) && decide (Tt S g s j = (s : Int))) && decide (eZ S g j ≠ 0)) S.n = true
      · rw [if_pos w]
        obtain ⟨j, j1, j2⟩ := exB_iff.mp w
        simp only [Bool.and_eq_true, decide_eq_true_eq] at j2
        have hjg : j ≠ g := fun z => j2.2 (by rw [z]; exact eZ_self g)
        by_cases z : s = 0
        · rw [if_pos z] at j2
          exact absurd (of_decide_eq_true j2.1) hjg
        · rw [if_neg z] at j2
          simp only [Bool.and_eq_true, decide_eq_true_eq] at j2
          have e := Tt_D (S := S) (g := g) s j hjg
          rw [j2.1.2] at e
          exact ⟨by omega, by omega, j, j1, hjg, by rw [Dd_up1 (by omega)]; omega, j2.2⟩
      · rw [if_neg w] at h; exact absurd rfl h
    · have e : Tt S g (s + 1) g = Tt S g s g := by simp only [Tt]; rw [if_neg q]
      rw [e] at h ⊢
      obtain ⟨a1, a2, j, a3, a4, a5, a6⟩ := ih h
      exact ⟨a1, by omega, j, a3, a4, by rw [Dd_up1 (by omega)]; exact a5, a6⟩
theorem Tt_g2 {j : Nat} (hj : j < S.n) (hjg : j ≠ g) (he : eZ S g j ≠ 0) : ∀ s, Dd S g s j ≠ -1 → Dd S g s j < s → Tt S g s g ≠ -1 ∧ Tt S g s g ≤ Dd S g s j + 1 := by
  intro s
  induction s with
  | zero =>
    intro h1 h2
    have := Dd_b (S := S) (g := g) 0 j
    omega
  | succ s ih =>
    intro h1 h2
    by_cases q : Dd S g s j = -1
    · exfalso
      simp only [Dd] at h2 h1
      rw [if_pos q] at h2 h1
      split at h2
      · omega
      · rename_i w; rw [if_neg w] at h1; exact h1 rfl
    · have e := Dd_up1 q
      rw [e]
      have b := Dd_b (S := S) (g := g) s j
      by_cases z : Dd S g s j = s
      · have e1 : Tt S g s g ≠ -1 → Tt S g s g ≤ s := fun w => (Tt_g1 s w).2.1
        simp only [Tt]
        by_cases z2 : Tt S g s g = -1
        · have hs0 : s ≠ 0 := fun w => by
            subst w
            exact hjg (Dd_0 0 j z)
          rw [if_pos z2, if_pos (exB_iff.mpr ⟨j, hj, by rw [if_neg hs0]; simp [hjg, Tt_D s j hjg, z, he]⟩)]
          omega
        · rw [if_neg z2]
          exact ⟨z2, by have := e1 z2; omega⟩
      · obtain ⟨a1, a2⟩ := ih q (by omega)
        have e : Tt S g (s + 1) g = Tt S g s g := by simp only [Tt]; rw [if_neg a1]
        rw [e]; exact ⟨a1, a2⟩
-- the nearest successor
def ldZ (S : gS) (g a k : Nat) : Bool := decide (k ≠ a) && decide (Dd S g S.n k ≠ -1) && decide (eZ S a k ≠ 0)
def scZ (S : gS) (g a : Nat) : Nat → Int
  | 0 => -1
  | i + 1 => if ldZ S g a i = true ∧ (scZ S g a i = -1 ∨ Dd S g S.n i < Dd S g S.n (scZ S g a i).toNat) then (i : Int) else scZ S g a i
theorem scZ_ok (a : Nat) : ∀ i, (scZ S g a i = -1 ∧ ∀ k, k < i → ldZ S g a k = false) ∨ ∃ b : Nat, scZ S g a i = b ∧ b < i ∧ ldZ S g a b = true ∧ (∀ k, k < i → ldZ S g a k = true → Dd S g S.n b ≤ Dd S g S.n k) ∧ ∀ k, k < b → ldZ S g a k = true → Dd S g S.n b < Dd S g S.n k := by
  intro i
  induction i with
  | zero => exact .inl ⟨rfl, fun k h => absurd h (Nat.not_lt_zero k)⟩
  | succ i ih =>
    simp only [scZ]
    rcases ih with ⟨e1, e2⟩ | ⟨b, e1, e2, e3, e4, e5⟩
    · by_cases q : ldZ S g a i = true
      · rw [if_pos ⟨q, .inl e1⟩]
        refine .inr ⟨i, rfl, by omega, q, fun k h1 h2 => ?_, fun k h1 h2 => ?_⟩
        · by_cases z : k = i
          · rw [z]; exact Int.le_refl _
          · rw [e2 k (by omega)] at h2; cases h2
        · rw [e2 k h1] at h2; cases h2
      · rw [if_neg (fun w => q w.1)]
        refine .inl ⟨e1, fun k h => ?_⟩
        by_cases z : k = i
        · rw [z]; simpa using q
        · exact e2 k (by omega)
    · rw [e1]
      by_cases q : ldZ S g a i = true ∧ ((b : Int) = -1 ∨ Dd S g S.n i < Dd S g S.n ((b : Int)).toNat)
      · rw [if_pos q]
        have hlt : Dd S g S.n i < Dd S g S.n b := by
          rcases q.2 with w | w
          · omega
          · rw [Int.toNat_natCast] at w; exact w
        refine .inr ⟨i, rfl, by omega, q.1, fun k h1 h2 => ?_, fun k h1 h2 => ?_⟩
        · by_cases z : k = i
          · rw [z]; exact Int.le_refl _
          · have := e4 k (by omega) h2; omega
        · have := e4 k h1 h2; omega
      · rw [if_neg q]
        refine .inr ⟨b, rfl, by omega, e3, fun k h1 h2 => ?_, e5⟩
        by_cases z : k = i
        · subst z
          rcases Int.lt_or_le (Dd S g S.n k) (Dd S g S.n b) with w | w
          · exact absurd ⟨h2, .inr (by rw [Int.toNat_natCast]; exact w)⟩ q
          · exact w
        · exact e4 k (by omega) h2
/-- the length of the cycle of g -/
def lenE (S : gS) (g : Nat) : Int := if scZ S g g S.n = -1 then -1 else Dd S g S.n (scZ S g g S.n).toNat + 1
theorem lenE_T (hg : g < S.n) : Tt S g S.n g = lenE S g := by
  unfold lenE
  rcases scZ_ok (S := S) (g := g) g S.n with ⟨e1, e2⟩ | ⟨b, e1, e2, e3, e4, e5⟩
  · rw [if_pos e1]
    by_cases q : Tt S g S.n g = -1
    · exact q
    · obtain ⟨a1, a2, j, a3, a4, a5, a6⟩ := Tt_g1 S.n q
      have := e2 j a3
      unfold ldZ at this
      simp [a4, a6] at this
      omega
  · rw [if_neg (by omega), e1, Int.toNat_natCast]
    have l3 := e3
    unfold ldZ at l3
    simp only [Bool.and_eq_true, decide_eq_true_eq] at l3
    obtain ⟨⟨l1, l2⟩, l4⟩ := l3
    have hs := Dd_small hg e2 l2
    obtain ⟨t1, t2⟩ := Tt_g2 e2 l1 l4 S.n l2 hs
    obtain ⟨a1, a2, j, a3, a4, a5, a6⟩ := Tt_g1 S.n t1
    have := e4 j a3 (by unfold ldZ; simp [a4, a6]; omega)
    omega
theorem lenE_b (hg : g < S.n) : lenE S g = -1 ∨ (1 ≤ lenE S g ∧ lenE S g ≤ S.n) := by
  rw [← lenE_T hg]
  by_cases q : Tt S g S.n g = -1
  · exact .inl q
  · have := Tt_g1 S.n q
    exact .inr ⟨this.1, this.2.1⟩
-- the members
def mbE (S : gS) (g : Nat) : Nat → Nat
  | 0 => g
  | p + 1 => (scZ S g (mbE S g p) S.n).toNat
theorem mbE_ok (hg : g < S.n) : ∀ p : Nat, (p : Int) < lenE S g → mbE S g p < S.n ∧ (p = 0 ∨ (mbE S g p ≠ g ∧ Dd S g S.n (mbE S g p) = lenE S g - p ∧ scZ S g (mbE S g (p - 1)) S.n = (mbE S g p : Nat) ∧ eZ S (mbE S g (p - 1)) (mbE S g p) ≠ 0 ∧ ∀ k, k < mbE S g p → ¬ (k ≠ g ∧ Dd S g S.n k = lenE S g - p ∧ eZ S (mbE S g (p - 1)) k ≠ 0))) := by
  intro p
  induction p with
  | zero => intro _; exact ⟨hg, .inl rfl⟩
  | succ p ih =>
    intro hp
    obtain ⟨i1, i2⟩ := ih (by omega)
    have hlen := lenE_b hg
    simp only [Nat.add_sub_cancel]
    by_cases hp0 : p = 0
    · subst hp0
      have hle : lenE S g ≠ -1 := by omega
      have e0 : mbE S g 0 = g := rfl
      rw [e0]
      rcases scZ_ok (S := S) (g := g) g S.n with ⟨e1, e2⟩ | ⟨b, e1, e2, e3, e4, e5⟩
      · exact absurd (by unfold lenE; rw [if_pos e1]) hle
      · have e6 : mbE S g (0 + 1) = b := by
          show (scZ S g (mbE S g 0) S.n).toNat = b
          rw [e0, e1, Int.toNat_natCast]
        have e7 : lenE S g = Dd S g S.n b + 1 := by
          unfold lenE; rw [if_neg (by omega), e1, Int.toNat_natCast]
        rw [e6]
        have l3 := e3
        unfold ldZ at l3
        simp only [Bool.and_eq_true, decide_eq_true_eq] at l3
        obtain ⟨⟨l1, l2⟩, l4⟩ := l3
        refine ⟨e2, .inr ⟨l1, by omega, e1, l4, fun k hk ⟨k1, k2, k3⟩ => ?_⟩⟩
        have := e5 k hk (by unfold ldZ; simp [k1, k3]; have := Dd_b (S := S) (g := g) S.n b; omega)
        omega
    · obtain ⟨j1, j2, -, -, -⟩ := i2.resolve_left hp0
      generalize ha : mbE S g p = a at *
      have hd : 2 ≤ Dd S g S.n a := by omega
      obtain ⟨d1, j, d2, d3, d4⟩ := Dd_at (S := S) (g := g) S.n a (by omega)
      have db := Dd_b (S := S) (g := g) S.n a
      have dj : Dd S g S.n j = Dd S g S.n a - 1 := by
        rw [← d3]
        exact Dd_up (s := (Dd S g S.n a).toNat - 1) (k := j) (by rw [d3]; omega) S.n (by omega)
      have ja : j ≠ a := fun z => by rw [z] at dj; omega
      have lj : ldZ S g a j = true := by unfold ldZ; simp [ja, d4]; omega
      rcases scZ_ok (S := S) (g := g) a S.n with ⟨e1, e2⟩ | ⟨b, e1, e2, e3, e4, e5⟩
      · rw [e2 j d2] at lj; cases lj
      · have e6 : mbE S g (p + 1) = b := by
          show (scZ S g (mbE S g p) S.n).toNat = b
          rw [ha, e1, Int.toNat_natCast]
        rw [e6]
        have l3 := e3
        unfold ldZ at l3
        simp only [Bool.and_eq_true, decide_eq_true_eq] at l3
        obtain ⟨⟨l1, l2⟩, l4⟩ := l3
        have m1 := e4 j d2 lj
        have m2 := Dd_tri (S := S) (g := g) (t := S.n) e2 l2 (Dd_small hg e2 l2) l4
        have db2 := Dd_b (S := S) (g := g) S.n b
        refine ⟨e2, .inr ⟨fun z => ?_, by omega, e1, l4, fun k hk ⟨k1, k2, k3⟩ => ?_⟩⟩
        · rw [z, Dd_g] at m1 m2; omega
        · have := e5 k hk (by
            unfold ldZ
            have : k ≠ a := fun z => by rw [z] at k2; omega
            simp [this, k3]; omega)
          omega
theorem mbE_inj (hg : g < S.n) {p q : Nat} (hp : (p : Int) < lenE S g) (hq : (q : Int) < lenE S g) (e : mbE S g p = mbE S g q) : p = q := by
  obtain ⟨-, a2⟩ := mbE_ok hg p hp
  obtain ⟨-, b2⟩ := mbE_ok hg q hq
  rcases a2 with a | ⟨a1, a2, -⟩
  · rcases b2 with b | ⟨b1, b2, -⟩
    · omega
    · subst a; exact absurd e.symm b1
  · rcases b2 with b | ⟨b1, b2, -⟩
    · subst b; exact absurd e a1
    · rw [e] at a2; omega
end EC
