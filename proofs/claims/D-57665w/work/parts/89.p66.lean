/-! CONTIGUOUS SHARES: the table -/
def mx (a t : Int) : Int := if a < t then t else a
def cmb (b : Bool) (x w : Int) : Int := if b = true then x + w else if w < x then w else x
def wt (S : gS) (a k e : Nat) : Int := pS S a e - pS S a k
def oth (s a : Nat) : Nat := if s.testBit a = true then s - 2 ^ a else s
def trm (S : gS) (b : Bool) (T : Nat → Nat → Int) (s a e k : Nat) : Int := if T (oth s a) k = -1 then -1 else cmb b (T (oth s a) k) (wt S a k e)
def uP (S : gS) (b : Bool) (T : Nat → Nat → Int) (s a e : Nat) (acc : Int) : Nat → Int
  | 0 => acc
  | k + 1 => mx (uP S b T s a e acc k) (trm S b T s a e k)
def ini (b : Bool) : Int := if b = true then 0 else 2147483647
def uS (S : gS) (b : Bool) (T : Nat → Nat → Int) (s e : Nat) : Nat → Int
  | 0 => if s = 0 ∧ e = 0 then ini b else -1
  | a + 1 => if s.testBit a = true then uP S b T s a e (uS S b T s e a) (e + 1) else uS S b T s e a
def tB (S : gS) (b : Bool) : Nat → Nat → Nat → Int
  | 0 => fun _ _ => 0
  | k + 1 => fun s e => if s = k then uS S b (tB S b k) k e S.n else tB S b k s e
def Tz (S : gS) (b : Bool) (s e : Nat) : Int := tB S b (s + 1) s e
theorem oI : ∀ s, s < 64 → ∀ a, a < 6 → (iI (s : Nat)) &&& (((1 : Int32) <<< (iI (a : Nat) &&& 31)) ^^^ (-1 : Int32)) = iI (oth s a : Nat) := by decide +kernel
theorem bI : ∀ s, s < 64 → ∀ a, a < 6 → (((iI (s : Nat)) >>> (iI (a : Nat) &&& 31)) &&& (1 : Int32)) = if s.testBit a = true then 1 else 0 := by decide +kernel
theorem oB : ∀ s, s < 64 → ∀ a, a < 6 → ∀ i, i < 6 → (oth s a).testBit i = (s.testBit i && !decide (i = a)) := by decide +kernel
theorem fI2 : ∀ n, n < 7 → ((1 : Int32) <<< (iI (n : Nat) &&& 31)) = iI (2 ^ n : Nat) := by decide +kernel
theorem oth_lt {s a : Nat} (h : s.testBit a = true) : oth s a < s := by
  have := Nat.ge_two_pow_of_testBit h
  have h2 : 0 < 2 ^ a := Nat.pow_pos (by decide)
  unfold oth
  rw [if_pos h]
  omega
theorem oth_le {s a : Nat} : oth s a ≤ s := by
  unfold oth
  split
  · exact Nat.sub_le _ _
  · exact Nat.le_refl _
theorem oth_no {s a : Nat} (h : ¬ s.testBit a = true) : oth s a = s := by unfold oth; rw [if_neg h]
theorem two_n {n : Nat} (h : n ≤ 6) : 2 ^ n ≤ 64 := by
  have : ∀ n, n < 7 → 2 ^ n ≤ 64 := by decide
  exact this n (by omega)
theorem bit_lt {s a n : Nat} (h : s.testBit a = true) (hs : s < 2 ^ n) : a < n := by
  rcases Nat.lt_or_ge a n with q | q
  · exact q
  · have h1 := Nat.ge_two_pow_of_testBit h
    have h2 : 2 ^ n ≤ 2 ^ a := Nat.pow_le_pow_right (by decide) q
    omega
section TZ
variable {S : gS} {b : Bool} {T T' : Nat → Nat → Int} {s a e k n : Nat} {acc : Int}
theorem tB_eq {s e : Nat} : ∀ k, s < k → tB S b k s e = Tz S b s e := by
  intro k
  induction k with
  | zero => intro h; omega
  | succ k ih =>
    intro h
    by_cases q : s = k
    · subst q; rfl
    · show (if s = k then _ else _) = _
      rw [if_neg q]; exact ih (by omega)
theorem uP_cong (h : ∀ o, o < s → ∀ k, T o k = T' o k) (hb : s.testBit a = true) : ∀ k, uP S b T s a e acc k = uP S b T' s a e acc k := by
  intro k
  induction k with
  | zero => rfl
  | succ k ih =>
    simp only [uP]
    rw [ih]
    unfold trm
    rw [h _ (oth_lt hb)]
theorem uS_cong (h : ∀ o, o < s → ∀ k, T o k = T' o k) : ∀ a, uS S b T s e a = uS S b T' s e a := by
  intro a
  induction a with
  | zero => rfl
  | succ a ih =>
    simp only [uS]
    by_cases q : s.testBit a = true
    · rw [if_pos q, if_pos q, ih, uP_cong h q]
    · rw [if_neg q, if_neg q, ih]
theorem Tz_eq : Tz S b s e = uS S b (Tz S b) s e S.n := by
  show (if s = s then uS S b (tB S b s) s e S.n else _) = _
  rw [if_pos rfl]
  exact uS_cong (fun o ho k => tB_eq s ho) S.n
theorem mx_l {x t : Int} : x ≤ mx x t := by unfold mx; split <;> omega
theorem mx_r {x t : Int} : t ≤ mx x t := by unfold mx; split <;> omega
theorem mx_c {x t : Int} : mx x t = x ∨ mx x t = t := by unfold mx; split <;> simp
theorem uP_ge : ∀ k, acc ≤ uP S b T s a e acc k ∧ ∀ j, j < k → trm S b T s a e j ≤ uP S b T s a e acc k := by
  intro k
  induction k with
  | zero => exact ⟨Int.le_refl _, fun j hj => absurd hj (Nat.not_lt_zero j)⟩
  | succ k ih =>
    refine ⟨Int.le_trans ih.1 mx_l, fun j hj => ?_⟩
    by_cases q : j = k
    · subst q; exact mx_r
    · exact Int.le_trans (ih.2 j (by omega)) mx_l
theorem uP_at : ∀ k, uP S b T s a e acc k = acc ∨ ∃ j, j < k ∧ uP S b T s a e acc k = trm S b T s a e j := by
  intro k
  induction k with
  | zero => exact .inl rfl
  | succ k ih =>
    show mx _ _ = _ ∨ _
    rcases mx_c (x := uP S b T s a e acc k) (t := trm S b T s a e k) with q | q
    · rcases ih with y | ⟨j, y1, y2⟩
      · exact .inl (q.trans y)
      · exact .inr ⟨j, by omega, q.trans y2⟩
    · exact .inr ⟨k, by omega, q⟩
theorem uS_ge : ∀ a, uS S b T s e 0 ≤ uS S b T s e a ∧ ∀ i, i < a → s.testBit i = true → ∀ k, k ≤ e → trm S b T s i e k ≤ uS S b T s e a := by
  intro a
  induction a with
  | zero => exact ⟨Int.le_refl _, fun j hj => absurd hj (Nat.not_lt_zero j)⟩
  | succ a ih =>
    rw [show uS S b T s e (a + 1) = if s.testBit a = true then uP S b T s a e (uS S b T s e a) (e + 1) else uS S b T s e a from rfl]
    by_cases q : s.testBit a = true
    · rw [if_pos q]
      have := uP_ge (S := S) (b := b) (T := T) (s := s) (a := a) (e := e) (acc := uS S b T s e a) (e + 1)
      refine ⟨Int.le_trans ih.1 this.1, fun i hi hb k hk => ?_⟩
      by_cases z : i = a
      · subst z; exact this.2 k (by omega)
      · exact Int.le_trans (ih.2 i (by omega) hb k hk) this.1
    · rw [if_neg q]
      refine ⟨ih.1, fun i hi hb k hk => ?_⟩
      by_cases z : i = a
      · subst z; exact absurd hb q
      · exact ih.2 i (by omega) hb k hk
theorem uS_at : ∀ a, uS S b T s e a = uS S b T s e 0 ∨ ∃ i k, i < a ∧ s.testBit i = true ∧ k ≤ e ∧ uS S b T s e a = trm S b T s i e k := by
  intro a
  induction a with
  | zero => exact .inl rfl
  | succ a ih =>
    rw [show uS S b T s e (a + 1) = if s.testBit a = true then uP S b T s a e (uS S b T s e a) (e + 1) else uS S b T s e a from rfl]
    by_cases q : s.testBit a = true
    · rw [if_pos q]
      rcases uP_at (S := S) (b := b) (T := T) (s := s) (a := a) (e := e) (acc := uS S b T s e a) (e + 1) with y | ⟨j, y1, y2⟩
      · rw [y]
        rcases ih with z | ⟨i, k, z1, z2, z3, z4⟩
        · exact .inl z
        · exact .inr ⟨i, k, by omega, z2, z3, z4⟩
      · exact .inr ⟨a, j, by omega, q, by omega, y2⟩
    · rw [if_neg q]
      rcases ih with z | ⟨i, k, z1, z2, z3, z4⟩
      · exact .inl z
      · exact .inr ⟨i, k, by omega, z2, z3, z4⟩
theorem Tz_0 : Tz S b 0 e = if e = 0 then ini b else -1 := by
  rw [Tz_eq]
  rcases uS_at (S := S) (b := b) (T := Tz S b) (s := 0) (e := e) S.n with q | ⟨i, k, -, q, -⟩
  · rw [q]
    show (if 0 = 0 ∧ e = 0 then ini b else -1) = _
    by_cases z : e = 0
    · rw [if_pos ⟨rfl, z⟩, if_pos z]
    · rw [if_neg (fun y => z y.2), if_neg z]
  · rw [Nat.zero_testBit] at q; cases q
theorem wt_b (hw : WF S) (ha : a < S.n) (hk : k ≤ e) (he : e ≤ S.c) : 0 ≤ wt S a k e ∧ wt S a k e ≤ ((e : Int) - k) * 9 := by
  have := pS_m hw ha hk he
  unfold wt
  omega
theorem Tz_ge {i : Nat} (hi : i < S.n) (hb : s.testBit i = true) (hk : k ≤ e) : trm S b (Tz S b) s i e k ≤ Tz S b s e := by
  rw [Tz_eq (s := s)]
  exact (uS_ge S.n).2 i hi hb k hk
theorem Tz_at (hs : s ≠ 0) : Tz S b s e = -1 ∨ ∃ i k, i < S.n ∧ s.testBit i = true ∧ k ≤ e ∧ Tz S b s e = trm S b (Tz S b) s i e k := by
  rw [Tz_eq (s := s)]
  rcases uS_at (S := S) (b := b) (T := Tz S b) (s := s) (e := e) S.n with q | q
  · refine .inl (q.trans ?_)
    show (if s = 0 ∧ e = 0 then ini b else -1) = _
    rw [if_neg (fun y => hs y.1)]
  · exact .inr q
theorem Tz_b (hw : WF S) : ∀ s, s < 2 ^ S.n → s ≠ 0 → ∀ e, e ≤ S.c → 0 ≤ Tz S b s e ∧ Tz S b s e ≤ (e : Int) * 9 := by
  intro s
  induction s using Nat.strongRecOn with
  | ind s ih =>
    intro hs h0 e he
    have hc := hw.1
    obtain ⟨i, hi⟩ := Nat.exists_testBit_of_ne_zero h0
    have hin := bit_lt hi hs
    have ho := oth_lt hi
    have lo : 0 ≤ Tz S b s e := by
      have h1 := Tz_ge (b := b) hin hi (Nat.zero_le e)
      have hw0 := wt_b hw hin (Nat.zero_le e) he
      have hT : 0 ≤ Tz S b (oth s i) 0 := by
        by_cases z : oth s i = 0
        · rw [z, Tz_0, if_pos rfl]; unfold ini; split <;> omega
        · exact (ih _ ho (by omega) z 0 (by omega)).1
      refine Int.le_trans ?_ h1
      unfold trm
      rw [if_neg (by omega)]
      unfold cmb
      split
      · omega
      · split <;> omega
    refine ⟨lo, ?_⟩
    rcases Tz_at (S := S) (b := b) (e := e) h0 with q | ⟨i, k, y1, y2, y3, y4⟩
    · omega
    · have hwk := wt_b hw y1 y3 he
      have ho := oth_lt y2
      rw [y4] at lo ⊢
      unfold trm at lo ⊢
      by_cases z : Tz S b (oth s i) k = -1
      · rw [if_pos z]; omega
      · rw [if_neg z]
        have h2 : cmb b (Tz S b (oth s i) k) (wt S i k e) ≤ (e : Int) * 9 := by
          unfold cmb
          cases b with
          | false =>
            rw [if_neg (by decide)]
            split <;> omega
          | true =>
            rw [if_pos rfl]
            by_cases z0 : oth s i = 0
            · rw [z0, Tz_0] at z ⊢
              by_cases k0 : k = 0
              · rw [if_pos k0]; show (0 : Int) + _ ≤ _; omega
              · rw [if_neg k0] at z; exact absurd rfl z
            · have := ih _ ho (by omega) z0 k (by omega)
              omega
        exact h2
theorem Tz_r (hw : WF S) (hs : s < 2 ^ S.n) (he : e ≤ S.c) : -1 ≤ Tz S b s e ∧ Tz S b s e ≤ 2147483647 ∧ (b = true → Tz S b s e ≤ 216) := by
  have hc := hw.1
  by_cases z : s = 0
  · rw [z, Tz_0]
    by_cases e0 : e = 0
    · rw [if_pos e0]; unfold ini; cases b <;> simp
    · rw [if_neg e0]; exact ⟨by omega, by omega, fun _ => by omega⟩
  · have := Tz_b (b := b) hw s hs z e he
    exact ⟨by omega, by omega, fun _ => by omega⟩
theorem trm_b (hw : WF S) (ha : a < S.n) (hs : s < 2 ^ S.n) (hk : k ≤ e) (he : e ≤ S.c) : -1 ≤ trm S b (Tz S b) s a e k ∧ trm S b (Tz S b) s a e k ≤ 432 := by
  have hc := hw.1
  have hos : oth s a < 2 ^ S.n := Nat.lt_of_le_of_lt oth_le hs
  have h1 := Tz_r (b := b) (e := k) hw hos (by omega)
  have h2 := wt_b hw ha hk he
  unfold trm
  by_cases z : Tz S b (oth s a) k = -1
  · rw [if_pos z]; omega
  · rw [if_neg z]
    unfold cmb
    cases b with
    | false =>
      rw [if_neg (by decide)]
      split <;> omega
    | true =>
      rw [if_pos rfl]
      have := h1.2.2 rfl
      omega
theorem uP_b (hw : WF S) (ha : a < S.n) (hs : s < 2 ^ S.n) (he : e ≤ S.c) (hacc : -1 ≤ acc ∧ acc ≤ 2147483647) : ∀ k, k ≤ e + 1 → -1 ≤ uP S b (Tz S b) s a e acc k ∧ uP S b (Tz S b) s a e acc k ≤ 2147483647 := by
  intro k
  induction k with
  | zero => intro _; exact hacc
  | succ k ih =>
    intro hk
    have h1 := ih (by omega)
    have h2 := trm_b (b := b) hw ha hs (k := k) (e := e) (by omega) he
    rcases mx_c (x := uP S b (Tz S b) s a e acc k) (t := trm S b (Tz S b) s a e k) with q | q
    · rw [show uP S b (Tz S b) s a e acc (k + 1) = mx _ _ from rfl, q]; exact h1
    · rw [show uP S b (Tz S b) s a e acc (k + 1) = mx _ _ from rfl, q]; omega
theorem uS_b (hw : WF S) (hs : s < 2 ^ S.n) (he : e ≤ S.c) : ∀ a, a ≤ S.n → -1 ≤ uS S b (Tz S b) s e a ∧ uS S b (Tz S b) s e a ≤ 2147483647 := by
  intro a
  induction a with
  | zero =>
    intro _
    show -1 ≤ (if s = 0 ∧ e = 0 then ini b else -1) ∧ (if s = 0 ∧ e = 0 then ini b else -1) ≤ 2147483647
    unfold ini
    split
    · split <;> omega
    · omega
  | succ a ih =>
    intro ha
    have h1 := ih (by omega)
    rw [show uS S b (Tz S b) s e (a + 1) = if s.testBit a = true then uP S b (Tz S b) s a e (uS S b (Tz S b) s e a) (e + 1) else uS S b (Tz S b) s e a from rfl]
    by_cases q : s.testBit a = true
    · rw [if_pos q]; exact uP_b hw (by omega) hs he h1 (e + 1) (Nat.le_refl _)
    · rw [if_neg q]; exact h1
end TZ
