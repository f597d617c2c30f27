/-! CONTIGUOUS SHARES: greed reaches what the table says -/
def gq (S : gS) (v : Int) (a : Nat) : Nat → Int → Option Nat
  | 0, x => if v ≤ x then some S.c else none
  | d + 1, x => if v ≤ x then some (S.c - (d + 1)) else gq S v a d (x + S.v a (S.c - (d + 1)))
def gl (S : gS) (v : Int) : List Nat → Nat → Option Nat
  | [], pos => some pos
  | a :: l, pos => Option.bind (gq S v a (S.c - pos) 0) (gl S v l)
def isM (l : List Nat) (s : Nat) : Prop := l.Nodup ∧ (∀ i, i ∈ l → i < 6) ∧ ∀ i, i < 6 → (s.testBit i = true ↔ i ∈ l)
section GR
variable {S : gS} {s a k e p pos : Nat} {v w : Int}
theorem gq_le : ∀ d x e, d ≤ S.c → gq S v a d x = some e → S.c - d ≤ e ∧ e ≤ S.c ∧ v ≤ x + (pS S a e - pS S a (S.c - d)) := by
  intro d
  induction d with
  | zero =>
    intro x e hd h
    simp only [gq] at h
    split at h
    · cases h; exact ⟨Nat.le_refl _, Nat.le_refl _, by simp only [Nat.sub_zero]; omega⟩
    · cases h
  | succ d ih =>
    intro x e hd h
    simp only [gq] at h
    by_cases q : v ≤ x
    · rw [if_pos q] at h; cases h
      exact ⟨Nat.le_refl _, by omega, by omega⟩
    · rw [if_neg q] at h
      obtain ⟨h1, h2, h3⟩ := ih _ e (by omega) h
      have := pS_s S a (S.c - (d + 1))
      rw [show S.c - (d + 1) + 1 = S.c - d by omega] at this
      exact ⟨by omega, h2, by omega⟩
theorem gq_ex : ∀ d x e, d ≤ S.c → S.c - d ≤ e → e ≤ S.c → v ≤ x + (pS S a e - pS S a (S.c - d)) → ∃ e', e' ≤ e ∧ gq S v a d x = some e' := by
  intro d
  induction d with
  | zero =>
    intro x e hd h1 h2 h3
    have : e = S.c := by omega
    subst this
    refine ⟨S.c, Nat.le_refl _, ?_⟩
    show (if v ≤ x then some S.c else none) = _
    rw [if_pos (by simp only [Nat.sub_zero] at h3; omega)]
  | succ d ih =>
    intro x e hd h1 h2 h3
    simp only [gq]
    by_cases q : v ≤ x
    · rw [if_pos q]; exact ⟨_, h1, rfl⟩
    · rw [if_neg q]
      have hs := pS_s S a (S.c - (d + 1))
      rw [show S.c - (d + 1) + 1 = S.c - d by omega] at hs
      by_cases z : e = S.c - (d + 1)
      · subst z; omega
      · exact ih _ e (by omega) (by omega) h2 (by omega)
theorem gl_app : ∀ (l : List Nat) (pos : Nat), gl S v (l ++ [a]) pos = Option.bind (gl S v l pos) fun p => gq S v a (S.c - p) 0 := by
  intro l
  induction l with
  | nil =>
    intro pos
    show Option.bind (gq S v a (S.c - pos) 0) (gl S v []) = gq S v a (S.c - pos) 0
    cases gq S v a (S.c - pos) 0 <;> rfl
  | cons b l ih =>
    intro pos
    show Option.bind (gq S v b (S.c - pos) 0) (gl S v (l ++ [a])) = Option.bind (Option.bind (gq S v b (S.c - pos) 0) (gl S v l)) _
    cases gq S v b (S.c - pos) 0 with
    | none => rfl
    | some q => exact ih q
theorem clB (hw : WF S) : ∀ s, s < 2 ^ S.n → ∀ e, e ≤ S.c → ∀ w : Int, 0 ≤ w → w ≤ Tz S false s e → ∃ l, isM l s ∧ ∀ v : Int, v ≤ w → ∃ p, gl S v l 0 = some p ∧ p ≤ e := by
  intro s
  induction s using Nat.strongRecOn with
  | ind s ih =>
    intro hs e he w hw0 hwT
    have hn := hw.2.1
    have h64 := two_n hn.2
    by_cases s0 : s = 0
    · subst s0
      refine ⟨[], ⟨List.nodup_nil, fun i hi => absurd hi List.not_mem_nil, fun i _ => ?_⟩, fun v _ => ⟨0, rfl, Nat.zero_le _⟩⟩
      rw [Nat.zero_testBit]
      exact ⟨fun y => absurd y (by decide), fun y => absurd y List.not_mem_nil⟩
    · rcases Tz_at (S := S) (b := false) (e := e) s0 with q | ⟨i, k, y1, y2, y3, y4⟩
      · omega
      · have ho := oth_lt y2
        rw [y4] at hwT
        unfold trm at hwT
        by_cases z : Tz S false (oth s i) k = -1
        · rw [if_pos z] at hwT; omega
        · rw [if_neg z] at hwT
          have hc : w ≤ Tz S false (oth s i) k ∧ w ≤ wt S i k e := by
            unfold cmb at hwT
            rw [if_neg (by decide)] at hwT
            split at hwT <;> omega
          obtain ⟨l, ⟨m1, m2, m3⟩, g⟩ := ih _ ho (by omega) k (by omega) w hw0 hc.1
          have hi6 : i < 6 := by omega
          have hnot : i ∉ l := fun y => by
            have := (m3 i hi6).mpr y
            rw [oB s (by omega) i hi6 i hi6] at this
            simp at this
          refine ⟨l ++ [i], ⟨List.nodup_append.mpr ⟨m1, List.nodup_cons.mpr ⟨List.not_mem_nil, List.nodup_nil⟩, fun x hx y hy => ?_⟩, fun j hj => ?_, fun j hj => ?_⟩, fun v hv => ?_⟩
          · have := List.mem_singleton.mp hy
            subst this
            exact fun z => hnot (z ▸ hx)
          · rcases List.mem_append.mp hj with x | x
            · exact m2 j x
            · have := List.mem_singleton.mp x
              omega
          · have h1 := m3 j hj
            rw [oB s (by omega) i hi6 j hj] at h1
            rw [List.mem_append, List.mem_singleton, ← h1]
            by_cases z : j = i
            · subst z; simp [y2]
            · simp [z]
          · obtain ⟨p, g1, g2⟩ := g v hv
            have hm1 := pS_m hw y1 g2 (show k ≤ S.c by omega)
            unfold wt at hc
            obtain ⟨e', x1, x2⟩ := gq_ex (S := S) (v := v) (a := i) (S.c - p) 0 e (by omega) (by omega) he (by rw [show S.c - (S.c - p) = p by omega]; omega)
            exact ⟨e', by rw [gl_app, g1]; exact x2, x1⟩
theorem pBt : ∀ s, s < 64 → ∀ a, a < 6 → s.testBit a = false → s + 2 ^ a < 64 ∧ (s + 2 ^ a).testBit a = true ∧ oth (s + 2 ^ a) a = s := by decide +kernel
theorem Tz_ext (hw : WF S) (hs : s < 2 ^ S.n) (s0 : s ≠ 0) (h0 : 0 ≤ v) (hv : v ≤ Tz S false s e) {e' : Nat} (he : e ≤ e') (he' : e' ≤ S.c) : v ≤ Tz S false s e' := by
  rcases Tz_at (S := S) (b := false) (e := e) s0 with q | ⟨i, k, y1, y2, y3, y4⟩
  · omega
  · have h1 := Tz_ge (b := false) y1 y2 (k := k) (e := e') (by omega)
    refine Int.le_trans ?_ h1
    rw [y4] at hv
    have hm := pS_m hw y1 he he'
    unfold trm at hv ⊢
    by_cases z : Tz S false (oth s i) k = -1
    · rw [if_pos z] at hv; omega
    · rw [if_neg z] at hv ⊢
      unfold cmb wt at hv ⊢
      rw [if_neg (by decide)] at hv ⊢
      split at hv <;> split <;> omega
theorem clA (hw : WF S) (h0 : 0 ≤ v) (hv : v ≤ 2147483647) : ∀ (l : List Nat) (s pos p : Nat), s < 2 ^ S.n → pos ≤ S.c → v ≤ Tz S false s pos → okl S.n s l = true → gl S v l pos = some p → v ≤ Tz S false (2 ^ S.n - 1) p ∧ p ≤ S.c := by
  have hn := hw.2.1
  have h64 := two_n hn.2
  have hpos : 0 < 2 ^ S.n := Nat.pow_pos (by decide)
  intro l
  induction l with
  | nil =>
    intro s pos p hs hp hT hok h
    cases h
    have : s = 2 ^ S.n - 1 := of_decide_eq_true hok
    rw [← this]
    exact ⟨hT, hp⟩
  | cons a l ih =>
    intro s pos p hs hp hT hok h
    simp only [okl, Bool.and_eq_true, decide_eq_true_eq, Bool.not_eq_true'] at hok
    obtain ⟨⟨k1, k2⟩, k3⟩ := hok
    obtain ⟨b1, b2, b3⟩ := pBt s (by omega) a (by omega) k2
    have h : Option.bind (gq S v a (S.c - pos) 0) (gl S v l) = some p := h
    cases hq : gq S v a (S.c - pos) 0 with
    | none => rw [hq] at h; cases h
    | some e =>
      rw [hq] at h
      obtain ⟨q1, q2, q3⟩ := gq_le (S := S) (v := v) (a := a) (S.c - pos) 0 e (by omega) hq
      rw [show S.c - (S.c - pos) = pos by omega] at q1 q3
      have hs2 : s + 2 ^ a < 2 ^ S.n := by
        have : ∀ n, n < 7 → ∀ s, s < 2 ^ n → ∀ a, a < n → s.testBit a = false → s + 2 ^ a < 2 ^ n := by decide +kernel
        exact this S.n (by omega) s hs a k1 k2
      refine ih (s + 2 ^ a) e p hs2 q2 ?_ k3 h
      have h1 := Tz_ge (b := false) (s := s + 2 ^ a) k1 b2 (k := pos) (e := e) q1
      refine Int.le_trans ?_ h1
      unfold trm cmb wt
      rw [b3, if_neg (by omega), if_neg (by decide)]
      split <;> omega
/-- what greed reaches, the table has -/
theorem clA' (hw : WF S) (h1 : 0 ≤ v) (hv : v ≤ 2147483647) {l : List Nat} (hok : okl S.n 0 l = true) {p : Nat} (h : gl S v l 0 = some p) : v ≤ Tz S false (2 ^ S.n - 1) S.c := by
  have hn := hw.2.1
  have hpos : 2 ≤ 2 ^ S.n := by
    have : 2 ^ 1 ≤ 2 ^ S.n := Nat.pow_le_pow_right (by decide) hn.1
    exact this
  obtain ⟨a1, a2⟩ := clA hw h1 hv l 0 0 p (by omega) (Nat.zero_le _) (by rw [Tz_0, if_pos rfl]; exact hv) hok h
  exact Tz_ext hw (by omega) (by omega) h1 a1 a2 (Nat.le_refl _)
/-- .. and some sequence reaches it -/
theorem clB' (hw : WF S) : ∃ k, k ∈ sLs S.n ∧ ∀ v : Int, v ≤ Tz S false (2 ^ S.n - 1) S.c → ∃ p, gl S v (dgl S.n k) 0 = some p := by
  have hn := hw.2.1
  have h64 := two_n hn.2
  have hpos : 2 ≤ 2 ^ S.n := by
    have : 2 ^ 1 ≤ 2 ^ S.n := Nat.pow_le_pow_right (by decide) hn.1
    exact this
  have hb := Tz_b (b := false) hw (2 ^ S.n - 1) (by omega) (by omega) S.c (Nat.le_refl _)
  obtain ⟨l, ⟨m1, m2, m3⟩, g⟩ := clB hw (2 ^ S.n - 1) (by omega) S.c (Nat.le_refl _) _ hb.1 (Int.le_refl _)
  obtain ⟨k, k1, k2⟩ := seq_all hn.1 hn.2 m1 (fun x => by
    constructor
    · intro hx
      have := (m3 x (m2 x hx)).mpr hx
      rw [Nat.testBit_two_pow_sub_one] at this
      exact of_decide_eq_true this
    · intro hx
      refine (m3 x (by omega)).mp ?_
      rw [Nat.testBit_two_pow_sub_one]
      exact decide_eq_true hx)
  refine ⟨k, k1, fun v hv => ?_⟩
  obtain ⟨p, p1, -⟩ := g v hv
  exact ⟨p, by rw [k2]; exact p1⟩
end GR
