/-! SCRIPTS: the reference's parser, whole -/
section SM2
variable {B : Nat → Int} {L : Nat} {fc g : Nat → Int32} {x : gV} {t : gTk} {m : Nat → Int32} {S : gS} {iE iP iA iY iF iV : Int32} {aK : Nat → Int32}
def arR (B : Nat → Int) (L : Nat) (X : Option (Int32 × Int32 × Int32 × Int32 × Int32 × Int32 × Int32 × (Nat → Int32))) (e : gEr (gCm × gTk)) (b : Nat) (aK : Nat → Int32) (iE iP : Int32) : Prop :=
  match e with
  | .inl (c, p) => ∃ a1 a2 a3 a4 aK', X = some ((0 : Int32), iI c, iI p, a1, a2, a3, a4, aK')
  | .inr (c, t') => ∃ a1 a2 a3 a4 aK', X = some ((1 : Int32), iE, iP, a1, a2, a3, a4, aK') ∧ tkR B t' a1 a2 a3 a4 ∧ tkG B L t' ∧ (∀ i, i ≤ b → aK' i = aK i) ∧ cmA aK' b c
theorem mArg (hB : byR fc g B L) (hL : L ≤ 600) (hw : WF S) (hM : BlkAt m 0 S) (ht : tkG B L t) (hr : tkR B t iA iY iF iV) {k b : Nat} (hk : k ≤ 7) (hb : b + 3 < 120) : arR B L (f_X6_parseArguments (iI k) (iI (b + 1 : Nat)) m g (iI L) iE iP iA iY iF iV aK) (pArg B L S k t) b aK iE iP := by
  have e2 : iI ((b + 1 : Nat) : Int) + (1 : Int32) = iI ((b + 2 : Nat) : Int) := by rw [iI_1, iI_add]; rfl
  have e3 : iI ((b + 1 : Nat) : Int) + (2 : Int32) = iI ((b + 3 : Nat) : Int) := by rw [show (2 : Int32) = iI 2 from rfl, iI_add]; rfl
  have hk8 : k = 0 ∨ k = 1 ∨ k = 2 ∨ k = 3 ∨ k = 4 ∨ k = 5 ∨ k = 6 ∨ k = 7 := by omega
  rcases hk8 with z | z | z | z | z | z | z | z
  · subst z
    show arR B L (f_X6_parseArguments (0 : Int32) (iI (b + 1 : Nat)) m g (iI L) iE iP iA iY iF iV aK) (pArg B L S 0 t) b aK iE iP
    unfold f_X6_parseArguments
    rw [if_pos rfl, e2, e3]
    have q1 := mSb (iE := iE) (iP := iP) (aK := aK) hB hL hw hM ht hr (j := b + 1) (by omega)
    cases h1 : pSb B L S t with
    | inl er =>
      obtain ⟨c, p⟩ := er
      rw [h1] at q1
      obtain ⟨a1, a2, a3, a4, aK', x⟩ := q1
      have e : pArg B L S 0 t = .inl (c, p) := by simp [pArg, pA1, pA2, bE, h1]
      rw [e, x, gT8_s, if_pos rfl]
      exact ⟨_, _, _, _, _, rfl⟩
    | inr r =>
      obtain ⟨v1, t1⟩ := r
      rw [h1] at q1
      obtain ⟨a11, a12, a13, a14, x1, r1, g1⟩ := q1
      rw [x1, gT8_s, if_neg (by decide)]
      have q2 := mNu (iE := iE) (iP := iP) (aK := (upd aK (b + 1) (iI v1))) hB hL g1 r1 (j := b + 2) (by omega)
      cases h2 : pNu B L t1 with
      | inl er =>
        obtain ⟨c, p⟩ := er
        rw [h2] at q2
        obtain ⟨a1, a2, a3, a4, aK', x⟩ := q2
        have e : pArg B L S 0 t = .inl (c, p) := by simp [pArg, pA1, pA2, bE, h1, h2]
        rw [e, x, gT8_s, if_pos rfl]
        exact ⟨_, _, _, _, _, rfl⟩
      | inr r =>
        obtain ⟨v2, t2⟩ := r
        rw [h2] at q2
        obtain ⟨a21, a22, a23, a24, x2, r2, g2⟩ := q2
        rw [x2, gT8_s, if_neg (by decide)]
        have q3 := mNu (iE := iE) (iP := iP) (aK := (upd (upd aK (b + 1) (iI v1)) (b + 2) (iI v2))) hB hL g2 r2 (j := b + 3) (by omega)
        cases h3 : pNu B L t2 with
        | inl er =>
          obtain ⟨c, p⟩ := er
          rw [h3] at q3
          obtain ⟨a1, a2, a3, a4, aK', x⟩ := q3
          have e : pArg B L S 0 t = .inl (c, p) := by simp [pArg, pA1, pA2, bE, h1, h2, h3]
          rw [e, x, gT8_s, if_pos rfl]
          exact ⟨_, _, _, _, _, rfl⟩
        | inr r =>
          obtain ⟨v3, t3⟩ := r
          rw [h3] at q3
          obtain ⟨a31, a32, a33, a34, x3, r3, g3⟩ := q3
          rw [x3, gT8_s, if_neg (by decide)]
          have e : pArg B L S 0 t = .inr ((0, v1, v2, v3), t3) := by simp [pArg, pA1, pA2, bE, h1, h2, h3]
          rw [e]
          exact ⟨_, _, _, _, (upd (upd (upd aK (b + 1) (iI v1)) (b + 2) (iI v2)) (b + 3) (iI v3)), rfl, r3, g3, fun i hi => by unfold upd; rw [if_neg (by omega), if_neg (by omega), if_neg (by omega)], by simp [cmA, upd]⟩
  · subst z
    show arR B L (f_X6_parseArguments (1 : Int32) (iI (b + 1 : Nat)) m g (iI L) iE iP iA iY iF iV aK) (pArg B L S 1 t) b aK iE iP
    unfold f_X6_parseArguments
    rw [if_neg (by decide), if_pos rfl, e2, e3]
    have q1 := mNu (iE := iE) (iP := iP) (aK := aK) hB hL ht hr (j := b + 2) (by omega)
    cases h1 : pNu B L t with
    | inl er =>
      obtain ⟨c, p⟩ := er
      rw [h1] at q1
      obtain ⟨a1, a2, a3, a4, aK', x⟩ := q1
      have e : pArg B L S 1 t = .inl (c, p) := by simp [pArg, pA1, pA2, bE, h1]
      rw [e, x, gT8_s, if_pos rfl]
      exact ⟨_, _, _, _, _, rfl⟩
    | inr r =>
      obtain ⟨v1, t1⟩ := r
      rw [h1] at q1
      obtain ⟨a11, a12, a13, a14, x1, r1, g1⟩ := q1
      rw [x1, gT8_s, if_neg (by decide)]
      have q2 := mNu (iE := iE) (iP := iP) (aK := (upd aK (b + 2) (iI v1))) hB hL g1 r1 (j := b + 3) (by omega)
      cases h2 : pNu B L t1 with
      | inl er =>
        obtain ⟨c, p⟩ := er
        rw [h2] at q2
        obtain ⟨a1, a2, a3, a4, aK', x⟩ := q2
        have e : pArg B L S 1 t = .inl (c, p) := by simp [pArg, pA1, pA2, bE, h1, h2]
        rw [e, x, gT8_s, if_pos rfl]
        exact ⟨_, _, _, _, _, rfl⟩
      | inr r =>
        obtain ⟨v2, t2⟩ := r
        rw [h2] at q2
        obtain ⟨a21, a22, a23, a24, x2, r2, g2⟩ := q2
        rw [x2, gT8_s, if_neg (by decide)]
        have e : pArg B L S 1 t = .inr ((1, 0, v1, v2), t2) := by simp [pArg, pA1, pA2, bE, h1, h2]
        rw [e]
        exact ⟨_, _, _, _, (upd (upd aK (b + 2) (iI v1)) (b + 3) (iI v2)), rfl, r2, g2, fun i hi => by unfold upd; rw [if_neg (by omega), if_neg (by omega)], by simp [cmA, upd]⟩
  · subst z
    show arR B L (f_X6_parseArguments (2 : Int32) (iI (b + 1 : Nat)) m g (iI L) iE iP iA iY iF iV aK) (pArg B L S 2 t) b aK iE iP
    unfold f_X6_parseArguments
    rw [if_neg (by decide), if_neg (by decide), if_pos rfl, e2]
    have q1 := mSb (iE := iE) (iP := iP) (aK := aK) hB hL hw hM ht hr (j := b + 1) (by omega)
    cases h1 : pSb B L S t with
    | inl er =>
      obtain ⟨c, p⟩ := er
      rw [h1] at q1
      obtain ⟨a1, a2, a3, a4, aK', x⟩ := q1
      have e : pArg B L S 2 t = .inl (c, p) := by simp [pArg, pA1, pA2, bE, h1]
      rw [e, x, gT8_s, if_pos rfl]
      exact ⟨_, _, _, _, _, rfl⟩
    | inr r =>
      obtain ⟨v1, t1⟩ := r
      rw [h1] at q1
      obtain ⟨a11, a12, a13, a14, x1, r1, g1⟩ := q1
      rw [x1, gT8_s, if_neg (by decide)]
      have q2 := mSb (iE := iE) (iP := iP) (aK := (upd aK (b + 1) (iI v1))) hB hL hw hM g1 r1 (j := b + 2) (by omega)
      cases h2 : pSb B L S t1 with
      | inl er =>
        obtain ⟨c, p⟩ := er
        rw [h2] at q2
        obtain ⟨a1, a2, a3, a4, aK', x⟩ := q2
        have e : pArg B L S 2 t = .inl (c, p) := by simp [pArg, pA1, pA2, bE, h1, h2]
        rw [e, x, gT8_s, if_pos rfl]
        exact ⟨_, _, _, _, _, rfl⟩
      | inr r =>
        obtain ⟨v2, t2⟩ := r
        rw [h2] at q2
        obtain ⟨a21, a22, a23, a24, x2, r2, g2⟩ := q2
        rw [x2, gT8_s, if_neg (by decide)]
        have e : pArg B L S 2 t = .inr ((2, v1, v2, 0), t2) := by simp [pArg, pA1, pA2, bE, h1, h2]
        rw [e]
        exact ⟨_, _, _, _, (upd (upd aK (b + 1) (iI v1)) (b + 2) (iI v2)), rfl, r2, g2, fun i hi => by unfold upd; rw [if_neg (by omega), if_neg (by omega)], by simp [cmA, upd]⟩
  · subst z
    show arR B L (f_X6_parseArguments (3 : Int32) (iI (b + 1 : Nat)) m g (iI L) iE iP iA iY iF iV aK) (pArg B L S 3 t) b aK iE iP
    unfold f_X6_parseArguments
    rw [if_neg (by decide), if_neg (by decide), if_neg (by decide), if_pos rfl, e2, e3]
    have q1 := mSb (iE := iE) (iP := iP) (aK := aK) hB hL hw hM ht hr (j := b + 1) (by omega)
    cases h1 : pSb B L S t with
    | inl er =>
      obtain ⟨c, p⟩ := er
      rw [h1] at q1
      obtain ⟨a1, a2, a3, a4, aK', x⟩ := q1
      have e : pArg B L S 3 t = .inl (c, p) := by simp [pArg, pA1, pA2, bE, h1]
      rw [e, x, gT8_s, if_pos rfl]
      exact ⟨_, _, _, _, _, rfl⟩
    | inr r =>
      obtain ⟨v1, t1⟩ := r
      rw [h1] at q1
      obtain ⟨a11, a12, a13, a14, x1, r1, g1⟩ := q1
      rw [x1, gT8_s, if_neg (by decide)]
      have q2 := mNu (iE := iE) (iP := iP) (aK := (upd aK (b + 1) (iI v1))) hB hL g1 r1 (j := b + 2) (by omega)
      cases h2 : pNu B L t1 with
      | inl er =>
        obtain ⟨c, p⟩ := er
        rw [h2] at q2
        obtain ⟨a1, a2, a3, a4, aK', x⟩ := q2
        have e : pArg B L S 3 t = .inl (c, p) := by simp [pArg, pA1, pA2, bE, h1, h2]
        rw [e, x, gT8_s, if_pos rfl]
        exact ⟨_, _, _, _, _, rfl⟩
      | inr r =>
        obtain ⟨v2, t2⟩ := r
        rw [h2] at q2
        obtain ⟨a21, a22, a23, a24, x2, r2, g2⟩ := q2
        rw [x2, gT8_s, if_neg (by decide)]
        have q3 := mNu (iE := iE) (iP := iP) (aK := (upd (upd aK (b + 1) (iI v1)) (b + 2) (iI v2))) hB hL g2 r2 (j := b + 3) (by omega)
        cases h3 : pNu B L t2 with
        | inl er =>
          obtain ⟨c, p⟩ := er
          rw [h3] at q3
          obtain ⟨a1, a2, a3, a4, aK', x⟩ := q3
          have e : pArg B L S 3 t = .inl (c, p) := by simp [pArg, pA1, pA2, bE, h1, h2, h3]
          rw [e, x, gT8_s, if_pos rfl]
          exact ⟨_, _, _, _, _, rfl⟩
        | inr r =>
          obtain ⟨v3, t3⟩ := r
          rw [h3] at q3
          obtain ⟨a31, a32, a33, a34, x3, r3, g3⟩ := q3
          rw [x3, gT8_s, if_neg (by decide)]
          have e : pArg B L S 3 t = .inr ((3, v1, v2, v3), t3) := by simp [pArg, pA1, pA2, bE, h1, h2, h3]
          rw [e]
          exact ⟨_, _, _, _, (upd (upd (upd aK (b + 1) (iI v1)) (b + 2) (iI v2)) (b + 3) (iI v3)), rfl, r3, g3, fun i hi => by unfold upd; rw [if_neg (by omega), if_neg (by omega), if_neg (by omega)], by simp [cmA, upd]⟩
  · subst z
    show arR B L (f_X6_parseArguments (4 : Int32) (iI (b + 1 : Nat)) m g (iI L) iE iP iA iY iF iV aK) (pArg B L S 4 t) b aK iE iP
    unfold f_X6_parseArguments
    rw [if_neg (by decide), if_neg (by decide), if_neg (by decide), if_neg (by decide), if_pos rfl, e2]
    have q1 := mSb (iE := iE) (iP := iP) (aK := aK) hB hL hw hM ht hr (j := b + 1) (by omega)
    cases h1 : pSb B L S t with
    | inl er =>
      obtain ⟨c, p⟩ := er
      rw [h1] at q1
      obtain ⟨a1, a2, a3, a4, aK', x⟩ := q1
      have e : pArg B L S 4 t = .inl (c, p) := by simp [pArg, pA1, pA2, bE, h1]
      rw [e, x, gT8_s, if_pos rfl]
      exact ⟨_, _, _, _, _, rfl⟩
    | inr r =>
      obtain ⟨v1, t1⟩ := r
      rw [h1] at q1
      obtain ⟨a11, a12, a13, a14, x1, r1, g1⟩ := q1
      rw [x1, gT8_s, if_neg (by decide)]
      have q2 := mSb (iE := iE) (iP := iP) (aK := (upd aK (b + 1) (iI v1))) hB hL hw hM g1 r1 (j := b + 2) (by omega)
      cases h2 : pSb B L S t1 with
      | inl er =>
        obtain ⟨c, p⟩ := er
        rw [h2] at q2
        obtain ⟨a1, a2, a3, a4, aK', x⟩ := q2
        have e : pArg B L S 4 t = .inl (c, p) := by simp [pArg, pA1, pA2, bE, h1, h2]
        rw [e, x, gT8_s, if_pos rfl]
        exact ⟨_, _, _, _, _, rfl⟩
      | inr r =>
        obtain ⟨v2, t2⟩ := r
        rw [h2] at q2
        obtain ⟨a21, a22, a23, a24, x2, r2, g2⟩ := q2
        rw [x2, gT8_s, if_neg (by decide)]
        have e : pArg B L S 4 t = .inr ((4, v1, v2, 0), t2) := by simp [pArg, pA1, pA2, bE, h1, h2]
        rw [e]
        exact ⟨_, _, _, _, (upd (upd aK (b + 1) (iI v1)) (b + 2) (iI v2)), rfl, r2, g2, fun i hi => by unfold upd; rw [if_neg (by omega), if_neg (by omega)], by simp [cmA, upd]⟩
  · subst z
    show arR B L (f_X6_parseArguments (5 : Int32) (iI (b + 1 : Nat)) m g (iI L) iE iP iA iY iF iV aK) (pArg B L S 5 t) b aK iE iP
    unfold f_X6_parseArguments
    rw [if_neg (by decide), if_neg (by decide), if_neg (by decide), if_neg (by decide), if_neg (by decide), if_pos rfl]
    have e : pArg B L S 5 t = .inr ((5, 0, 0, 0), t) := by simp [pArg, pA1, pA2, bE]
    rw [e]
    exact ⟨_, _, _, _, aK, rfl, hr, ht, fun i hi => rfl, by simp [cmA, upd]⟩
  · subst z
    show arR B L (f_X6_parseArguments (6 : Int32) (iI (b + 1 : Nat)) m g (iI L) iE iP iA iY iF iV aK) (pArg B L S 6 t) b aK iE iP
    unfold f_X6_parseArguments
    rw [if_neg (by decide), if_neg (by decide), if_neg (by decide), if_neg (by decide), if_neg (by decide), if_neg (by decide)]
    have q1 := mSb (iE := iE) (iP := iP) (aK := aK) hB hL hw hM ht hr (j := b + 1) (by omega)
    cases h1 : pSb B L S t with
    | inl er =>
      obtain ⟨c, p⟩ := er
      rw [h1] at q1
      obtain ⟨a1, a2, a3, a4, aK', x⟩ := q1
      have e : pArg B L S 6 t = .inl (c, p) := by simp [pArg, pA1, pA2, bE, h1]
      rw [e, x, gT8_s, if_pos (.inl rfl)]
      exact ⟨_, _, _, _, _, rfl⟩
    | inr r =>
      obtain ⟨v1, t1⟩ := r
      rw [h1] at q1
      obtain ⟨a11, a12, a13, a14, x1, r1, g1⟩ := q1
      rw [x1, gT8_s, if_pos (.inr rfl)]
      have e : pArg B L S 6 t = .inr ((6, v1, 0, 0), t1) := by simp [pArg, pA1, pA2, bE, h1]
      rw [e]
      exact ⟨_, _, _, _, (upd aK (b + 1) (iI v1)), rfl, r1, g1, fun i hi => by unfold upd; rw [if_neg (by omega)], by simp [cmA, upd]⟩
  · subst z
    show arR B L (f_X6_parseArguments (7 : Int32) (iI (b + 1 : Nat)) m g (iI L) iE iP iA iY iF iV aK) (pArg B L S 7 t) b aK iE iP
    unfold f_X6_parseArguments
    rw [if_neg (by decide), if_neg (by decide), if_neg (by decide), if_neg (by decide), if_neg (by decide), if_neg (by decide)]
    have q1 := mSb (iE := iE) (iP := iP) (aK := aK) hB hL hw hM ht hr (j := b + 1) (by omega)
    cases h1 : pSb B L S t with
    | inl er =>
      obtain ⟨c, p⟩ := er
      rw [h1] at q1
      obtain ⟨a1, a2, a3, a4, aK', x⟩ := q1
      have e : pArg B L S 7 t = .inl (c, p) := by simp [pArg, pA1, pA2, bE, h1]
      rw [e, x, gT8_s, if_pos (.inl rfl)]
      exact ⟨_, _, _, _, _, rfl⟩
    | inr r =>
      obtain ⟨v1, t1⟩ := r
      rw [h1] at q1
      obtain ⟨a11, a12, a13, a14, x1, r1, g1⟩ := q1
      rw [x1, gT8_s, if_pos (.inr rfl)]
      have e : pArg B L S 7 t = .inr ((7, v1, 0, 0), t1) := by simp [pArg, pA1, pA2, bE, h1]
      rw [e]
      exact ⟨_, _, _, _, (upd aK (b + 1) (iI v1)), rfl, r1, g1, fun i hi => by unfold upd; rw [if_neg (by omega)], by simp [cmA, upd]⟩
theorem wL8 : ∀ j, j < 8 → wL (3 + j) ≤ 600 ∧ 3 + j < g_tN := by decide
theorem mNmO {j : Nat} (hj : j < 8) : f_X6_nameOf x (iI j) = some (x.2.2.1 (3 + j)) := by
  have hk8 : j = 0 ∨ j = 1 ∨ j = 2 ∨ j = 3 ∨ j = 4 ∨ j = 5 ∨ j = 6 ∨ j = 7 := by omega
  unfold f_X6_nameOf
  rcases hk8 with z | z | z | z | z | z | z | z <;> subst z
  · rw [if_pos (show iI ((0 : Nat) : Int) = (0 : Int32) from rfl)]
  · rw [if_neg (by decide), if_pos (show iI ((1 : Nat) : Int) = (1 : Int32) from rfl)]
  · rw [if_neg (by decide), if_neg (by decide), if_pos (show iI ((2 : Nat) : Int) = (2 : Int32) from rfl)]
  · rw [if_neg (by decide), if_neg (by decide), if_neg (by decide), if_pos (show iI ((3 : Nat) : Int) = (3 : Int32) from rfl)]
  · rw [if_neg (by decide), if_neg (by decide), if_neg (by decide), if_neg (by decide), if_pos (show iI ((4 : Nat) : Int) = (4 : Int32) from rfl)]
  · rw [if_neg (by decide), if_neg (by decide), if_neg (by decide), if_neg (by decide), if_neg (by decide), if_pos (show iI ((5 : Nat) : Int) = (5 : Int32) from rfl)]
  · rw [if_neg (by decide), if_neg (by decide), if_neg (by decide), if_neg (by decide), if_neg (by decide), if_neg (by decide), if_pos (show iI ((6 : Nat) : Int) = (6 : Int32) from rfl)]
  · rw [if_neg (by decide), if_neg (by decide), if_neg (by decide), if_neg (by decide), if_neg (by decide), if_neg (by decide), if_neg (by decide)]
theorem mCmd (hd : ∀ i j, i < g_tN → j < g_tN → x.2.2.1 i = x.2.2.1 j → i = j) (hB : byR fc g B L) (hL : L ≤ 600) (ht : tkG B L t) (hr : tkR B t iA iY iF iV) : f_X6_commandHere x g iA iY iF = some (iI (cmZ B t 8 0)) := by
  obtain ⟨r1, r2, r3, r4⟩ := hr
  subst r1 r2 r3
  have key : ∀ d j fu : Nat, j + d = 8 → d < fu → gL1 (f_X6_commandHere_L2 x g (iI t.e) (iI (kM B t : Nat)) (iI t.s)) fu (iI j) = some (iI (cmZ B t d j)) := by
    intro d
    induction d with
    | zero =>
      intro j fu e hfu
      obtain ⟨fu, rfl⟩ : ∃ k', fu = k' + 1 := ⟨fu - 1, by omega⟩
      show f_X6_commandHere_L2 x g (iI t.e) (iI (kM B t : Nat)) (iI t.s) (gL1 (f_X6_commandHere_L2 x g (iI t.e) (iI (kM B t : Nat)) (iI t.s)) fu) _ = _
      unfold f_X6_commandHere_L2
      rw [iI_7, if_pos (by rw [iI_lt (by omega) (by omega) (by omega) (by omega)]; omega)]
      rfl
    | succ d ih =>
      intro j fu e hfu
      obtain ⟨fu, rfl⟩ : ∃ k', fu = k' + 1 := ⟨fu - 1, by omega⟩
      obtain ⟨w1, w2⟩ := wL8 j (by omega)
      have ih := ih (j + 1) fu (by omega) (by omega)
      show f_X6_commandHere_L2 x g (iI t.e) (iI (kM B t : Nat)) (iI t.s) (gL1 (f_X6_commandHere_L2 x g (iI t.e) (iI (kM B t : Nat)) (iI t.s)) fu) _ = _
      generalize gL1 (f_X6_commandHere_L2 x g (iI t.e) (iI (kM B t : Nat)) (iI t.s)) fu = r at ih ⊢
      unfold f_X6_commandHere_L2
      rw [Int.natCast_add, Int.natCast_one] at ih
      rw [iI_7, if_neg (by rw [iI_lt (by omega) (by omega) (by omega) (by omega)]; omega), mNmO (by omega), gB_s, mIsW hd hB hL ht w2 w1, gB_s]
      simp only [cmZ]
      by_cases q : wdIs B t (3 + j) = true
      · rw [if_pos q, if_pos q, if_neg (by decide)]
      · rw [if_neg q, if_neg q, if_pos rfl, iI_1, iI_add]; exact ih
  exact key 8 0 gN rfl (by unfold gN; omega)
theorem mScr (hd : ∀ i j, i < g_tN → j < g_tN → x.2.2.1 i = x.2.2.1 j → i = j) (hB : byR fc g B L) (hL : L ≤ 600) (hw : WF S) (hM : BlkAt m 0 S) : ∀ (d fu i : Nat) (t : gTk) (P : Nat → gCm) (aK : Nat → Int32) (iA iY iF iV : Int32), i ≤ 30 → 31 ≤ d + i → d ≤ fu → tkG B L t → tkR B t iA iY iF iV → (∀ j, j < i → cmR aK (4 * j) (P j)) → match pScr B L S d i t P with
    | .inl (c, p) => ∃ a1 a2 a3 a4 aK', gL8 (f_X6_parseScript_L2 x m g (iI L)) fu (iI i) iE iP iA iY iF iV aK = some ((-1 : Int32), iI c, iI p, a1, a2, a3, a4, aK')
    | .inr (c, P') => ∃ a1 a2 a3 a4 aK', gL8 (f_X6_parseScript_L2 x m g (iI L)) fu (iI i) iE iP iA iY iF iV aK = some (iI c, iE, iP, a1, a2, a3, a4, aK') ∧ ∀ j, j < c → cmR aK' (4 * j) (P' j) := by
  intro d
  induction d with
  | zero => intro fu i t P aK iA iY iF iV h30 h31; omega
  | succ d ih =>
    intro fu i t P aK iA iY iF iV h30 h31 hfu ht hr hP
    obtain ⟨fu, rfl⟩ : ∃ k', fu = k' + 1 := ⟨fu - 1, by omega⟩
    have hcmd := mCmd hd hB hL ht hr
    have cb := cmZ_b (B := B) (t := t) 8 0
    have hr0 := hr
    obtain ⟨r1, r2, r3, r4⟩ := hr
    have hk := ht.2.2.1
    simp only [pScr]
    by_cases k0 : t.k = 0
    · rw [if_pos k0]
      refine ⟨iA, iY, iF, iV, aK, ?_, hP⟩
      show f_X6_parseScript_L2 x m g (iI L) (gL8 (f_X6_parseScript_L2 x m g (iI L)) fu) _ _ _ _ _ _ _ _ = _
      unfold f_X6_parseScript_L2
      rw [if_pos (by rw [r2]; exact (kM_0 hk).mpr k0)]
    · rw [if_neg k0]
      have head : ∀ r, f_X6_parseScript_L2 x m g (iI L) r (iI i) iE iP iA iY iF iV aK = (if iI (cmZ B t 8 0) = (-1 : Int32) then (gT3 (f_X6_wrong (1 : Int32) iE iP iF) fun v4 iE_5 iP_6 => f_X6_parseScript_J46 x r (iI i) (iI (cmZ B t 8 0)) v4 m g (iI L) iE_5 iP_6 iA iY iF iV aK) else (if iI (i : Nat) < (30 : Int32) then f_X6_parseScript_J33 x r (iI i) (iI (cmZ B t 8 0)) m g (iI L) iE iP iA iY iF iV aK else (gT3 (f_X6_wrong (4 : Int32) iE iP iF) fun v31 iE_32 iP_33 => (if v31 = 0 then f_X6_parseScript_J46 x r (iI i) (iI (cmZ B t 8 0)) (0 : Int32) m g (iI L) iE_32 iP_33 iA iY iF iV aK else f_X6_parseScript_J33 x r (iI i) (iI (cmZ B t 8 0)) m g (iI L) iE_32 iP_33 iA iY iF iV aK)))) := fun r => by
        unfold f_X6_parseScript_L2
        rw [if_neg (by rw [r2]; exact fun w => k0 ((kM_0 hk).mp w)), hcmd, gB_s]
      by_cases z : cmZ B t 8 0 = -1
      · rw [if_pos z]
        refine ⟨iA, iY, iF, iV, aK, ?_⟩
        show f_X6_parseScript_L2 x m g (iI L) (gL8 (f_X6_parseScript_L2 x m g (iI L)) fu) _ _ _ _ _ _ _ _ = _
        rw [head, if_pos (by rw [z]; rfl)]
        unfold f_X6_wrong f_X6_parseScript_J46
        rw [gT3_s, if_pos rfl, r3]
        rfl
      · rw [if_neg z]
        have hz : ¬ iI (cmZ B t 8 0) = (-1 : Int32) := by rw [iI_n1, iI_eq (by omega) (by omega) (by omega) (by omega)]; exact z
        by_cases i30 : i = 30
        · rw [if_pos i30]
          refine ⟨iA, iY, iF, iV, aK, ?_⟩
          show f_X6_parseScript_L2 x m g (iI L) (gL8 (f_X6_parseScript_L2 x m g (iI L)) fu) _ _ _ _ _ _ _ _ = _
          rw [head, if_neg hz, if_neg (by rw [show (30 : Int32) = iI 30 from rfl, iI_lt (by omega) (by omega) (by omega) (by omega)]; omega)]
          unfold f_X6_wrong f_X6_parseScript_J46
          rw [gT3_s, if_pos rfl, if_pos rfl, r3]
          rfl
        · rw [if_neg i30]
          obtain ⟨kk, hkk⟩ : ∃ kk : Nat, cmZ B t 8 0 = kk := ⟨(cmZ B t 8 0).toNat, by omega⟩
          have hk7 : kk ≤ 7 := by omega
          obtain ⟨a1, a2, a3, a4, e1, n1⟩ := mTkR hB hL ht (iY := iY) (iF := iF) (iV := iV)
          have e4 : iI (i : Int) * (4 : Int32) = iI ((4 * i : Nat) : Int) := by rw [show (4 : Int32) = iI 4 from rfl, iI_mul]; congr 1; omega
          have e5 : iI ((4 * i : Nat) : Int) + (1 : Int32) = iI ((4 * i + 1 : Nat) : Int) := by rw [iI_1, iI_add]; rfl
          have harg := mArg (iE := iE) (iP := iP) (aK := upd aK (4 * i) (iI kk)) hB hL hw hM (tkG_z (B := B) ht.2.1) n1 (k := kk) (b := 4 * i) hk7 (by omega)
          have head2 : ∀ r, f_X6_parseScript_L2 x m g (iI L) r (iI i) iE iP iA iY iF iV aK = (gT8 (f_X6_parseArguments (iI kk) (iI (4 * i + 1 : Nat)) m g (iI L) iE iP a1 a2 a3 a4 (upd aK (4 * i) (iI kk))) fun v14 iE_15 iP_16 iA_17 iY_18 iF_19 iV_20 aK_21 => (if v14 = 0 then some ((-1 : Int32), iE_15, iP_16, iA_17, iY_18, iF_19, iV_20, aK_21) else (gT7 (f_X6_semicolon g (iI L) iE_15 iP_16 iA_17 iY_18 iF_19 iV_20) fun v23 iE_24 iP_25 iA_26 iY_27 iF_28 iV_29 => (if v23 = 0 then some ((-1 : Int32), iE_24, iP_25, iA_26, iY_27, iF_28, iV_29, aK_21) else r (iI i + (1 : Int32)) iE_24 iP_25 iA_26 iY_27 iF_28 iV_29 aK_21)))) := fun r => by
            rw [head, if_neg hz, if_pos (by rw [show (30 : Int32) = iI 30 from rfl, iI_lt (by omega) (by omega) (by omega) (by omega)]; omega)]
            unfold f_X6_parseScript_J33 f_X6_parseScript_J46
            rw [if_neg (by decide), r1, e1, gT4_s, e4, hkk, wa_at (j := 4 * i) rfl (by omega) (by decide), gB_s, e5]
          rw [show (cmZ B t 8 0).toNat = kk by omega]
          cases h1 : pArg B L S kk (tkZ B L t.e) with
          | inl er =>
            obtain ⟨c, p⟩ := er
            rw [h1] at harg
            obtain ⟨b1, b2, b3, b4, aK', y1⟩ := harg
            refine ⟨b1, b2, b3, b4, aK', ?_⟩
            show f_X6_parseScript_L2 x m g (iI L) (gL8 (f_X6_parseScript_L2 x m g (iI L)) fu) _ _ _ _ _ _ _ _ = _
            rw [head2, y1, gT8_s, if_pos rfl]
          | inr rr =>
            obtain ⟨cm, t2⟩ := rr
            rw [h1] at harg
            obtain ⟨b1, b2, b3, b4, aK', y1, y2, y3, y4, y5⟩ := harg
            have hsem := mSem (iE := iE) (iP := iP) hB hL y3 y2
            show match bE (pSem B L t2) (fun t4 => pScr B L S d (i + 1) t4 (fun j => if j = i then cm else P j)) with | .inl (c, p) => _ | .inr (c, P') => _
            cases h2 : pSem B L t2 with
            | inl er =>
              obtain ⟨c, p⟩ := er
              rw [h2] at hsem
              have hsem' : f_X6_semicolon g (iI L) iE iP b1 b2 b3 b4 = some ((0 : Int32), iI c, iI p, b1, b2, b3, b4) := hsem
              refine ⟨b1, b2, b3, b4, aK', ?_⟩
              show f_X6_parseScript_L2 x m g (iI L) (gL8 (f_X6_parseScript_L2 x m g (iI L)) fu) _ _ _ _ _ _ _ _ = _
              rw [head2, y1, gT8_s, if_neg (by decide), hsem', gT7_s, if_pos rfl]
            | inr t4 =>
              rw [h2] at hsem
              obtain ⟨c1, c2, c3, c4, x1, x2⟩ := hsem
              obtain ⟨-, -, hck⟩ := pArg_ok h1 (tkG_z (B := B) ht.2.1) hk7 hw.2.1.2
              have := ih fu (i + 1) t4 (fun j => if j = i then cm else P j) aK' c1 c2 c3 c4 (by omega) (by omega) (by omega) (by rw [pSem_ok h2]; exact tkG_z y3.2.1) x2 (fun j hj => by
                by_cases y : j = i
                · subst y
                  show cmR aK' (4 * j) (if j = j then cm else P j)
                  rw [if_pos rfl]
                  refine ⟨?_, y5⟩
                  rw [y4 _ (Nat.le_refl _), hck]; unfold upd; rw [if_pos rfl]
                · show cmR aK' (4 * j) (if j = i then cm else P j)
                  rw [if_neg y]
                  have hj' := hP j (by omega)
                  have ot : ∀ u, u ≤ 3 → aK' (4 * j + u) = aK (4 * j + u) := fun u hu => by
                    rw [y4 _ (by omega)]; unfold upd; rw [if_neg (by omega)]
                  obtain ⟨p1, p2, p3, p4⟩ := hj'
                  exact ⟨(ot 0 (by omega)).trans p1, fun u v => (ot 1 (by omega)).trans (p2 u v), fun u => (ot 2 (by omega)).trans (p3 u), fun u v => (ot 3 (by omega)).trans (p4 u v)⟩)
              have step : gL8 (f_X6_parseScript_L2 x m g (iI L)) (fu + 1) (iI i) iE iP iA iY iF iV aK = gL8 (f_X6_parseScript_L2 x m g (iI L)) fu (iI (i + 1 : Nat)) iE iP c1 c2 c3 c4 aK' := by
                show f_X6_parseScript_L2 x m g (iI L) (gL8 (f_X6_parseScript_L2 x m g (iI L)) fu) _ _ _ _ _ _ _ _ = _
                rw [head2, y1, gT8_s, if_neg (by decide), x1, gT7_s, if_neg (by decide), iI_1, iI_add]
                rfl
              rw [step]
              exact this
end SM2
