/-! TOKENS -/
def sgB (z : Int) : Int := if z < 128 then z else z - 256
def byR (f g : Nat → Int32) (B : Nat → Int) (L : Nat) : Prop := ∀ i, i < L → (0 ≤ B i ∧ B i < 256) ∧ g i = iI (B i) ∧ f i = iI (sgB (B i))
theorem byR_of {f g : Nat → Int32} {L : Nat} (h : bufZ f g L) : byR f g (fun i => (g i).toInt) L := fun i hi => by
  obtain ⟨z, h1, h2, h3⟩ := h i hi
  have e : (g i).toInt = z := by rw [h2]; exact iI_toInt (by omega) (by omega)
  show (0 ≤ (g i).toInt ∧ (g i).toInt < 256) ∧ g i = iI (g i).toInt ∧ f i = iI (sgB (g i).toInt)
  rw [e]
  exact ⟨h1, h2, h3⟩
abbrev smB (z : Int) : Prop := 97 ≤ z ∧ z ≤ 122
abbrev dgB (z : Int) : Prop := 48 ≤ z ∧ z ≤ 57
def skZ (B : Nat → Int) : Nat → Nat → Nat
  | 0, e => e
  | d + 1, e => if B e = 32 ∨ B e = 10 then skZ B d (e + 1) else e
def wdZ (B : Nat → Int) : Nat → Nat → Nat
  | 0, e => e
  | d + 1, e => if smB (B e) then wdZ B d (e + 1) else e
def dgZ (B : Nat → Int) (s : Nat) : Nat → Nat → Int → Nat × Int
  | 0, e, v => (e, v)
  | d + 1, e, v => if dgB (B e) then dgZ B s d (e + 1) (if e - s < 2 then 10 * v + B e - 48 else v) else (e, v)
theorem dgZ_t {B : Nat → Int} {s d e : Nat} {v : Int} (q : dgB (B e)) : dgZ B s (d + 1) e v = dgZ B s d (e + 1) (if e - s < 2 then 10 * v + B e - 48 else v) := by
  simp only [dgZ]; rw [if_pos q]
theorem dgZ_f {B : Nat → Int} {s d e : Nat} {v : Int} (q : ¬ dgB (B e)) : dgZ B s (d + 1) e v = (e, v) := by
  simp only [dgZ]; rw [if_neg q]
theorem wdZ_t {B : Nat → Int} {d e : Nat} (q : smB (B e)) : wdZ B (d + 1) e = wdZ B d (e + 1) := by
  simp only [wdZ]; rw [if_pos q]
theorem wdZ_f {B : Nat → Int} {d e : Nat} (q : ¬ smB (B e)) : wdZ B (d + 1) e = e := by
  simp only [wdZ]; rw [if_neg q]
abbrev gTk : Type := Nat × Nat × Nat × Int
abbrev gTk.k (t : gTk) : Nat := t.1
abbrev gTk.s (t : gTk) : Nat := t.2.1
abbrev gTk.e (t : gTk) : Nat := t.2.2.1
abbrev gTk.v (t : gTk) : Int := t.2.2.2
/-- the token at e: kind (3 is any sign), start, end, value of a number -/
def tkZ (B : Nat → Int) (L e : Nat) : gTk :=
  if skZ B (L - e) e = L then (0, L, L, 0)
  else if skZ B (L - e) e < wdZ B (L - skZ B (L - e) e) (skZ B (L - e) e) then (if wdZ B (L - skZ B (L - e) e) (skZ B (L - e) e) - skZ B (L - e) e ≤ 8 then 1 else 4, skZ B (L - e) e, wdZ B (L - skZ B (L - e) e) (skZ B (L - e) e), 0)
  else if skZ B (L - e) e < (dgZ B (skZ B (L - e) e) (L - skZ B (L - e) e) (skZ B (L - e) e) 0).1 then (if (dgZ B (skZ B (L - e) e) (L - skZ B (L - e) e) (skZ B (L - e) e) 0).1 - skZ B (L - e) e ≤ 2 then 2 else 4, skZ B (L - e) e, (dgZ B (skZ B (L - e) e) (L - skZ B (L - e) e) (skZ B (L - e) e) 0).1, (dgZ B (skZ B (L - e) e) (L - skZ B (L - e) e) (skZ B (L - e) e) 0).2)
  else (3, skZ B (L - e) e, skZ B (L - e) e + 1, 0)
theorem skZ_b {B : Nat → Int} : ∀ d e, e ≤ skZ B d e ∧ skZ B d e ≤ e + d := by
  intro d
  induction d with
  | zero => intro e; exact ⟨Nat.le_refl _, Nat.le_refl _⟩
  | succ d ih =>
    intro e
    simp only [skZ]
    split
    · have := ih (e + 1); omega
    · omega
theorem wdZ_b {B : Nat → Int} : ∀ d e, (e ≤ wdZ B d e ∧ wdZ B d e ≤ e + d) ∧ ∀ i, e ≤ i → i < wdZ B d e → smB (B i) := by
  intro d
  induction d with
  | zero => intro e; exact ⟨⟨Nat.le_refl _, Nat.le_refl _⟩, fun i h1 h2 => by simp only [wdZ] at h2; omega⟩
  | succ d ih =>
    intro e
    simp only [wdZ]
    by_cases q : smB (B e)
    · rw [if_pos q]
      have h := ih (e + 1)
      refine ⟨by omega, fun i h1 h2 => ?_⟩
      by_cases z : i = e
      · rw [z]; exact q
      · exact h.2 i (by omega) h2
    · rw [if_neg q]; exact ⟨by omega, fun i h1 h2 => by omega⟩
theorem dgZ_b {B : Nat → Int} {s : Nat} : ∀ d e v, s ≤ e → (e - s = 0 → v = 0) → (e - s = 1 → 0 ≤ v ∧ v ≤ 9) → (2 ≤ e - s → 0 ≤ v ∧ v ≤ 99) → (e ≤ (dgZ B s d e v).1 ∧ (dgZ B s d e v).1 ≤ e + d) ∧ 0 ≤ (dgZ B s d e v).2 ∧ (dgZ B s d e v).2 ≤ 99 := by
  intro d
  induction d with
  | zero => intro e v hs h0 h1 h2; simp only [dgZ]; omega
  | succ d ih =>
    intro e v hs h0 h1 h2
    simp only [dgZ]
    by_cases q : dgB (B e)
    · rw [if_pos q]
      obtain ⟨q1, q2⟩ := q
      have := ih (e + 1) (if e - s < 2 then 10 * v + B e - 48 else v) (by omega) (by omega) (by intro w; rw [if_pos (by omega)]; have := h0 (by omega); omega) (by
        intro w
        by_cases z : e - s < 2
        · rw [if_pos z]; have := h1 (by omega); omega
        · rw [if_neg z]; exact h2 (by omega))
      omega
    · rw [if_neg q]; refine ⟨by omega, ?_⟩; show 0 ≤ v ∧ v ≤ 99; omega
theorem tkZ_b {B : Nat → Int} {L e : Nat} (he : e ≤ L) : (e ≤ (tkZ B L e).s ∧ (tkZ B L e).s ≤ (tkZ B L e).e ∧ (tkZ B L e).e ≤ L) ∧ ((tkZ B L e).k = 0 ↔ (tkZ B L e).s = L) ∧ ((tkZ B L e).k ≤ 4 ∧ 0 ≤ (tkZ B L e).v ∧ (tkZ B L e).v ≤ 99) ∧ ((tkZ B L e).k = 1 → (tkZ B L e).s < (tkZ B L e).e ∧ (tkZ B L e).e ≤ (tkZ B L e).s + 8 ∧ ∀ i, (tkZ B L e).s ≤ i → i < (tkZ B L e).e → smB (B i)) := by
  have h1 := skZ_b (B := B) (L - e) e
  unfold tkZ
  generalize skZ B (L - e) e = s at h1 ⊢
  have h2 := wdZ_b (B := B) (L - s) s
  have h3 := dgZ_b (B := B) (s := s) (L - s) s 0 (Nat.le_refl _) (fun _ => rfl) (fun w => by omega) (fun w => by omega)
  by_cases q1 : s = L
  · rw [if_pos q1]
    exact ⟨⟨by show e ≤ L; omega, Nat.le_refl _, Nat.le_refl _⟩, ⟨fun _ => rfl, fun _ => rfl⟩, ⟨(by decide : (0 : Nat) ≤ 4), (by decide : (0 : Int) ≤ 0), (by decide : (0 : Int) ≤ 99)⟩, fun w => absurd w (by decide : ¬ (0 : Nat) = 1)⟩
  · rw [if_neg q1]
    generalize wdZ B (L - s) s = w at h2 ⊢
    by_cases q2 : s < w
    · rw [if_pos q2]
      refine ⟨⟨by show e ≤ s; omega, by show s ≤ w; omega, by show w ≤ L; omega⟩, ?_, ?_, ?_⟩
      · show (if w - s ≤ 8 then 1 else 4) = 0 ↔ s = L
        constructor
        · intro z; split at z <;> cases z
        · intro z; exact absurd z q1
      · show (if w - s ≤ 8 then 1 else 4) ≤ 4 ∧ (0 : Int) ≤ 0 ∧ (0 : Int) ≤ 99
        refine ⟨?_, by decide, by decide⟩
        split <;> decide
      · intro z
        have z' : (if w - s ≤ 8 then 1 else 4) = 1 := z
        refine ⟨q2, ?_, h2.2⟩
        show w ≤ s + 8
        by_cases y : w - s ≤ 8
        · omega
        · rw [if_neg y] at z'; cases z'
    · rw [if_neg q2]
      generalize dgZ B s (L - s) s 0 = g at h3 ⊢
      by_cases q3 : s < g.1
      · rw [if_pos q3]
        refine ⟨⟨by show e ≤ s; omega, by show s ≤ g.1; omega, by show g.1 ≤ L; omega⟩, ?_, ?_, ?_⟩
        · show (if g.1 - s ≤ 2 then 2 else 4) = 0 ↔ s = L
          constructor
          · intro z; split at z <;> cases z
          · intro z; exact absurd z q1
        · show (if g.1 - s ≤ 2 then 2 else 4) ≤ 4 ∧ 0 ≤ g.2 ∧ g.2 ≤ 99
          refine ⟨?_, h3.2⟩
          split <;> decide
        · intro z
          have z' : (if g.1 - s ≤ 2 then 2 else 4) = 1 := z
          split at z' <;> cases z'
      · rw [if_neg q3]
        refine ⟨⟨by show e ≤ s; omega, by show s ≤ s + 1; omega, by show s + 1 ≤ L; omega⟩, ?_, ⟨(by decide : (3 : Nat) ≤ 4), (by decide : (0 : Int) ≤ 0), (by decide : (0 : Int) ≤ 99)⟩, fun z => absurd z (by decide : ¬ (3 : Nat) = 1)⟩
        show 3 = 0 ↔ s = L
        exact ⟨fun z => absurd z (by decide), fun z => absurd z q1⟩
-- the reference's token
section TM
variable {B : Nat → Int} {L : Nat} {f g : Nat → Int32} {iY : Int32}
def kM (B : Nat → Int) (t : gTk) : Nat := if t.k = 3 ∧ B t.s ≠ 59 then 4 else t.k
theorem mSmall {z : Int} (hz : 0 ≤ z ∧ z < 256) : f_X6_isSmall (iI z) = some (if smB z then (1 : Int32) else 0) := by
  unfold f_X6_isSmall
  rw [iI_97, iI_122]
  by_cases q1 : z < 97
  · rw [if_pos (by rw [iI_lt (by omega) (by omega) (by omega) (by omega)]; omega), if_neg (by omega)]
  · rw [if_neg (by rw [iI_lt (by omega) (by omega) (by omega) (by omega)]; omega)]
    by_cases q2 : 122 < z
    · rw [if_pos (by rw [iI_lt (by omega) (by omega) (by omega) (by omega)]; omega), if_neg (by omega)]
    · rw [if_neg (by rw [iI_lt (by omega) (by omega) (by omega) (by omega)]; omega), if_pos (by omega)]
theorem mDigit {z : Int} (hz : 0 ≤ z ∧ z < 256) : f_X6_isDigit (iI z) = some (if dgB z then (1 : Int32) else 0) := by
  unfold f_X6_isDigit
  rw [iI_48, iI_57]
  by_cases q1 : z < 48
  · rw [if_pos (by rw [iI_lt (by omega) (by omega) (by omega) (by omega)]; omega), if_neg (by omega)]
  · rw [if_neg (by rw [iI_lt (by omega) (by omega) (by omega) (by omega)]; omega)]
    by_cases q2 : 57 < z
    · rw [if_pos (by rw [iI_lt (by omega) (by omega) (by omega) (by omega)]; omega), if_neg (by omega)]
    · rw [if_neg (by rw [iI_lt (by omega) (by omega) (by omega) (by omega)]; omega), if_pos (by omega)]
theorem tkM_dg (hB : byR f g B L) (hL : L ≤ 600) {s : Nat} : ∀ (d e fu : Nat) (v : Int), e + d = L → d < fu → s ≤ e → (e - s = 0 → v = 0) → (e - s = 1 → 0 ≤ v ∧ v ≤ 9) → (2 ≤ e - s → 0 ≤ v ∧ v ≤ 99) → gL2 (f_X6_token_L175 g (iI L) iY (iI s)) fu (iI e) (iI v) = some (iI (dgZ B s d e v).1, (if (dgZ B s d e v).1 - s ≤ 2 then (2 : Int32) else 4), iI s, iI (dgZ B s d e v).2) := by
  intro d
  induction d with
  | zero =>
    intro e fu v e1 hfu hs h0 h1 h2
    obtain ⟨fu, rfl⟩ : ∃ k', fu = k' + 1 := ⟨fu - 1, by omega⟩
    show f_X6_token_L175 g (iI L) iY (iI s) (gL2 (f_X6_token_L175 g (iI L) iY (iI s)) fu) _ _ = _
    unfold f_X6_token_L175 f_X6_token_J251
    rw [if_pos (by rw [iI_le (by omega) (by omega) (by omega) (by omega)]; omega), iI_sub]
    show _ = some (iI (e : Nat), (if e - s ≤ 2 then (2 : Int32) else 4), iI s, iI v)
    by_cases z : e - s ≤ 2
    · rw [if_pos (by rw [iI_2, iI_le (by omega) (by omega) (by omega) (by omega)]; omega), if_pos z]
    · rw [if_neg (by rw [iI_2, iI_le (by omega) (by omega) (by omega) (by omega)]; omega), if_neg z]
  | succ d ih =>
    intro e fu v e1 hfu hs h0 h1 h2
    obtain ⟨fu, rfl⟩ : ∃ k', fu = k' + 1 := ⟨fu - 1, by omega⟩
    obtain ⟨b1, b2, -⟩ := hB e (by omega)
    show f_X6_token_L175 g (iI L) iY (iI s) (gL2 (f_X6_token_L175 g (iI L) iY (iI s)) fu) _ _ = _
    have ihh := fun v' => ih (e + 1) fu v' (by omega) (by omega) (by omega)
    generalize gL2 (f_X6_token_L175 g (iI L) iY (iI s)) fu = r at ihh ⊢
    unfold f_X6_token_L175 f_X6_token_J251
    rw [Int.natCast_add, Int.natCast_one] at ihh
    rw [if_neg (by rw [iI_le (by omega) (by omega) (by omega) (by omega)]; omega), ra_at (j := e) rfl (by omega) (by decide) b2, gB_s, mDigit b1, gB_s]
    by_cases q : dgB (B e)
    · rw [dgZ_t q, if_pos q, if_neg (by decide), iI_sub]
      obtain ⟨q1, q2⟩ := q
      by_cases z : e - s < 2
      · rw [if_neg (by rw [iI_2, iI_le (by omega) (by omega) (by omega) (by omega)]; omega), gB_s, iI_10, iI_48, iI_mul, iI_add, iI_sub, iI_1, iI_add, if_pos z, show v * 10 + B e - 48 = 10 * v + B e - 48 by omega]
        exact ihh _ (by omega) (fun w => by have := h0 (by omega); omega) (fun w => by have := h1 (by omega); omega)
      · rw [if_pos (by rw [iI_2, iI_le (by omega) (by omega) (by omega) (by omega)]; omega), iI_1, iI_add, if_neg z]
        exact ihh _ (by omega) (fun w => by omega) (fun w => h2 (by omega))
    · rw [dgZ_f q, if_neg q, if_pos rfl, iI_sub]
      show _ = some (iI (e : Nat), (if e - s ≤ 2 then (2 : Int32) else 4), iI s, iI v)
      by_cases z : e - s ≤ 2
      · rw [if_pos (by rw [iI_2, iI_le (by omega) (by omega) (by omega) (by omega)]; omega), if_pos z]
      · rw [if_neg (by rw [iI_2, iI_le (by omega) (by omega) (by omega) (by omega)]; omega), if_neg z]
theorem tkM_wd (hB : byR f g B L) (hL : L ≤ 600) {s : Nat} {iV : Int32} : ∀ (d e fu : Nat), e + d = L → d < fu → s ≤ e → gL1 (f_X6_token_L92 g (iI L) iY (iI s) iV) fu (iI e) = some (iI (wdZ B d e : Nat), (if wdZ B d e - s ≤ 8 then (1 : Int32) else 4), iI s, iV) := by
  intro d
  induction d with
  | zero =>
    intro e fu e1 hfu hs
    obtain ⟨fu, rfl⟩ : ∃ k', fu = k' + 1 := ⟨fu - 1, by omega⟩
    show f_X6_token_L92 g (iI L) iY (iI s) iV (gL1 (f_X6_token_L92 g (iI L) iY (iI s) iV) fu) _ = _
    unfold f_X6_token_L92 f_X6_token_J131
    rw [if_pos (by rw [iI_le (by omega) (by omega) (by omega) (by omega)]; omega), iI_sub]
    show _ = some (iI (e : Nat), (if e - s ≤ 8 then (1 : Int32) else 4), iI s, iV)
    by_cases z : e - s ≤ 8
    · rw [if_pos (by rw [iI_8, iI_le (by omega) (by omega) (by omega) (by omega)]; omega), if_pos z]
    · rw [if_neg (by rw [iI_8, iI_le (by omega) (by omega) (by omega) (by omega)]; omega), if_neg z]
  | succ d ih =>
    intro e fu e1 hfu hs
    obtain ⟨fu, rfl⟩ : ∃ k', fu = k' + 1 := ⟨fu - 1, by omega⟩
    obtain ⟨b1, b2, -⟩ := hB e (by omega)
    have ih := ih (e + 1) fu (by omega) (by omega) (by omega)
    show f_X6_token_L92 g (iI L) iY (iI s) iV (gL1 (f_X6_token_L92 g (iI L) iY (iI s) iV) fu) _ = _
    generalize gL1 (f_X6_token_L92 g (iI L) iY (iI s) iV) fu = r at ih ⊢
    unfold f_X6_token_L92 f_X6_token_J131
    rw [Int.natCast_add, Int.natCast_one] at ih
    rw [if_neg (by rw [iI_le (by omega) (by omega) (by omega) (by omega)]; omega), ra_at (j := e) rfl (by omega) (by decide) b2, gB_s, mSmall b1, gB_s]
    by_cases q : smB (B e)
    · rw [wdZ_t q, if_pos q, if_neg (by decide), iI_1, iI_add]
      exact ih
    · rw [wdZ_f q, if_neg q, if_pos rfl, iI_sub]
      by_cases z : e - s ≤ 8
      · rw [if_pos (by rw [iI_8, iI_le (by omega) (by omega) (by omega) (by omega)]; omega), if_pos z]
      · rw [if_neg (by rw [iI_8, iI_le (by omega) (by omega) (by omega) (by omega)]; omega), if_neg z]
theorem tk_end {e : Nat} (h : skZ B (L - e) e = L) : tkZ B L e = (0, L, L, 0) := by
  unfold tkZ; rw [if_pos h]
theorem tk_word {e s : Nat} (h : skZ B (L - e) e = s) (hs : s < L) (q : smB (B s)) : s < wdZ B (L - s) s ∧ tkZ B L e = (if wdZ B (L - s) s - s ≤ 8 then 1 else 4, s, wdZ B (L - s) s, 0) := by
  obtain ⟨d, hd⟩ : ∃ d, L - s = d + 1 := ⟨L - s - 1, by omega⟩
  have w0 := wdZ_b (B := B) d (s + 1)
  have ew : wdZ B (L - s) s = wdZ B d (s + 1) := by rw [hd]; exact wdZ_t q
  have h1 : s < wdZ B (L - s) s := by rw [ew]; omega
  refine ⟨h1, ?_⟩
  unfold tkZ
  rw [h, if_neg (by omega), if_pos h1]
theorem tk_num {e s : Nat} (h : skZ B (L - e) e = s) (hs : s < L) (q : dgB (B s)) : s < (dgZ B s (L - s) s 0).1 ∧ tkZ B L e = (if (dgZ B s (L - s) s 0).1 - s ≤ 2 then 2 else 4, s, (dgZ B s (L - s) s 0).1, (dgZ B s (L - s) s 0).2) := by
  obtain ⟨d, hd⟩ : ∃ d, L - s = d + 1 := ⟨L - s - 1, by omega⟩
  have q0 : ¬ smB (B s) := by omega
  have ew : wdZ B (L - s) s = s := by rw [hd]; exact wdZ_f q0
  have eg : dgZ B s (L - s) s 0 = dgZ B s d (s + 1) (if s - s < 2 then 10 * 0 + B s - 48 else 0) := by rw [hd]; exact dgZ_t q
  have h3 := dgZ_b (B := B) (s := s) d (s + 1) (if s - s < 2 then 10 * 0 + B s - 48 else 0) (by omega) (by omega) (fun _ => by rw [if_pos (by omega)]; omega) (fun w => by omega)
  have h1 : s < (dgZ B s (L - s) s 0).1 := by rw [eg]; omega
  refine ⟨h1, ?_⟩
  unfold tkZ
  rw [h, if_neg (by omega), ew, if_neg (by omega), if_pos h1]
theorem tk_sign {e s : Nat} (h : skZ B (L - e) e = s) (hs : s < L) (q : ¬ smB (B s)) (q2 : ¬ dgB (B s)) : tkZ B L e = (3, s, s + 1, 0) := by
  obtain ⟨d, hd⟩ : ∃ d, L - s = d + 1 := ⟨L - s - 1, by omega⟩
  have ew : wdZ B (L - s) s = s := by rw [hd]; exact wdZ_f q
  have eg : dgZ B s (L - s) s 0 = (s, 0) := by rw [hd]; exact dgZ_f q2
  unfold tkZ
  rw [h, if_neg (by omega), ew, if_neg (by omega), eg]
  exact if_neg (Nat.lt_irrefl s)
theorem kM_ne {t : gTk} (h : t.k ≠ 3) : kM B t = t.k := by
  unfold kM; rw [if_neg (fun w => h w.1)]
/-- the reference's token at s, no space there -/
theorem tkM_at (hB : byR f g B L) (hL : L ≤ 600) {s : Nat} (hs : s ≤ L) {iF iV : Int32} (hns : s = L ∨ ¬ (B s = 32 ∨ B s = 10)) : ∃ iV', f_X6_token_J52 g (iI L) (iI s) iY iF iV = some (iI (tkZ B L s).e, iI (kM B (tkZ B L s)), iI (tkZ B L s).s, iV') ∧ ((tkZ B L s).k = 2 → iV' = iI (tkZ B L s).v) := by
  have hsk : skZ B (L - s) s = s := by
    rcases hns with q | q
    · rw [q, Nat.sub_self]; rfl
    · obtain ⟨d, hd⟩ : ∃ d, L - s = d := ⟨_, rfl⟩
      rw [hd]
      cases d with
      | zero => rfl
      | succ d => simp only [skZ]; rw [if_neg q]
  unfold f_X6_token_J52
  by_cases q1 : s = L
  · rw [tk_end (hsk.trans q1), if_pos (by rw [q1]), q1]
    exact ⟨iV, rfl, fun w => absurd w (by show ¬ (0 : Nat) = 2; decide)⟩
  · obtain ⟨b1, b2, -⟩ := hB s (by omega)
    rw [if_neg (by rw [iI_eq (by omega) (by omega) (by omega) (by omega)]; omega), ra_at (j := s) rfl (by omega) (by decide) b2, gB_s, mSmall b1, gB_s]
    by_cases q2 : smB (B s)
    · obtain ⟨w1, w2⟩ := tk_word hsk (by omega) q2
      rw [if_pos q2, if_neg (by decide), tkM_wd hB hL (L - s) s gN (by omega) (by unfold gN; omega) (Nat.le_refl _), w2]
      generalize wdZ B (L - s) s = w at w1 ⊢
      by_cases z : w - s ≤ 8
      · rw [if_pos z, if_pos z]
        exact ⟨iV, rfl, fun y => absurd y (by show ¬ (1 : Nat) = 2; decide)⟩
      · rw [if_neg z, if_neg z]
        exact ⟨iV, rfl, fun y => absurd y (by show ¬ (4 : Nat) = 2; decide)⟩
    · rw [if_neg q2, if_pos rfl, gB_s, mDigit b1, gB_s]
      by_cases q3 : dgB (B s)
      · obtain ⟨w1, w2⟩ := tk_num hsk (by omega) q3
        have := tkM_dg (iY := iY) hB hL (s := s) (L - s) s gN 0 (by omega) (by unfold gN; omega) (Nat.le_refl _) (fun _ => rfl) (fun w => by omega) (fun w => by omega)
        rw [if_pos q3, if_neg (by decide), w2]
        refine ⟨iI (dgZ B s (L - s) s 0).2, Eq.trans this ?_, fun _ => rfl⟩
        generalize dgZ B s (L - s) s 0 = w at w1 ⊢
        by_cases z : w.1 - s ≤ 2
        · rw [if_pos z, if_pos z]; rfl
        · rw [if_neg z, if_neg z]; rfl
      · rw [tk_sign hsk (by omega) q2 q3, if_neg q3, if_pos rfl, gB_s]
        unfold f_X6_token_J294
        by_cases q4 : B s = 59
        · rw [if_pos (by rw [q4]; rfl)]
          refine ⟨iV, ?_, fun y => absurd y (by show ¬ (3 : Nat) = 2; decide)⟩
          unfold kM
          rw [if_neg (by rintro ⟨-, w⟩; exact w q4), iI_1, iI_add]
          rfl
        · rw [if_neg (by rw [iI_59, iI_eq (by omega) (by omega) (by omega) (by omega)]; exact q4)]
          refine ⟨iV, ?_, fun y => absurd y (by show ¬ (3 : Nat) = 2; decide)⟩
          unfold kM
          rw [if_pos ⟨rfl, q4⟩, iI_1, iI_add]
          rfl
theorem mTok (hB : byR f g B L) (hL : L ≤ 600) {iF iV : Int32} : ∀ (d e fu : Nat), e + d = L → d < fu → ∃ iV', gL1 (f_X6_token_L0 g (iI L) iY iF iV) fu (iI e) = some (iI (tkZ B L e).e, iI (kM B (tkZ B L e)), iI (tkZ B L e).s, iV') ∧ ((tkZ B L e).k = 2 → iV' = iI (tkZ B L e).v) := by
  intro d
  induction d with
  | zero =>
    intro e fu e1 hfu
    obtain ⟨fu, rfl⟩ : ∃ k', fu = k' + 1 := ⟨fu - 1, by omega⟩
    obtain ⟨iV', x1, x2⟩ := tkM_at (iY := iY) (iF := iF) (iV := iV) hB hL (s := e) (by omega) (.inl (by omega))
    refine ⟨iV', ?_, x2⟩
    show f_X6_token_L0 g (iI L) iY iF iV (gL1 (f_X6_token_L0 g (iI L) iY iF iV) fu) _ = _
    unfold f_X6_token_L0
    rw [if_pos (by rw [iI_le (by omega) (by omega) (by omega) (by omega)]; omega)]
    exact x1
  | succ d ih =>
    intro e fu e1 hfu
    obtain ⟨fu, rfl⟩ : ∃ k', fu = k' + 1 := ⟨fu - 1, by omega⟩
    obtain ⟨b1, b2, -⟩ := hB e (by omega)
    show ∃ iV', f_X6_token_L0 g (iI L) iY iF iV (gL1 (f_X6_token_L0 g (iI L) iY iF iV) fu) _ = _ ∧ _
    by_cases q : B e = 32 ∨ B e = 10
    · obtain ⟨iV', x1, x2⟩ := ih (e + 1) fu (by omega) (by omega)
      have et : tkZ B L e = tkZ B L (e + 1) := by
        have : skZ B (L - e) e = skZ B (L - (e + 1)) (e + 1) := by
          rw [show L - e = (L - (e + 1)) + 1 by omega]
          simp only [skZ]; rw [if_pos q]
        unfold tkZ
        rw [this]
      rw [et]
      refine ⟨iV', ?_, x2⟩
      generalize gL1 (f_X6_token_L0 g (iI L) iY iF iV) fu = r at x1 ⊢
      unfold f_X6_token_L0
      rw [Int.natCast_add, Int.natCast_one] at x1
      rw [if_neg (by rw [iI_le (by omega) (by omega) (by omega) (by omega)]; omega), ra_at (j := e) rfl (by omega) (by decide) b2, gB_s]
      by_cases q2 : B e = 32
      · rw [if_pos (by rw [q2]; rfl), iI_1, iI_add]; exact x1
      · rw [if_neg (by rw [iI_32, iI_eq (by omega) (by omega) (by omega) (by omega)]; exact q2), gB_s, if_pos (by rw [q.resolve_left q2]; rfl), iI_1, iI_add]; exact x1
    · obtain ⟨iV', x1, x2⟩ := tkM_at (iY := iY) (iF := iF) (iV := iV) hB hL (s := e) (by omega) (.inr q)
      refine ⟨iV', ?_, x2⟩
      unfold f_X6_token_L0
      rw [if_neg (by rw [iI_le (by omega) (by omega) (by omega) (by omega)]; omega), ra_at (j := e) rfl (by omega) (by decide) b2, gB_s, if_neg (by rw [iI_32, iI_eq (by omega) (by omega) (by omega) (by omega)]; exact fun w => q (.inl w)), gB_s, if_neg (by rw [iI_10, iI_eq (by omega) (by omega) (by omega) (by omega)]; exact fun w => q (.inr w))]
      exact x1
/-- the reference's token -/
theorem mTk (hB : byR f g B L) (hL : L ≤ 600) {e : Nat} (he : e ≤ L) {iF iV : Int32} : ∃ iV', f_X6_token g (iI L) (iI e) iY iF iV = some (iI (tkZ B L e).e, iI (kM B (tkZ B L e)), iI (tkZ B L e).s, iV') ∧ ((tkZ B L e).k = 2 → iV' = iI (tkZ B L e).v) :=
  mTok hB hL (L - e) e gN (by omega) (by unfold gN; omega)
end TM
