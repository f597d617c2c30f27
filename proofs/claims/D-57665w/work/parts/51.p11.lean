/-! CHANGES, 4: the moving knife -/
theorem frst_spec {p : Nat → Bool} : ∀ (f e u : Nat), e ≤ u → u < e + f → p u = true → p (frst p f e) = true ∧ frst p f e ≤ u ∧ ∀ j, e ≤ j → j < frst p f e → p j = false := by
  intro f
  induction f with
  | zero => intro e u h1 h2; omega
  | succ f ih =>
    intro e u h1 h2 hu
    simp only [frst]
    by_cases q : p e = true
    · rw [if_pos q]; exact ⟨q, h1, fun j h3 h4 => by omega⟩
    · rw [if_neg q]
      have hne : e ≠ u := fun z => q (by rw [z]; exact hu)
      obtain ⟨w1, w2, w3⟩ := ih (e + 1) u (by omega) (by omega) hu
      refine ⟨w1, w2, fun j h3 h4 => ?_⟩
      by_cases z : j = e
      · rw [z]; cases hq : p e
        · rfl
        · exact absurd hq q
      · exact w3 j (by omega) h4
def SvAt (h : gH) (st : Nat) (sv : Nat → Bool) (n : Nat) : Prop := ∃ g : Nat → Int32, h (st + 3) = some (.inl (2, 6, .inl g)) ∧ ∀ k, k < n → g k = if sv k = true then 1 else 0
def SvM (a : Nat → Int32) (sv : Nat → Bool) (n : Nat) : Prop := ∀ k, k < n → a k = if sv k = true then 1 else 0
def unN (sv : Nat → Bool) : Nat → Nat
  | 0 => 0
  | k + 1 => unN sv k + (if sv k = true then 0 else 1)
theorem unN_ex {sv : Nat → Bool} : ∀ {n : Nat}, 1 ≤ unN sv n → ∃ u, u < n ∧ sv u = false := by
  intro n
  induction n with
  | zero => intro h; simp [unN] at h
  | succ n ih =>
    intro h
    simp only [unN] at h
    by_cases q : sv n = true
    · rw [if_pos q] at h
      obtain ⟨u, h1, h2⟩ := ih (by omega)
      exact ⟨u, by omega, h2⟩
    · exact ⟨n, by omega, by cases hq : sv n; rfl; exact absurd hq q⟩
theorem unN_set {sv : Nat → Bool} {b : Nat} (hb : sv b = false) : ∀ n, (n ≤ b → unN (fun k => if k = b then true else sv k) n = unN sv n) ∧ (b < n → unN (fun k => if k = b then true else sv k) n + 1 = unN sv n) := by
  intro n
  induction n with
  | zero => exact ⟨fun _ => rfl, fun h => absurd h (Nat.not_lt_zero b)⟩
  | succ n ih =>
    simp only [unN]
    refine ⟨fun h => ?_, fun h => ?_⟩
    · have e : ¬ n = b := by omega
      rw [ih.1 (by omega)]
      simp [e]
    · by_cases e : n = b
      · rw [ih.1 (by omega)]
        subst e
        simp [hb]
      · have h2 := ih.2 (by omega)
        simp only [e, if_false]
        omega
def fuZ (sv : Nat → Bool) (n : Nat) : Nat := frst (fun k => !sv k) n 0
theorem fuZ_spec {sv : Nat → Bool} {n : Nat} (h : 1 ≤ unN sv n) : sv (fuZ sv n) = false ∧ fuZ sv n < n ∧ ∀ j, j < fuZ sv n → sv j = true := by
  obtain ⟨u, h1, h2⟩ := unN_ex h
  obtain ⟨w1, w2, w3⟩ := frst_spec (p := fun k => !sv k) n 0 u (by omega) (by omega) (by simp [h2])
  unfold fuZ
  refine ⟨by simpa using w1, Nat.lt_of_le_of_lt w2 h1, fun j hj => ?_⟩
  have := w3 j (by omega) hj
  simpa using this
def mkQ (S : gS) (l q k : Nat) : Nat := if q = 1 then S.c - 1 else mkZ S k l q
theorem mkQ_b {S : gS} {l q k : Nat} (hl : l < S.c) : l ≤ mkQ S l q k ∧ mkQ S l q k < S.c := by
  have := mkZ_b (S := S) (s := k) (c0 := l) (parts := q) hl
  unfold mkQ
  split <;> omega
def slZ (S : gS) (sv : Nat → Bool) (l q : Nat) : Nat → Int × Nat
  | 0 => (-1, S.c - 1)
  | k + 1 => if sv k = true then slZ S sv l q k else if (slZ S sv l q k).1 = -1 ∨ mkQ S l q k < (slZ S sv l q k).2 then ((k : Int), mkQ S l q k) else slZ S sv l q k
theorem slZ_b {S : gS} {sv : Nat → Bool} {l q : Nat} (hl : l < S.c) : ∀ k, (-1 ≤ (slZ S sv l q k).1 ∧ (slZ S sv l q k).1 < k) ∧ (l ≤ (slZ S sv l q k).2 ∧ (slZ S sv l q k).2 < S.c) ∧ ((slZ S sv l q k).1 ≠ -1 → sv (slZ S sv l q k).1.toNat = false) := by
  intro k
  induction k with
  | zero => simp only [slZ]; exact ⟨by omega, by omega, fun h => absurd rfl h⟩
  | succ k ih =>
    have h1 := mkQ_b (S := S) (q := q) (k := k) hl
    simp only [slZ]
    by_cases w : sv k = true
    · rw [if_pos w]; exact ⟨by omega, ih.2.1, ih.2.2⟩
    · rw [if_neg w]
      split
      · refine ⟨by omega, h1, fun _ => ?_⟩
        rw [Int.toNat_natCast]
        cases hq : sv k
        · rfl
        · exact absurd hq w
      · exact ⟨by omega, ih.2.1, ih.2.2⟩
theorem slZ_some {S : gS} {sv : Nat → Bool} {l q : Nat} : ∀ k u, u < k → sv u = false → (slZ S sv l q k).1 ≠ -1 := by
  intro k
  induction k with
  | zero => intro u hu; omega
  | succ k ih =>
    intro u hu hs
    simp only [slZ]
    by_cases w : sv k = true
    · rw [if_pos w]
      have : u ≠ k := fun z => by rw [z, w] at hs; cases hs
      exact ih u (by omega) hs
    · rw [if_neg w]
      split
      · show (k : Int) ≠ -1; omega
      · next h => intro z; exact h (Or.inl z)
theorem slZ_none {S : gS} {sv : Nat → Bool} {l q : Nat} : ∀ k, (∀ j, j < k → sv j = true) → slZ S sv l q k = (-1, S.c - 1) := by
  intro k
  induction k with
  | zero => intro _; rfl
  | succ k ih =>
    intro h
    simp only [slZ]
    rw [if_pos (h k (by omega))]
    exact ih fun j hj => h j (by omega)
theorem slZ_fu {S : gS} {sv : Nat → Bool} {l q n : Nat} (h : 1 ≤ unN sv n) : slZ S sv l q (fuZ sv n + 1) = ((fuZ sv n : Int), mkQ S l q (fuZ sv n)) := by
  obtain ⟨h1, h2, h3⟩ := fuZ_spec h
  simp only [slZ]
  rw [slZ_none _ h3, if_neg (by rw [h1]; decide), if_pos (Or.inl rfl)]
theorem slZ_one {S : gS} {sv : Nat → Bool} {l n : Nat} (h : unN sv n = 1) : slZ S sv l 1 n = ((fuZ sv n : Int), S.c - 1) := by
  obtain ⟨h1, h2, h3⟩ := fuZ_spec (Nat.le_of_eq h.symm)
  have h5 : ∀ k, fuZ sv n < k → k ≤ n → unN sv k = 1 ∧ slZ S sv l 1 k = ((fuZ sv n : Int), S.c - 1) := by
    have h6 : ∀ k, k ≤ fuZ sv n → unN sv k = 0 := by
      intro k
      induction k with
      | zero => intro _; rfl
      | succ k ih => intro hk; simp only [unN]; rw [ih (by omega), if_pos (h3 k (by omega))]
    have h7 : ∀ a b, a ≤ b → unN sv a ≤ unN sv b := by
      intro a b
      induction b with
      | zero => intro hab; rw [show a = 0 by omega]; exact Nat.le_refl _
      | succ b ih =>
        intro hab
        by_cases z : a = b + 1
        · rw [z]; exact Nat.le_refl _
        · have := ih (by omega); simp only [unN]; omega
    intro k
    induction k with
    | zero => intro hk; omega
    | succ k ih =>
      intro hk1 hk2
      by_cases z : k = fuZ sv n
      · refine ⟨?_, ?_⟩
        · simp only [unN]; rw [z, h6 _ (Nat.le_refl _), if_neg (by rw [h1]; decide)]
        · rw [z, slZ_fu (Nat.le_of_eq h.symm)]; rfl
      · obtain ⟨w1, w2⟩ := ih (by omega) (by omega)
        have w3 : sv k = true := by
          cases hq : sv k
          · have w4 := h7 (k + 1) n hk2
            simp only [unN] at w4
            rw [w1, if_neg (by rw [hq]; decide)] at w4
            omega
          · rfl
        refine ⟨by simp only [unN]; rw [w1, if_pos w3], ?_⟩
        simp only [slZ]
        rw [if_pos w3]
        exact w2
  exact (h5 n h2 (Nat.le_refl _)).2
def svS (sv : Nat → Bool) (b : Nat) : Nat → Bool := fun k => if k = b then true else sv k
def knZ : Nat → gS → (Nat → Bool) → Nat → Nat → gS
  | 0, S, _, _, _ => S
  | f + 1, S, sv, l, q => if q = 0 ∨ S.c ≤ l then S else knZ f (owG S (slZ S sv l q S.n).1 l ((slZ S sv l q S.n).2 + 1)) (svS sv (slZ S sv l q S.n).1.toNat) ((slZ S sv l q S.n).2 + 1) (q - 1)
theorem owG_e (S : gS) (o : Int) (a : Nat) : owG S o a a = S := by
  show (S.c, S.n, (fun k => if a ≤ k ∧ k < a then o else S.ow k), S.v, S.nm) = S
  have : (fun k => if a ≤ k ∧ k < a then o else S.ow k) = S.ow := by
    funext k
    rw [if_neg (by omega)]
  rw [this]
theorem knZ_0 (f : Nat) (S : gS) (sv : Nat → Bool) (l : Nat) : knZ f S sv l 0 = S := by
  cases f with
  | zero => rfl
  | succ f =>
    show (if (0 : Nat) = 0 ∨ S.c ≤ l then S else _) = S
    exact if_pos (Or.inl rfl)
theorem knZ_ow : ∀ (f : Nat) (S : gS) (sv : Nat → Bool) (l q : Nat), ∃ g, knZ f S sv l q = setOw S g := by
  intro f
  induction f with
  | zero => intro S sv l q; exact ⟨S.ow, rfl⟩
  | succ f ih =>
    intro S sv l q
    simp only [knZ]
    split
    · exact ⟨S.ow, rfl⟩
    · obtain ⟨g, hg⟩ := ih (owG S (slZ S sv l q S.n).1 l ((slZ S sv l q S.n).2 + 1)) (svS sv (slZ S sv l q S.n).1.toNat) ((slZ S sv l q S.n).2 + 1) (q - 1)
      exact ⟨g, hg⟩
theorem knZ_wf : ∀ (f : Nat) (S : gS) (sv : Nat → Bool) (l q : Nat), WF S → WF (knZ f S sv l q) := by
  intro f
  induction f with
  | zero => intro S sv l q hw; exact hw
  | succ f ih =>
    intro S sv l q hw
    simp only [knZ]
    split
    · exact hw
    · next hc =>
      have h1 := slZ_b (S := S) (sv := sv) (l := l) (q := q) (by omega) S.n
      exact ih _ _ _ _ (WF_owG hw ⟨h1.1.1, h1.1.2⟩)
section CH11
theorem cFu {h : gH} {st : Nat} {S : gS} {sa : Nat → Nat} {sv : Nat → Bool} (hS : StAt h st S sa) (hw : WF S) (hv : SvAt h st sv S.n) (hu : 1 ≤ unN sv S.n) : f_X2_firstUnserved st h = some (iI (fuZ sv S.n : Nat)) := by
  obtain ⟨h1, h2, h3⟩ := fuZ_spec hu
  obtain ⟨g, g1, g2⟩ := hv
  have hn := hw.2.1
  have lp : ∀ d i k : Nat, i + d = fuZ sv S.n → d < k → gL1 (f_X2_firstUnserved_L2 st h) k (iI i) = some (iI (fuZ sv S.n : Nat)) := by
    intro d
    induction d with
    | zero =>
      intro i k e hk
      obtain ⟨k, rfl⟩ : ∃ k', k = k' + 1 := ⟨k - 1, by omega⟩
      show f_X2_firstUnserved_L2 st h (gL1 (f_X2_firstUnserved_L2 st h) k) _ = _
      unfold f_X2_firstUnserved_L2
      have e1 : i = fuZ sv S.n := by omega
      rw [a_sv hS, gB_s, aI_at g1 rfl (by omega) (by omega) (g2 i (by omega)), gB_s, e1, show (if sv (fuZ sv S.n) = true then (1 : Int32) else 0) = 0 from by rw [h1]; rfl, if_pos rfl]
    | succ d ih =>
      intro i k e hk
      obtain ⟨k, rfl⟩ : ∃ k', k = k' + 1 := ⟨k - 1, by omega⟩
      show f_X2_firstUnserved_L2 st h (gL1 (f_X2_firstUnserved_L2 st h) k) _ = _
      have ih := ih (i + 1) k (by omega) (by omega)
      generalize gL1 (f_X2_firstUnserved_L2 st h) k = r at ih ⊢
      unfold f_X2_firstUnserved_L2
      rw [Int.natCast_add, Int.natCast_one] at ih
      rw [a_sv hS, gB_s, aI_at g1 rfl (by omega) (by omega) (g2 i (by omega)), gB_s, if_pos (h3 i (by omega)), if_neg (by decide), iI_1, iI_add]
      exact ih
  exact lp (fuZ sv S.n) 0 gN (by omega) (by unfold gN; omega)
theorem knC_in {h : gH} {st : Nat} {S : gS} {sa : Nat → Nat} {sv : Nat → Bool} {l q : Nat} (hS : StAt h st S sa) (hw : WF S) (hv : SvAt h st sv S.n) (hl : l < S.c) (hq : 2 ≤ q ∧ q ≤ 6) {r : Int32 → Int32 → gH → Option (Int32 × gH)} : ∀ d i k : Nat, i + d = S.n → d < k → (slZ S sv l q i).1 ≠ -1 → gL3 (f_X2_movingKnife_L76 r st (iI l) (iI q) h) k (iI (slZ S sv l q i).1) (iI ((slZ S sv l q i).2 : Nat)) (iI i) = f_X2_movingKnife_J144 r st (iI l) (iI q) (iI (slZ S sv l q S.n).1) (iI ((slZ S sv l q S.n).2 : Nat)) h := by
  obtain ⟨fs, h1⟩ := a_obj hS
  obtain ⟨g, g1, g2⟩ := hv
  have hn := hw.2.1
  have hc := hw.1
  intro d
  induction d with
  | zero =>
    intro i k e hk hne
    obtain ⟨k, rfl⟩ : ∃ k', k = k' + 1 := ⟨k - 1, by omega⟩
    show f_X2_movingKnife_L76 r st (iI l) (iI q) h (gL3 (f_X2_movingKnife_L76 r st (iI l) (iI q) h) k) _ _ _ = _
    unfold f_X2_movingKnife_L76
    have e1 : i = S.n := by omega
    subst e1
    rw [h1, gB_s, a_size hS, gB_s, if_pos (by rw [iI_le (by omega) (by omega) (by omega) (by omega)]; omega)]
  | succ d ih =>
    intro i k e hk hne
    obtain ⟨k, rfl⟩ : ∃ k', k = k' + 1 := ⟨k - 1, by omega⟩
    show f_X2_movingKnife_L76 r st (iI l) (iI q) h (gL3 (f_X2_movingKnife_L76 r st (iI l) (iI q) h) k) _ _ _ = _
    have hi : i < S.n := by omega
    have b1 := slZ_b (S := S) (sv := sv) (l := l) (q := q) hl i
    have b2 := mkQ_b (S := S) (l := l) (q := q) (k := i) hl
    have ih := ih (i + 1) k (by omega) (by omega) (by
      simp only [slZ]
      split
      · exact hne
      · split
        · show (i : Int) ≠ -1; omega
        · exact hne)
    generalize gL3 (f_X2_movingKnife_L76 r st (iI l) (iI q) h) k = r76 at ih ⊢
    unfold f_X2_movingKnife_L76 f_X2_movingKnife_J113
    rw [Int.natCast_add, Int.natCast_one] at ih
    obtain ⟨fs2, h2⟩ := a_sobj hS hi
    have em : mkQ S l q i = mkZ S i l q := by unfold mkQ; rw [if_neg (by omega)]
    rw [h1, gB_s, a_size hS, gB_s, if_neg (by rw [iI_le (by omega) (by omega) (by omega) (by omega)]; omega), a_sv hS, gB_s, aI_at g1 rfl (by omega) (by omega) (g2 i hi), gB_s, ← ih]
    simp only [slZ]
    by_cases w : sv i = true
    · rw [if_pos w, if_neg (by decide), a_cells hS, gB_s, if_pos (by rw [iI_le (by omega) (by omega) (by omega) (by omega)]; omega), if_neg (by rw [iI_lt (by omega) (by omega) (by omega) (by omega)]; omega), if_pos w, iI_1, iI_add]
    · rw [if_neg w, if_pos rfl, a_sib hS hi hn.2, gB_s, h2, gB_s, cMk hS hw hi hl (by omega), gB_s, if_neg w, iI_1, iI_add, ← em]
      by_cases w2 : mkQ S l q i < (slZ S sv l q i).2
      · rw [if_neg (by rw [iI_le (by omega) (by omega) (by omega) (by omega)]; omega), if_pos (by rw [iI_lt (by omega) (by omega) (by omega) (by omega)]; omega), if_pos (Or.inr w2)]
      · rw [if_pos (by rw [iI_le (by omega) (by omega) (by omega) (by omega)]; omega), if_neg (by rw [iI_lt (by omega) (by omega) (by omega) (by omega)]; omega), if_neg (by intro z; rcases z with z | z; exact hne z; exact w2 z)]
theorem knC_loop {st : Nat} {sa : Nat → Nat} : ∀ (f : Nat) (S : gS) (sv : Nat → Bool) (l q : Nat) (h : gH) (k : Nat), WF S → StAt h st S sa → SvAt h st sv S.n → unN sv S.n = q → 1 ≤ q → q ≤ 6 → q ≤ f → f < k → l ≤ S.c → ∃ h', gL3 (f_X2_movingKnife_L41 st) k (iI l) (iI q) h = some (iI (sumZ (satZ (knZ f S sv l q)) S.n), h') ∧ StAt h' st (knZ f S sv l q) sa ∧ FrO h h' st := by
  intro f
  induction f with
  | zero => intro S sv l q h k _ _ _ _ h1 _ h2; omega
  | succ f ih =>
    intro S sv l q h k hw hS hv hu hq1 hq6 hf hk hlc
    obtain ⟨k, rfl⟩ : ∃ k', k = k' + 1 := ⟨k - 1, by omega⟩
    have hc := hw.1
    have hn := hw.2.1
    obtain ⟨fs, h1⟩ := a_obj hS
    obtain ⟨fu1, fu2, fu3⟩ := fuZ_spec (sv := sv) (n := S.n) (by omega)
    have ih := fun S2 sv2 l2 q2 h2 => ih S2 sv2 l2 q2 h2 k
    have unf : ∀ (a b : Int32) (hh : gH), gL3 (f_X2_movingKnife_L41 st) (k + 1) a b hh = f_X2_movingKnife_L41 st (gL3 (f_X2_movingKnife_L41 st) k) a b hh := fun _ _ _ => rfl
    rw [unf]
    generalize gL3 (f_X2_movingKnife_L41 st) k = r at ih ⊢
    simp only [knZ]
    by_cases w1 : q = 1
    · subst w1
      have key : ∃ h', f_X2_movingKnife_J170 st (iI l) (iI 1) h = some (iI (sumZ (satZ (owG S (fuZ sv S.n) l S.c)) S.n), h') ∧ StAt h' st (owG S (fuZ sv S.n) l S.c) sa ∧ FrO h h' st := by
        obtain ⟨h', e1, u1⟩ := cGive' hS hw (o := fuZ sv S.n) (a := l) (e := S.c) hlc (Nat.le_refl _)
        have hS1 : StAt h' st (owG S (fuZ sv S.n) l S.c) sa := OwUp.st (g := (owG S (fuZ sv S.n) l S.c).ow) hS u1
        have hw1 := WF_owG (o := (fuZ sv S.n : Int)) (a := l) (e := S.c) hw (by omega)
        obtain ⟨fs1, o1⟩ := a_obj hS1
        refine ⟨h', ?_, hS1, u1.fr⟩
        have e1' : f_X2_give st (iI (fuZ sv S.n : Nat)) (iI l) (iI (S.c : Int) - (1 : Int32)) h = some h' := by rw [iI_1, iI_sub]; exact e1
        unfold f_X2_movingKnife_J170
        rw [if_pos (show iI 1 = (1 : Int32) from rfl), h1, gB_s, cFu hS hw hv (by omega), gB_s, a_cells hS, gB_s, e1', gB_s, o1, gB_s, cSatN hS1 hw1, gB_s]
        rfl
      obtain ⟨h', e1, u1, u2⟩ := key
      have e9 : f_X2_movingKnife_L41 st r (iI l) (iI (1 : Nat)) h = f_X2_movingKnife_J170 st (iI l) (iI 1) h := by
        unfold f_X2_movingKnife_L41
        exact if_pos (by decide)
      rw [e9]
      by_cases w2 : S.c ≤ l
      · rw [if_pos (Or.inr w2)]
        rw [show l = S.c by omega, owG_e] at u1 e1
        exact ⟨h', by rw [show l = S.c by omega]; exact e1, u1, u2⟩
      · rw [if_neg (by omega), slZ_one hu]
        refine ⟨h', ?_, ?_, u2⟩
        · show _ = some (iI (sumZ (satZ (knZ f (owG S (fuZ sv S.n) l (S.c - 1 + 1)) _ _ 0)) S.n), h')
          rw [show S.c - 1 + 1 = S.c by omega, knZ_0]
          exact e1
        · show StAt h' st (knZ f (owG S (fuZ sv S.n) l (S.c - 1 + 1)) _ _ 0) sa
          rw [show S.c - 1 + 1 = S.c by omega, knZ_0]
          exact u1
    · have e0 : ¬ iI (q : Int) ≤ (1 : Int32) := by rw [iI_1, iI_le (by omega) (by omega) (by omega) (by omega)]; omega
      unfold f_X2_movingKnife_L41
      rw [if_neg e0, h1, gB_s, a_cells hS, gB_s]
      by_cases w2 : S.c ≤ l
      · rw [if_pos (by rw [iI_le (by omega) (by omega) (by omega) (by omega)]; omega), if_pos (Or.inr w2)]
        refine ⟨h, ?_, hS, FrO.rf⟩
        unfold f_X2_movingKnife_J170
        rw [if_neg (by rw [iI_1, iI_eq (by omega) (by omega) (by omega) (by omega)]; omega), h1, gB_s, cSatN hS hw, gB_s]
      · rw [if_neg (by rw [iI_le (by omega) (by omega) (by omega) (by omega)]; omega), if_neg (by omega)]
        obtain ⟨fs2, h2⟩ := a_sobj hS fu2
        have hl : l < S.c := by omega
        have b1 := slZ_b (S := S) (sv := sv) (l := l) (q := q) hl S.n
        have sne := slZ_some (S := S) (l := l) (q := q) S.n _ fu2 fu1
        have ein := knC_in (q := q) hS hw hv hl (by omega) (r := r) (S.n - (fuZ sv S.n + 1)) (fuZ sv S.n + 1) gN (by omega) (by unfold gN; omega) (by rw [slZ_fu (show 1 ≤ unN sv S.n by omega)]; show (fuZ sv S.n : Int) ≠ -1; omega)
        rw [slZ_fu (show 1 ≤ unN sv S.n by omega)] at ein
        have em : mkQ S l q (fuZ sv S.n) = mkZ S (fuZ sv S.n) l q := by unfold mkQ; rw [if_neg (by omega)]
        rw [Int.natCast_add, Int.natCast_one, em] at ein
        rw [cFu hS hw hv (by omega), gB_s, a_sib hS fu2 hn.2, gB_s, h2, gB_s, cMk hS hw fu2 hl (by omega), gB_s, iI_1, iI_add, ein]
        obtain ⟨b, hb⟩ : ∃ b : Nat, (slZ S sv l q S.n).1 = (b : Int) := ⟨(slZ S sv l q S.n).1.toNat, by omega⟩
        generalize hmk : (slZ S sv l q S.n).2 = mk at b1 ⊢
        have hsb := b1.2.2 sne
        rw [hb] at hsb b1 ⊢
        rw [Int.toNat_natCast] at hsb ⊢
        obtain ⟨h3, e3, u3⟩ := cGive' hS hw (o := b) (a := l) (e := mk + 1) (by omega) (by omega)
        have hS3 : StAt h3 st (owG S b l (mk + 1)) sa := OwUp.st (g := (owG S b l (mk + 1)).ow) hS u3
        have hw3 := WF_owG (o := (b : Int)) (a := l) (e := mk + 1) hw (by omega)
        obtain ⟨g, g1, g2⟩ := hv
        have g3 : h3 (st + 3) = some (.inl (2, 6, .inl g)) := by rw [u3.ne (by omega)]; exact g1
        have hS4 := StAt_sv' (f := upd g b 1) hS3 hS3
        have hv4 : SvAt (g_up h3 (st + 3) (.inl (2, 6, .inl (upd g b 1)))) st (svS sv b) (owG S b l (mk + 1)).n := by
          refine ⟨_, g_up_s, fun j hj => ?_⟩
          show upd g b 1 j = if (if j = b then true else sv j) = true then 1 else 0
          by_cases z : j = b
          · simp [upd, z]
          · rw [if_neg z, ← g2 j hj]; simp [upd, z]
        have hu4 : unN (svS sv b) (owG S b l (mk + 1)).n = q - 1 := by
          have := (unN_set hsb S.n).2 (by omega)
          show unN (fun k => if k = b then true else sv k) S.n = q - 1
          omega
        obtain ⟨h5, e5, u5, u6⟩ := ih (owG S b l (mk + 1)) (svS sv b) (mk + 1) (q - 1) _ hw3 hS4 hv4 hu4 (by omega) (by omega) (by omega) (by omega) (by show mk + 1 ≤ S.c; omega)
        refine ⟨h5, ?_, u5, fun p q1 q2 => ?_⟩
        · unfold f_X2_movingKnife_J144
          have e3' : f_X2_give st (iI (b : Int)) (iI l) (iI (mk : Int)) h = some h3 := by rw [← e3]; congr 2; omega
          have hnar : vp_nar .boolean (1 : Int32) = 1 := by decide
          rw [h1, gB_s, e3', gB_s, a_sv hS3, gB_s, hnar, sI_at g3 rfl (by omega) (by omega), gB_s, iI_n1, iI_1, iI_add, iI_add]
          have e6 : (mk : Int) + 1 = ((mk + 1 : Nat) : Int) := by omega
          have e7 : (q : Int) + -1 = ((q - 1 : Nat) : Int) := by omega
          rw [e6, e7]
          exact e5
        · rw [u6 p q1 q2, g_up_n q1, u3.ne q2]
end CH11
