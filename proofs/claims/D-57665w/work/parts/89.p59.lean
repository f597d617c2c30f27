/-! SCRIPTS: what they say; the reference's parser -/
abbrev gCm : Type := Nat × Int × Int × Int
def pSb (B : Nat → Int) (L : Nat) (S : gS) (t : gTk) : gEr (Int × gTk) :=
  if t.k = 1 then (if t.e - t.s ≤ 6 then (if snZ S (t.e - t.s) (fun j => B (t.s + j)) S.n 0 = -1 then .inl (3, t.s) else .inr (snZ S (t.e - t.s) (fun j => B (t.s + j)) S.n 0, tkZ B L t.e)) else .inl (3, t.s)) else .inl (1, t.s)
def pNu (B : Nat → Int) (L : Nat) (t : gTk) : gEr (Int × gTk) := if t.k = 2 then .inr (t.v, tkZ B L t.e) else .inl (1, t.s)
def pA1 (B : Nat → Int) (L : Nat) (S : gS) (k : Nat) (t : gTk) : gEr (Int × gTk) := if k = 1 then .inr (0, t) else if k = 5 then .inr (0, t) else pSb B L S t
def pA2 (B : Nat → Int) (L : Nat) (S : gS) (k : Nat) (t : gTk) : gEr ((Int × Int) × gTk) :=
  if k = 2 then bE (pSb B L S t) fun r => .inr ((r.1, 0), r.2) else if k = 4 then bE (pSb B L S t) fun r => .inr ((r.1, 0), r.2) else
  if 3 < k then .inr ((0, 0), t) else bE (pNu B L t) fun r => bE (pNu B L r.2) fun s => .inr ((r.1, s.1), s.2)
def pArg (B : Nat → Int) (L : Nat) (S : gS) (k : Nat) (t : gTk) : gEr (gCm × gTk) := bE (pA1 B L S k t) fun r => bE (pA2 B L S k r.2) fun s => .inr ((k, r.1, s.1.1, s.1.2), s.2)
def cmZ (B : Nat → Int) (t : gTk) : Nat → Nat → Int
  | 0, _ => -1
  | d + 1, j => if wdIs B t (3 + j) = true then j else cmZ B t d (j + 1)
def pScr (B : Nat → Int) (L : Nat) (S : gS) : Nat → Nat → gTk → (Nat → gCm) → gEr (Nat × (Nat → gCm))
  | 0, _, t, _ => .inl (1, t.s)
  | d + 1, i, t, P => if t.k = 0 then .inr (i, P) else if cmZ B t 8 0 = -1 then .inl (1, t.s) else if i = 30 then .inl (4, t.s) else
    bE (pArg B L S (cmZ B t 8 0).toNat (tkZ B L t.e)) fun r => bE (pSem B L r.2) fun t4 => pScr B L S d (i + 1) t4 (fun j => if j = i then r.1 else P j)
def cmA (f : Nat → Int32) (j : Nat) (c : gCm) : Prop := (c.1 ≠ 1 → c.1 ≠ 5 → f (j + 1) = iI c.2.1) ∧ (c.1 ≤ 4 → f (j + 2) = iI c.2.2.1) ∧ (c.1 ≤ 3 → c.1 ≠ 2 → f (j + 3) = iI c.2.2.2)
def cmR (f : Nat → Int32) (j : Nat) (c : gCm) : Prop := f j = iI c.1 ∧ cmA f j c
def cmV (S : gS) (c : gCm) : Prop := c.1 ≤ 7 ∧ (c.1 ≠ 1 → c.1 ≠ 5 → 0 ≤ c.2.1 ∧ c.2.1 < S.n) ∧ ((c.1 = 2 ∨ c.1 = 4) → 0 ≤ c.2.2.1 ∧ c.2.2.1 < S.n) ∧ (0 ≤ c.2.2.1 ∧ c.2.2.1 ≤ 99) ∧ (0 ≤ c.2.2.2 ∧ c.2.2.2 ≤ 99)
theorem cmZ_b {B : Nat → Int} {t : gTk} : ∀ d j, cmZ B t d j = -1 ∨ ((j : Int) ≤ cmZ B t d j ∧ cmZ B t d j < (j : Int) + d) := by
  intro d
  induction d with
  | zero => intro j; exact .inl rfl
  | succ d ih =>
    intro j
    simp only [cmZ]
    by_cases q : wdIs B t (3 + j) = true
    · rw [if_pos q]; exact .inr ⟨Int.le_refl _, by omega⟩
    · rw [if_neg q]
      rcases ih (j + 1) with y | y
      · exact .inl y
      · exact .inr (by omega)
theorem pSb_ok {B : Nat → Int} {L : Nat} {S : gS} {t t' : gTk} {v : Int} (h : pSb B L S t = .inr (v, t')) : 0 ≤ v ∧ v < S.n ∧ t' = tkZ B L t.e := by
  unfold pSb at h
  by_cases k1 : t.k = 1
  · rw [if_pos k1] at h
    by_cases l6 : t.e - t.s ≤ 6
    · rw [if_pos l6] at h
      have sb := snZ_b (S := S) (wl := t.e - t.s) (W := fun j => B (t.s + j)) S.n 0
      by_cases qn : snZ S (t.e - t.s) (fun j => B (t.s + j)) S.n 0 = -1
      · rw [if_pos qn] at h; cases h
      · rw [if_neg qn] at h; cases h; exact ⟨by omega, by omega, rfl⟩
    · rw [if_neg l6] at h; cases h
  · rw [if_neg k1] at h; cases h
theorem pNu_ok {B : Nat → Int} {L : Nat} {t t' : gTk} {v : Int} (h : pNu B L t = .inr (v, t')) (ht : tkG B L t) : 0 ≤ v ∧ v ≤ 99 ∧ t' = tkZ B L t.e := by
  have := ht.2.2.2.1
  unfold pNu at h
  by_cases k2 : t.k = 2
  · rw [if_pos k2] at h; cases h; exact ⟨by omega, by omega, rfl⟩
  · rw [if_neg k2] at h; cases h
theorem pSem_ok {B : Nat → Int} {L : Nat} {t t' : gTk} (h : pSem B L t = .inr t') : t' = tkZ B L t.e := by
  unfold pSem at h
  split at h
  · cases h; rfl
  · cases h
theorem pArg_ok {B : Nat → Int} {L : Nat} {S : gS} {k : Nat} {t t' : gTk} {c : gCm} (h : pArg B L S k t = .inr (c, t')) (ht : tkG B L t) (hk : k ≤ 7) (hn : S.n ≤ 6) : cmV S c ∧ tkG B L t' ∧ c.1 = k := by
  unfold pArg at h
  cases h1 : pA1 B L S k t with
  | inl e => rw [h1] at h; cases h
  | inr r =>
    obtain ⟨a, t1⟩ := r
    have hA : (k ≠ 1 → k ≠ 5 → 0 ≤ a ∧ a < S.n) ∧ tkG B L t1 := by
      unfold pA1 at h1
      by_cases z1 : k = 1
      · rw [if_pos z1] at h1; cases h1; exact ⟨fun y => absurd z1 y, ht⟩
      · rw [if_neg z1] at h1
        by_cases z5 : k = 5
        · rw [if_pos z5] at h1; cases h1; exact ⟨fun _ y => absurd z5 y, ht⟩
        · rw [if_neg z5] at h1
          obtain ⟨y1, y2, y3⟩ := pSb_ok h1
          exact ⟨fun _ _ => ⟨y1, y2⟩, by rw [y3]; exact tkG_z ht.2.1⟩
    rw [h1] at h
    have h : bE (pA2 B L S k t1) _ = _ := h
    cases h2 : pA2 B L S k t1 with
    | inl e => rw [h2] at h; cases h
    | inr s =>
      obtain ⟨⟨b, c'⟩, t2⟩ := s
      rw [h2] at h
      cases h
      have hB : ((k = 2 ∨ k = 4) → 0 ≤ b ∧ b < S.n) ∧ (0 ≤ b ∧ b ≤ 99) ∧ (0 ≤ c' ∧ c' ≤ 99) ∧ tkG B L t2 := by
        have sib : bE (pSb B L S t1) (fun r => .inr ((r.1, 0), r.2)) = (.inr ((b, c'), t2) : gEr ((Int × Int) × gTk)) → ((k = 2 ∨ k = 4) → 0 ≤ b ∧ b < S.n) ∧ (0 ≤ b ∧ b ≤ 99) ∧ (0 ≤ c' ∧ c' ≤ 99) ∧ tkG B L t2 := fun y => by
          cases h3 : pSb B L S t1 with
          | inl e => rw [h3] at y; cases y
          | inr r =>
            rw [h3] at y
            cases y
            obtain ⟨y1, y2, y3⟩ := pSb_ok h3
            exact ⟨fun _ => ⟨y1, y2⟩, ⟨y1, by omega⟩, by omega, by rw [y3]; exact tkG_z hA.2.2.1⟩
        unfold pA2 at h2
        by_cases z2 : k = 2
        · rw [if_pos z2] at h2; exact sib h2
        · rw [if_neg z2] at h2
          by_cases z4 : k = 4
          · rw [if_pos z4] at h2; exact sib h2
          · rw [if_neg z4] at h2
            by_cases z3 : 3 < k
            · rw [if_pos z3] at h2; cases h2; exact ⟨fun y => by omega, by omega, by omega, hA.2⟩
            · rw [if_neg z3] at h2
              cases h3 : pNu B L t1 with
              | inl e => rw [h3] at h2; cases h2
              | inr r =>
                obtain ⟨b1, t3⟩ := r
                rw [h3] at h2
                have h2 : bE (pNu B L t3) _ = _ := h2
                obtain ⟨y1, y2, y3⟩ := pNu_ok h3 hA.2
                have g3 : tkG B L t3 := by rw [y3]; exact tkG_z hA.2.2.1
                cases h4 : pNu B L t3 with
                | inl e => rw [h4] at h2; cases h2
                | inr s =>
                  rw [h4] at h2
                  cases h2
                  obtain ⟨x1, x2, x3⟩ := pNu_ok h4 g3
                  exact ⟨fun y => by omega, ⟨y1, y2⟩, ⟨x1, x2⟩, by rw [x3]; exact tkG_z g3.2.1⟩
      exact ⟨⟨hk, hA.1, hB.1, hB.2.1, hB.2.2.1⟩, hB.2.2.2, rfl⟩
theorem pScr_ok {B : Nat → Int} {L : Nat} {S : gS} (hn : S.n ≤ 6) : ∀ d i t P c P', pScr B L S d i t P = .inr (c, P') → i ≤ 30 → tkG B L t → (∀ j, j < i → cmV S (P j)) → c ≤ 30 ∧ ∀ j, j < c → cmV S (P' j) := by
  intro d
  induction d with
  | zero => intro i t P c P' h; cases h
  | succ d ih =>
    intro i t P c P' h hi ht hP
    simp only [pScr] at h
    by_cases k0 : t.k = 0
    · rw [if_pos k0] at h; cases h; exact ⟨hi, hP⟩
    · rw [if_neg k0] at h
      have cb := cmZ_b (B := B) (t := t) 8 0
      by_cases z : cmZ B t 8 0 = -1
      · rw [if_pos z] at h; cases h
      · rw [if_neg z] at h
        by_cases i30 : i = 30
        · rw [if_pos i30] at h; cases h
        · rw [if_neg i30] at h
          cases h1 : pArg B L S (cmZ B t 8 0).toNat (tkZ B L t.e) with
          | inl e => rw [h1] at h; cases h
          | inr r =>
            obtain ⟨c1, t1⟩ := r
            rw [h1] at h
            have h : bE (pSem B L t1) (fun t4 => pScr B L S d (i + 1) t4 (fun j => if j = i then c1 else P j)) = _ := h
            obtain ⟨v1, v2, v3⟩ := pArg_ok h1 (tkG_z ht.2.1) (by omega) hn
            cases h2 : pSem B L t1 with
            | inl e => rw [h2] at h; cases h
            | inr t4 =>
              rw [h2] at h
              exact ih (i + 1) t4 _ c P' h (by omega) (by rw [pSem_ok h2]; exact tkG_z v2.2.1) fun j hj => by
                by_cases y : j = i
                · rw [if_pos y]; exact v1
                · rw [if_neg y]; exact hP j (by omega)
section SM
variable {B : Nat → Int} {L : Nat} {fc g : Nat → Int32} {x : gV} {t : gTk} {m : Nat → Int32} {S : gS} {iE iP iA iY iF iV : Int32} {aK : Nat → Int32}
def stR (B : Nat → Int) (L : Nat) (X : Option (Int32 × Int32 × Int32 × Int32 × Int32 × Int32 × Int32 × (Nat → Int32))) (e : gEr (Int × gTk)) (j : Nat) (aK : Nat → Int32) (iE iP : Int32) : Prop :=
  match e with
  | .inl (c, p) => ∃ a1 a2 a3 a4 aK', X = some ((0 : Int32), iI c, iI p, a1, a2, a3, a4, aK')
  | .inr (v, t') => ∃ a1 a2 a3 a4, X = some ((1 : Int32), iE, iP, a1, a2, a3, a4, upd aK j (iI v)) ∧ tkR B t' a1 a2 a3 a4 ∧ tkG B L t'
theorem mSb (hB : byR fc g B L) (hL : L ≤ 600) (hw : WF S) (hM : BlkAt m 0 S) (ht : tkG B L t) (hr : tkR B t iA iY iF iV) {j : Nat} (hj : j < 120) : stR B L (f_X6_parseSibling (iI j) m g (iI L) iE iP iA iY iF iV aK) (pSb B L S t) j aK iE iP := by
  obtain ⟨r1, r2, r3, r4⟩ := hr
  have hn := hw.2.1
  have hg := ht
  obtain ⟨u1, u2, u3, u4, u5, u6⟩ := ht
  unfold f_X6_parseSibling f_X6_isShortWord f_X6_wrong pSb
  rw [r1, r2, r3]
  by_cases k1 : t.k = 1
  · obtain ⟨v1, v2, v3⟩ := u6 k1
    rw [if_pos ((kM_1 u3).mpr k1), iI_sub, if_pos k1]
    by_cases l6 : t.e - t.s ≤ 6
    · have hsn := mSn (m := m) (g := g) (a := t.s) (wl := t.e - t.s) (W := fun j => B (t.s + j)) (S := S) (by have := hM.2.1; simpa using this) hn.2 hw.2.2.2.2 (fun s hs => by
          obtain ⟨y1, y2, -⟩ := hM.2.2.2 s hs
          rw [show 212 * 0 + 26 + 31 * s = 26 + 31 * s by omega] at y1 y2
          exact ⟨y1, y2⟩) (fun j hj => by
          obtain ⟨b1, b2, -⟩ := hB (t.s + j) (by omega)
          exact ⟨b1, b2⟩) (by omega)
      have e9 : iI ((t.e : Int) - (t.s : Int)) = iI ((t.e - t.s : Nat) : Int) := by congr 1; omega
      have sb := snZ_b (S := S) (wl := t.e - t.s) (W := fun j => B (t.s + j)) S.n 0
      rw [if_pos (by rw [iI_6, iI_le (by omega) (by omega) (by omega) (by omega)]; omega), gT3_s, if_neg (by decide), e9, hsn, gB_s, wa_at (j := j) rfl hj (by decide), gB_s, ra_at (j := j) rfl hj (by decide) (by unfold upd; rw [if_pos rfl]), gB_s, if_pos l6]
      by_cases qn : snZ S (t.e - t.s) (fun j => B (t.s + j)) S.n 0 = -1
      · rw [if_pos (by rw [qn]; rfl), if_pos qn, gT3_s, if_pos (.inl rfl)]
        exact ⟨_, _, _, _, _, rfl⟩
      · obtain ⟨a1, a2, a3, a4, e1, n1⟩ := mTkR hB hL hg (iY := iI (kM B t : Nat)) (iF := iI t.s) (iV := iV)
        rw [if_neg (by rw [iI_n1, iI_eq (by omega) (by omega) (by omega) (by omega)]; exact qn), if_neg qn, e1, gT4_s]
        exact ⟨a1, a2, a3, a4, rfl, n1, tkG_z u2⟩
    · rw [if_neg (by rw [iI_6, iI_le (by omega) (by omega) (by omega) (by omega)]; omega), gT3_s, if_pos rfl, gT3_s, if_pos rfl, if_neg l6]
      exact ⟨_, _, _, _, _, rfl⟩
  · rw [if_neg (fun w => k1 ((kM_1 u3).mp w)), gT3_s, if_pos (.inl rfl), gT3_s, if_pos rfl, if_neg k1]
    exact ⟨_, _, _, _, _, rfl⟩
theorem mNu (hB : byR fc g B L) (hL : L ≤ 600) (ht : tkG B L t) (hr : tkR B t iA iY iF iV) {j : Nat} (hj : j < 120) : stR B L (f_X6_parseNumber (iI j) g (iI L) iE iP iA iY iF iV aK) (pNu B L t) j aK iE iP := by
  obtain ⟨r1, r2, r3, r4⟩ := hr
  have u3 := ht.2.2.1
  unfold f_X6_parseNumber f_X6_wrong pNu
  rw [r1, r2, r3]
  by_cases k2 : t.k = 2
  · obtain ⟨a1, a2, a3, a4, e1, n1⟩ := mTkR hB hL ht (iY := iI (kM B t : Nat)) (iF := iI t.s) (iV := iI t.v)
    rw [if_pos ((kM_2 u3).mpr k2), if_pos k2, r4 k2, wa_at (j := j) rfl hj (by decide), gB_s, e1, gT4_s]
    exact ⟨a1, a2, a3, a4, rfl, n1, tkG_z ht.2.1⟩
  · rw [if_neg (fun w => k2 ((kM_2 u3).mp w)), if_neg k2, gT3_s, if_pos (.inl rfl)]
    exact ⟨_, _, _, _, _, rfl⟩
end SM
