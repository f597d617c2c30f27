/-! CONTIGUOUS SHARES: the reference's sum -/
def wE (S : gS) (s a k e : Nat) : Int := mx 0 (uP S true (Tz S true) s a e (uS S true (Tz S true) s e a) (min k (e + 1)))
def rwE (S : gS) (aE : Nat → Int32) (s : Nat) : Prop := ∀ o, o < s → ∀ e, e ≤ S.c → aE (25 * o + e) = iI (Tz S true o e)
section RE
variable {S : gS} {m aE : Nat → Int32} {s a k e : Nat}
theorem wE_b (hw : WF S) (ha : a < S.n) (hs : s < 2 ^ S.n) (he : e ≤ S.c) : 0 ≤ wE S s a k e ∧ wE S s a k e ≤ 2147483647 := by
  have h1 := uS_b (b := true) hw hs he a (by omega)
  have h2 := uP_b (b := true) hw ha hs he h1 (min k (e + 1)) (by omega)
  unfold wE mx
  split <;> omega
theorem wE_lt (hk : e < k) : wE S s a (k + 1) e = wE S s a k e := by
  unfold wE
  rw [show min (k + 1) (e + 1) = e + 1 by omega, show min k (e + 1) = e + 1 by omega]
theorem wE_s (hk : k ≤ e) : wE S s a (k + 1) e = mx 0 (mx (uP S true (Tz S true) s a e (uS S true (Tz S true) s e a) k) (trm S true (Tz S true) s a e k)) := by
  unfold wE
  rw [show min (k + 1) (e + 1) = k + 1 by omega]
  rfl
theorem wE_k (hk : k ≤ e) : wE S s a k e = mx 0 (uP S true (Tz S true) s a e (uS S true (Tz S true) s e a) k) := by
  unfold wE
  rw [show min k (e + 1) = k by omega]
theorem wE_no (hw : WF S) (ha : a < S.n) (hs : s < 2 ^ S.n) (he : e ≤ S.c) (hT : Tz S true (oth s a) k = -1) : wE S s a (k + 1) e = wE S s a k e := by
  by_cases q : k ≤ e
  · rw [wE_s q, wE_k q]
    have h1 := uS_b (b := true) hw hs he a (by omega)
    have h2 := uP_b (b := true) hw ha hs he h1 k (by omega)
    have et : trm S true (Tz S true) s a e k = -1 := by unfold trm; rw [if_pos hT]
    rw [et]
    unfold mx
    rw [if_neg (show ¬ uP S true (Tz S true) s a e (uS S true (Tz S true) s e a) k < -1 by omega)]
  · exact wE_lt (by omega)
theorem wE_yes (hk : k ≤ e) (hT : Tz S true (oth s a) k ≠ -1) : wE S s a (k + 1) e = mx (wE S s a k e) (Tz S true (oth s a) k + wt S a k e) := by
  rw [wE_s hk, wE_k hk]
  have et : trm S true (Tz S true) s a e k = Tz S true (oth s a) k + wt S a k e := by unfold trm; rw [if_neg hT]; rfl
  rw [et]
  generalize uP S true (Tz S true) s a e (uS S true (Tz S true) s e a) k = u
  generalize Tz S true (oth s a) k + wt S a k e = t
  unfold mx
  repeat' split
  all_goals omega
theorem e44 (hB : BlkAt m 0 S) (hw : WF S) (ha : a < S.n) (hs : s < 2 ^ S.n) (hT : Tz S true (oth s a) k ≠ -1) (hk : k ≤ S.c) (r3 : Int32 → (Nat → Int32) → Option (Nat → Int32)) : ∀ (d e fu : Nat) (aE : Nat → Int32), e + d = S.c + 1 → k ≤ e → d < fu → (∀ e', e' ≤ S.c → aE (25 * s + e') = iI (if k ≤ e' ∧ e' < e then wE S s a (k + 1) e' else wE S s a k e')) → ∃ aE', gL3 (f_X6_extend_L44 r3 (iI s) (iI (oth s a : Nat)) (iI a) (iI k) (iI (Tz S true (oth s a) k)) m) fu (iI (wt S a k (if e = k then k else e - 1))) (iI e) aE = r3 (iI ((k : Int) + 1)) aE' ∧ (∀ e', e' ≤ S.c → aE' (25 * s + e') = iI (wE S s a (k + 1) e')) ∧ ∀ j, j < 25 * s ∨ 25 * s + 25 ≤ j → aE' j = aE j := by
  have hn := hw.2.1
  have hc := hw.1
  have h64 := two_n hn.2
  have hos : oth s a < 2 ^ S.n := Nat.lt_of_le_of_lt oth_le hs
  have hTr := Tz_r (b := true) (e := k) hw hos hk
  intro d
  induction d with
  | zero =>
    intro e fu aE hd hke hfu hv
    obtain ⟨fu, rfl⟩ : ∃ k', fu = k' + 1 := ⟨fu - 1, by omega⟩
    have : e = S.c + 1 := by omega
    subst this
    refine ⟨aE, ?_, fun e' he' => ?_, fun _ _ => rfl⟩
    · show f_X6_extend_L44 r3 (iI s) (iI (oth s a : Nat)) (iI a) (iI k) (iI (Tz S true (oth s a) k)) m (gL3 (f_X6_extend_L44 r3 (iI s) (iI (oth s a : Nat)) (iI a) (iI k) (iI (Tz S true (oth s a) k)) m) fu) _ _ _ = _
      unfold f_X6_extend_L44
      rw [show g_ra 2120 m (0 : Int32) = some (iI S.c) from b_c hB, gB_s, if_pos (by rw [iI_lt (by omega) (by omega) (by omega) (by omega)]; omega), iI_1, iI_add]
    · rw [hv e' he']
      by_cases q : k ≤ e'
      · rw [if_pos ⟨q, by omega⟩]
      · rw [if_neg (fun y => q y.1), wE_lt (by omega)]
  | succ d ih =>
    intro e fu aE hd hke hfu hv
    obtain ⟨fu, rfl⟩ : ∃ k', fu = k' + 1 := ⟨fu - 1, by omega⟩
    have he : e ≤ S.c := by omega
    have hwk := wt_b hw ha hke he
    have hW := wE_b (k := k) hw ha hs he
    have hcur : aE (25 * s + e) = iI (wE S s a k e) := by rw [hv e he, if_neg (by omega)]
    have hstep := wE_yes hke hT
    have h216 := hTr.2.2 rfl
    -- the cell after this end
    obtain ⟨aE1, hj, hv1, ho1⟩ : ∃ aE1, (∀ r44, f_X6_extend_J76 r3 r44 (iI s) (iI (oth s a : Nat)) (iI a) (iI k) (iI (Tz S true (oth s a) k)) (iI (wt S a k e)) (iI e) m aE = r44 (iI (wt S a k e)) (iI ((e : Int) + 1)) aE1) ∧ (∀ e', e' ≤ S.c → aE1 (25 * s + e') = iI (if k ≤ e' ∧ e' < e + 1 then wE S s a (k + 1) e' else wE S s a k e')) ∧ ∀ j, j < 25 * s ∨ 25 * s + 25 ≤ j → aE1 j = aE j := by
      have e25 : iI (s : Int) * (25 : Int32) + iI (e : Int) = iI ((25 * s + e : Nat) : Int) := by rw [show (25 : Int32) = iI 25 from rfl, iI_mul, iI_add]; congr 1; omega
      by_cases q : Tz S true (oth s a) k + wt S a k e ≤ wE S s a k e
      · have hmx : wE S s a (k + 1) e = wE S s a k e := by rw [hstep]; unfold mx; rw [if_neg (by omega)]
        refine ⟨aE, fun r44 => ?_, fun e' he' => ?_, fun _ _ => rfl⟩
        · unfold f_X6_extend_J76
          rw [e25, ra_at (j := 25 * s + e) rfl (by omega) (by decide) hcur, gB_s, iI_add, if_pos (by rw [iI_le (by omega) (by omega) (by omega) (by omega)]; omega), iI_1, iI_add]
        · rw [hv e' he']
          by_cases y : e' = e
          · subst y; rw [if_neg (by omega), if_pos ⟨hke, by omega⟩, hmx]
          · by_cases z : k ≤ e' ∧ e' < e
            · rw [if_pos z, if_pos ⟨z.1, by omega⟩]
            · rw [if_neg z, if_neg (by omega)]
      · have hmx : wE S s a (k + 1) e = Tz S true (oth s a) k + wt S a k e := by rw [hstep]; unfold mx; rw [if_pos (by omega)]
        refine ⟨upd aE (25 * s + e) (iI (Tz S true (oth s a) k + wt S a k e)), fun r44 => ?_, fun e' he' => ?_, fun j hj => by unfold upd; rw [if_neg (by omega)]⟩
        · unfold f_X6_extend_J76
          rw [e25, ra_at (j := 25 * s + e) rfl (by omega) (by decide) hcur, gB_s, iI_add, if_neg (by rw [iI_le (by omega) (by omega) (by omega) (by omega)]; omega), wa_at (j := 25 * s + e) rfl (by omega) (by decide), gB_s, iI_1, iI_add]
        · unfold upd
          by_cases y : e' = e
          · subst y; rw [if_pos rfl, if_pos ⟨hke, by omega⟩, hmx]
          · rw [if_neg (by omega), hv e' he']
            by_cases z : k ≤ e' ∧ e' < e
            · rw [if_pos z, if_pos ⟨z.1, by omega⟩]
            · rw [if_neg z, if_neg (by omega)]
    obtain ⟨aE', g1, g2, g3⟩ := ih (e + 1) fu aE1 (by omega) (by omega) (by omega) hv1
    refine ⟨aE', ?_, g2, fun j hj => (g3 j hj).trans (ho1 j hj)⟩
    rw [if_neg (by omega), show e + 1 - 1 = e by omega, Int.natCast_add, Int.natCast_one] at g1
    show f_X6_extend_L44 r3 (iI s) (iI (oth s a : Nat)) (iI a) (iI k) (iI (Tz S true (oth s a) k)) m (gL3 (f_X6_extend_L44 r3 (iI s) (iI (oth s a : Nat)) (iI a) (iI k) (iI (Tz S true (oth s a) k)) m) fu) _ _ _ = _
    generalize gL3 (f_X6_extend_L44 r3 (iI s) (iI (oth s a : Nat)) (iI a) (iI k) (iI (Tz S true (oth s a) k)) m) fu = r at g1 ⊢
    unfold f_X6_extend_L44
    rw [show g_ra 2120 m (0 : Int32) = some (iI S.c) from b_c hB, gB_s, if_neg (by rw [iI_lt (by omega) (by omega) (by omega) (by omega)]; omega)]
    by_cases q : e = k
    · subst q
      rw [if_pos rfl, if_pos (Int32.le_refl _), hj]
      exact g1
    · have e1 : iI (e : Int) - (1 : Int32) = iI ((e - 1 : Nat) : Int) := by rw [iI_1, iI_sub]; congr 1; omega
      have ew : wt S a k (e - 1) + S.v a (e - 1) = wt S a k e := by
        unfold wt
        have := pS_s S a (e - 1)
        rw [show e - 1 + 1 = e by omega] at this
        omega
      rw [if_neg q, if_neg (by rw [iI_le (by omega) (by omega) (by omega) (by omega)]; omega), e1, b_val hB ha hn.2 (k := e - 1) (by omega) hc.2, gB_s, iI_add, ew, hj]
      exact g1
theorem e3L (hB : BlkAt m 0 S) (hw : WF S) (ha : a < S.n) (hs : s < 2 ^ S.n) (hbit : s.testBit a = true) : ∀ (d k fu : Nat) (aE : Nat → Int32), k + d = S.c + 1 → d < fu → rwE S aE s → (∀ e', e' ≤ S.c → aE (25 * s + e') = iI (wE S s a k e')) → ∃ aE', gL2 (f_X6_extend_L3 (iI s) (iI (oth s a : Nat)) (iI a) m) fu (iI k) aE = some aE' ∧ (∀ e', e' ≤ S.c → aE' (25 * s + e') = iI (wE S s a (S.c + 1) e')) ∧ rwE S aE' s := by
  have hn := hw.2.1
  have hc := hw.1
  have h64 := two_n hn.2
  have ho := oth_lt hbit
  have hos : oth s a < 2 ^ S.n := by omega
  intro d
  induction d with
  | zero =>
    intro k fu aE hd hfu hr hv
    obtain ⟨fu, rfl⟩ : ∃ k', fu = k' + 1 := ⟨fu - 1, by omega⟩
    have : k = S.c + 1 := by omega
    subst this
    refine ⟨aE, ?_, hv, hr⟩
    show f_X6_extend_L3 (iI s) (iI (oth s a : Nat)) (iI a) m (gL2 (f_X6_extend_L3 (iI s) (iI (oth s a : Nat)) (iI a) m) fu) _ _ = _
    unfold f_X6_extend_L3
    rw [show g_ra 2120 m (0 : Int32) = some (iI S.c) from b_c hB, gB_s, if_pos (by rw [iI_lt (by omega) (by omega) (by omega) (by omega)]; omega)]
  | succ d ih =>
    intro k fu aE hd hfu hr hv
    obtain ⟨fu, rfl⟩ : ∃ k', fu = k' + 1 := ⟨fu - 1, by omega⟩
    have hk : k ≤ S.c := by omega
    have hTr := Tz_r (b := true) (e := k) hw hos hk
    have e25 : iI ((oth s a : Nat) : Int) * (25 : Int32) + iI (k : Int) = iI ((25 * oth s a + k : Nat) : Int) := by rw [show (25 : Int32) = iI 25 from rfl, iI_mul, iI_add]; congr 1; omega
    have hT0 := hr _ ho k hk
    have head : ∀ r, f_X6_extend_L3 (iI s) (iI (oth s a : Nat)) (iI a) m r (iI k) aE = if iI (Tz S true (oth s a) k) = (-1 : Int32) then r (iI k + (1 : Int32)) aE else gL3 (f_X6_extend_L44 r (iI s) (iI (oth s a : Nat)) (iI a) (iI k) (iI (Tz S true (oth s a) k)) m) gN (0 : Int32) (iI k) aE := fun r => by
      unfold f_X6_extend_L3
      rw [show g_ra 2120 m (0 : Int32) = some (iI S.c) from b_c hB, gB_s, if_neg (by rw [iI_lt (by omega) (by omega) (by omega) (by omega)]; omega), e25, ra_at (j := 25 * oth s a + k) rfl (by omega) (by decide) hT0, gB_s]
    by_cases q : Tz S true (oth s a) k = -1
    · obtain ⟨aE', g1, g2, g3⟩ := ih (k + 1) fu aE (by omega) (by omega) hr (fun e' he' => by rw [hv e' he', wE_no hw ha hs he' q])
      refine ⟨aE', ?_, g2, g3⟩
      show f_X6_extend_L3 (iI s) (iI (oth s a : Nat)) (iI a) m (gL2 (f_X6_extend_L3 (iI s) (iI (oth s a : Nat)) (iI a) m) fu) _ _ = _
      rw [head, if_pos (by rw [q]; rfl), iI_1, iI_add, ← g1]
      rfl
    · obtain ⟨aE1, y1, y2, y3⟩ := e44 hB hw ha hs q hk (gL2 (f_X6_extend_L3 (iI s) (iI (oth s a : Nat)) (iI a) m) fu) (S.c + 1 - k) k gN aE (by omega) (Nat.le_refl _) (by unfold gN; omega) (fun e' he' => by rw [hv e' he', if_neg (by omega)])
      have hr1 : rwE S aE1 s := fun o ho' e he => by rw [y3 _ (by omega)]; exact hr o ho' e he
      obtain ⟨aE', g1, g2, g3⟩ := ih (k + 1) fu aE1 (by omega) (by omega) hr1 y2
      refine ⟨aE', ?_, g2, g3⟩
      show f_X6_extend_L3 (iI s) (iI (oth s a : Nat)) (iI a) m (gL2 (f_X6_extend_L3 (iI s) (iI (oth s a : Nat)) (iI a) m) fu) _ _ = _
      rw [head, if_neg (by rw [iI_n1, iI_eq (by omega) (by omega) (by omega) (by omega)]; exact q), ← g1]
      have e0 : wt S a k (if k = k then k else k - 1) = 0 := by rw [if_pos rfl]; unfold wt; omega
      rw [e0] at y1
      exact y1
/-- the row of a set, when its first a siblings are done -/
def vE (S : gS) (s a e : Nat) : Int := if s = 0 then Tz S true 0 e else mx 0 (uS S true (Tz S true) s e a)
theorem e60 (hB : BlkAt m 0 S) (hw : WF S) (hs : s < 2 ^ S.n) (r11 : Int32 → (Nat → Int32) → Option (Int32 × (Nat → Int32))) (z1 : Int32) : ∀ (d a fu : Nat) (aE : Nat → Int32), a + d = S.n → d < fu → rwE S aE s → (∀ e', e' ≤ S.c → aE (25 * s + e') = iI (vE S s a e')) → ∃ aE', gL2 (f_X6_contiguousWelfare_L60 r11 z1 (iI s) m) fu (iI a) aE = r11 (iI ((s : Int) + 1)) aE' ∧ rwE S aE' (s + 1) := by
  have hn := hw.2.1
  have hc := hw.1
  have h64 := two_n hn.2
  intro d
  induction d with
  | zero =>
    intro a fu aE hd hfu hr hv
    obtain ⟨fu, rfl⟩ : ∃ k', fu = k' + 1 := ⟨fu - 1, by omega⟩
    have : a = S.n := by omega
    subst this
    refine ⟨aE, ?_, fun o ho e he => ?_⟩
    · show f_X6_contiguousWelfare_L60 r11 z1 (iI s) m (gL2 (f_X6_contiguousWelfare_L60 r11 z1 (iI s) m) fu) _ _ = _
      unfold f_X6_contiguousWelfare_L60
      rw [show g_ra 2120 m (1 : Int32) = some (iI S.n) from b_n hB, gB_s, if_pos (Int32.le_refl _), iI_1, iI_add]
    · by_cases q : o = s
      · subst q
        rw [hv e he]
        unfold vE
        by_cases z : o = 0
        · rw [if_pos z, z]
        · rw [if_neg z, ← Tz_eq]
          have := Tz_b (b := true) hw o hs z e he
          unfold mx
          split
          · rfl
          · congr 1; omega
      · exact hr o (by omega) e he
  | succ d ih =>
    intro a fu aE hd hfu hr hv
    obtain ⟨fu, rfl⟩ : ∃ k', fu = k' + 1 := ⟨fu - 1, by omega⟩
    have ha : a < S.n := by omega
    have head : ∀ r, f_X6_contiguousWelfare_L60 r11 z1 (iI s) m r (iI a) aE = if (if s.testBit a = true then (1 : Int32) else 0) = 1 then (Option.bind (f_X6_extend (iI s) (iI (oth s a : Nat)) (iI a) m aE) fun aE_7 => r (iI a + (1 : Int32)) aE_7) else r (iI a + (1 : Int32)) aE := fun r => by
      unfold f_X6_contiguousWelfare_L60
      rw [show g_ra 2120 m (1 : Int32) = some (iI S.n) from b_n hB, gB_s, if_neg (by rw [iI_le (by omega) (by omega) (by omega) (by omega)]; omega), bI s (by omega) a (by omega), oI s (by omega) a (by omega)]
    by_cases q : s.testBit a = true
    · have s0 : s ≠ 0 := fun y => by rw [y, Nat.zero_testBit] at q; cases q
      obtain ⟨aE1, y1, y2, y3⟩ := e3L hB hw ha hs q (S.c + 1) 0 gN aE (by omega) (by unfold gN; omega) hr (fun e' he' => by
        rw [hv e' he']
        unfold vE wE
        rw [if_neg s0, show min 0 (e' + 1) = 0 by omega]
        rfl)
      have y1' : f_X6_extend (iI s) (iI (oth s a : Nat)) (iI a) m aE = some aE1 := y1
      obtain ⟨aE', g1, g2⟩ := ih (a + 1) fu aE1 (by omega) (by omega) y3 (fun e' he' => by
        rw [y2 e' he']
        unfold vE wE
        rw [if_neg s0, show min (S.c + 1) (e' + 1) = e' + 1 by omega]
        rw [show uS S true (Tz S true) s e' (a + 1) = if s.testBit a = true then uP S true (Tz S true) s a e' (uS S true (Tz S true) s e' a) (e' + 1) else uS S true (Tz S true) s e' a from rfl, if_pos q])
      refine ⟨aE', ?_, g2⟩
      show f_X6_contiguousWelfare_L60 r11 z1 (iI s) m (gL2 (f_X6_contiguousWelfare_L60 r11 z1 (iI s) m) fu) _ _ = _
      rw [head, if_pos q, if_pos rfl, y1', gB_s, iI_1, iI_add, ← g1]
      rfl
    · obtain ⟨aE', g1, g2⟩ := ih (a + 1) fu aE (by omega) (by omega) hr (fun e' he' => by
        rw [hv e' he']
        unfold vE
        rw [show uS S true (Tz S true) s e' (a + 1) = if s.testBit a = true then uP S true (Tz S true) s a e' (uS S true (Tz S true) s e' a) (e' + 1) else uS S true (Tz S true) s e' a from rfl, if_neg q])
      refine ⟨aE', ?_, g2⟩
      show f_X6_contiguousWelfare_L60 r11 z1 (iI s) m (gL2 (f_X6_contiguousWelfare_L60 r11 z1 (iI s) m) fu) _ _ = _
      rw [head, if_neg q, if_neg (by decide), iI_1, iI_add, ← g1]
      rfl
theorem e18 (hB : BlkAt m 0 S) (hw : WF S) (hs : s < 2 ^ S.n) (r11 : Int32 → (Nat → Int32) → Option (Int32 × (Nat → Int32))) (z1 : Int32) : ∀ (d e fu : Nat) (aE : Nat → Int32), e + d = S.c + 1 → d < fu → rwE S aE s → (∀ e', e' < e → aE (25 * s + e') = iI (vE S s 0 e')) → ∃ aE', gL2 (f_X6_contiguousWelfare_L18 r11 z1 (iI s) m) fu (iI e) aE = r11 (iI ((s : Int) + 1)) aE' ∧ rwE S aE' (s + 1) := by
  have hn := hw.2.1
  have hc := hw.1
  have h64 := two_n hn.2
  intro d
  induction d with
  | zero =>
    intro e fu aE hd hfu hr hv
    obtain ⟨fu, rfl⟩ : ∃ k', fu = k' + 1 := ⟨fu - 1, by omega⟩
    have : e = S.c + 1 := by omega
    subst this
    obtain ⟨aE', g1, g2⟩ := e60 hB hw hs r11 z1 S.n 0 gN aE (by omega) (by unfold gN; omega) hr (fun e' he' => hv e' (by omega))
    refine ⟨aE', ?_, g2⟩
    show f_X6_contiguousWelfare_L18 r11 z1 (iI s) m (gL2 (f_X6_contiguousWelfare_L18 r11 z1 (iI s) m) fu) _ _ = _
    unfold f_X6_contiguousWelfare_L18 f_X6_contiguousWelfare_J58
    rw [show g_ra 2120 m (0 : Int32) = some (iI S.c) from b_c hB, gB_s, if_pos (by rw [iI_lt (by omega) (by omega) (by omega) (by omega)]; omega)]
    exact g1
  | succ d ih =>
    intro e fu aE hd hfu hr hv
    obtain ⟨fu, rfl⟩ : ∃ k', fu = k' + 1 := ⟨fu - 1, by omega⟩
    have he : e ≤ S.c := by omega
    have e25 : iI (s : Int) * (25 : Int32) + iI (e : Int) = iI ((25 * s + e : Nat) : Int) := by rw [show (25 : Int32) = iI 25 from rfl, iI_mul, iI_add]; congr 1; omega
    have go := ih (e + 1) fu (upd aE (25 * s + e) (iI (vE S s 0 e))) (by omega) (by omega) (fun o ho e' he' => by unfold upd; rw [if_neg (by omega)]; exact hr o ho e' he') (fun e' he' => by
      unfold upd
      by_cases y : e' = e
      · subst y; rw [if_pos rfl]
      · rw [if_neg (by omega)]; exact hv e' (by omega))
    obtain ⟨aE', g1, g2⟩ := go
    refine ⟨aE', ?_, g2⟩
    show f_X6_contiguousWelfare_L18 r11 z1 (iI s) m (gL2 (f_X6_contiguousWelfare_L18 r11 z1 (iI s) m) fu) _ _ = _
    rw [← g1]
    show _ = gL2 (f_X6_contiguousWelfare_L18 r11 z1 (iI s) m) fu (iI (e + 1 : Nat)) _
    generalize gL2 (f_X6_contiguousWelfare_L18 r11 z1 (iI s) m) fu = r
    unfold f_X6_contiguousWelfare_L18
    rw [show g_ra 2120 m (0 : Int32) = some (iI S.c) from b_c hB, gB_s, if_neg (by rw [iI_lt (by omega) (by omega) (by omega) (by omega)]; omega), e25]
    by_cases s0 : s = 0
    · have ev : vE S s 0 e = if e = 0 then 0 else -1 := by unfold vE; rw [if_pos s0, Tz_0]; rfl
      rw [if_pos (by rw [s0]; rfl)]
      by_cases q : e = 0
      · rw [if_pos (by rw [q]; decide), wa_at (j := 25 * s + e) rfl (by omega) (by decide), gB_s, iI_1, iI_add, ev, if_pos q]
        rfl
      · rw [if_neg (by rw [show (0 : Int32) = iI 0 from rfl, iI_le (by omega) (by omega) (by omega) (by omega)]; omega), wa_at (j := 25 * s + e) rfl (by omega) (by decide), gB_s, iI_1, iI_add, ev, if_neg q]
        rfl
    · have ev : vE S s 0 e = 0 := by
        unfold vE
        rw [if_neg s0, show uS S true (Tz S true) s e 0 = -1 from if_neg (fun y => s0 y.1)]
        rfl
      rw [if_neg (by rw [show (0 : Int32) = iI 0 from rfl, iI_eq (by omega) (by omega) (by omega) (by omega)]; omega), wa_at (j := 25 * s + e) rfl (by omega) (by decide), gB_s, iI_1, iI_add, ev]
      rfl
theorem e11 (hB : BlkAt m 0 S) (hw : WF S) : ∀ (d s fu : Nat) (aE : Nat → Int32), s + d = 2 ^ S.n → d < fu → rwE S aE s → ∃ aE', gL2 (f_X6_contiguousWelfare_L11 (iI (2 ^ S.n : Nat)) m) fu (iI s) aE = some (iI (Tz S true (2 ^ S.n - 1) S.c), aE') := by
  have hn := hw.2.1
  have hc := hw.1
  have h64 := two_n hn.2
  have hpos : 0 < 2 ^ S.n := Nat.pow_pos (by decide)
  intro d
  induction d with
  | zero =>
    intro s fu aE hd hfu hr
    obtain ⟨fu, rfl⟩ : ∃ k', fu = k' + 1 := ⟨fu - 1, by omega⟩
    have : s = 2 ^ S.n := by omega
    have e25 : (iI ((2 ^ S.n : Nat) : Int) - (1 : Int32)) * (25 : Int32) + iI (S.c : Int) = iI ((25 * (2 ^ S.n - 1) + S.c : Nat) : Int) := by rw [iI_1, iI_sub, show (25 : Int32) = iI 25 from rfl, iI_mul, iI_add]; congr 1; omega
    refine ⟨aE, ?_⟩
    show f_X6_contiguousWelfare_L11 (iI (2 ^ S.n : Nat)) m (gL2 (f_X6_contiguousWelfare_L11 (iI (2 ^ S.n : Nat)) m) fu) _ _ = _
    unfold f_X6_contiguousWelfare_L11 f_X6_contiguousWelfare_J104
    rw [if_pos (by rw [this]; exact Int32.le_refl _), show g_ra 2120 m (0 : Int32) = some (iI S.c) from b_c hB, gB_s, e25, ra_at (j := 25 * (2 ^ S.n - 1) + S.c) rfl (by omega) (by decide) (hr _ (by omega) S.c (Nat.le_refl _)), gB_s]
  | succ d ih =>
    intro s fu aE hd hfu hr
    obtain ⟨fu, rfl⟩ : ∃ k', fu = k' + 1 := ⟨fu - 1, by omega⟩
    obtain ⟨aE1, y1, y2⟩ := e18 hB hw (s := s) (by omega) (gL2 (f_X6_contiguousWelfare_L11 (iI (2 ^ S.n : Nat)) m) fu) (iI (2 ^ S.n : Nat)) (S.c + 1) 0 gN aE (by omega) (by unfold gN; omega) hr (fun e' he' => absurd he' (Nat.not_lt_zero e'))
    obtain ⟨aE', g1⟩ := ih (s + 1) fu aE1 (by omega) (by omega) y2
    refine ⟨aE', ?_⟩
    show f_X6_contiguousWelfare_L11 (iI (2 ^ S.n : Nat)) m (gL2 (f_X6_contiguousWelfare_L11 (iI (2 ^ S.n : Nat)) m) fu) _ _ = _
    rw [← g1]
    unfold f_X6_contiguousWelfare_L11
    rw [if_neg (by rw [iI_le (by omega) (by omega) (by omega) (by omega)]; omega)]
    exact y1
theorem mCw (hB : BlkAt m 0 S) (hw : WF S) (aE : Nat → Int32) : ∃ aE', f_X6_contiguousWelfare m aE = some (iI (Tz S true (2 ^ S.n - 1) S.c), aE') := by
  have hn := hw.2.1
  have h64 := two_n hn.2
  obtain ⟨aE', h1⟩ := e11 hB hw (2 ^ S.n) 0 gN aE (by omega) (by unfold gN; omega) (fun o ho => absurd ho (Nat.not_lt_zero o))
  refine ⟨aE', ?_⟩
  unfold f_X6_contiguousWelfare
  rw [show g_ra 2120 m (1 : Int32) = some (iI S.n) from b_n hB, gB_s, fI2 S.n (by omega)]
  exact h1
end RE
section PE
variable {h : gH} {cd o n : Nat} {M M' : gMS} {st : Nat} {S : gS} {sa : Nat → Nat} {len hd : Nat} {hs : Nat → Nat} {HS : Nat → gS} {fv : Nat → Option Nat} {VS : Nat → gS}
theorem p_greatestContiguousWelfare (w : gW cd o h n M st S sa len hd hs HS fv VS) (iT : Int32) (aE : Nat → Int32) : ∃ v h' n' t aE', gPas h n h' n' noD ∧ f_X1_greatestContiguousWelfare cd h n = some (v, h', n') ∧ f_X6_greatestContiguousWelfare M.aM iT aE = some (v, t, aE') := by
  obtain ⟨F, w1, w2, w3, w4, ⟨w5, w6, w7⟩, -⟩ := w
  obtain ⟨h', n', u, e⟩ := cDvd (b := true) F w4.cur w5 w6
  obtain ⟨aE', e2⟩ := mCw w7 w6 aE
  refine ⟨_, h', n', 0, aE', u, e, ?_⟩
  unfold f_X6_greatestContiguousWelfare f_X6_plain
  rw [e2, gT2_s, gT2_s]
end PE
