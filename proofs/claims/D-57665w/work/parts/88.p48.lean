/-! WORDS AND NAMES -/
theorem sIx_ok {x : gV} (hd : ∀ i j, i < g_tN → j < g_tN → x.2.2.1 i = x.2.2.1 j → i = j) {i : Nat} (hi : i < g_tN) : g_sIx x (x.2.2.1 i) = some i := by
  unfold g_sIx
  rw [List.find?_range_eq_some]
  refine ⟨by simp, List.mem_range.mpr hi, fun j hj => ?_⟩
  have : x.2.2.1 j ≠ x.2.2.1 i := fun e => by
    have := hd j i (by omega) hi e
    omega
  simp [this]
def wL (i : Nat) : Nat := g_tL.getD i 0
def wB (i j : Nat) : Int32 := (g_tB.getD i []).getD j 0
theorem wL_ok {x : gV} (hd : ∀ i j, i < g_tN → j < g_tN → x.2.2.1 i = x.2.2.1 j → i = j) {i : Nat} (hi : i < g_tN) : f_J9_length x (x.2.2.1 i) = some (iI (wL i : Nat)) := by
  unfold f_J9_length
  rw [sIx_ok hd hi]
  rfl
theorem wB_ok {x : gV} (hd : ∀ i j, i < g_tN → j < g_tN → x.2.2.1 i = x.2.2.1 j → i = j) {i j : Nat} (hi : i < g_tN) (hj : j < wL i) (hl : wL i ≤ 600) : f_J9_charAt x (x.2.2.1 i) (iI j) = some (wB i j) := by
  unfold f_J9_charAt
  rw [sIx_ok hd hi, gB_s]
  have e1 : g_in (iI (j : Int)) (g_tL.getD i 0) = true := iI_in (by omega) (by show (j : Int) < ((wL i : Nat) : Int); omega) (by show ((wL i : Nat) : Int) < _; omega)
  rw [if_pos e1, iI_cl (by omega) (by omega), Int.toNat_natCast]
  rfl
def tkG (B : Nat → Int) (L : Nat) (t : gTk) : Prop := t.s ≤ t.e ∧ t.e ≤ L ∧ t.k ≤ 4 ∧ (0 ≤ t.v ∧ t.v ≤ 99) ∧ (t.k = 0 ↔ t.s = L) ∧ (t.k = 1 → t.s < t.e ∧ t.e ≤ t.s + 8 ∧ ∀ i, t.s ≤ i → i < t.e → smB (B i))
theorem tkG_z {B : Nat → Int} {L e : Nat} (he : e ≤ L) : tkG B L (tkZ B L e) := by
  obtain ⟨⟨h1, h2, h3⟩, h4, ⟨h5, h6⟩, h7⟩ := tkZ_b (B := B) he
  exact ⟨h2, h3, h5, h6, h4, h7⟩
def wdP (B : Nat → Int) (t : gTk) (i : Nat) : Nat → Bool := fun j => decide (iI (B (t.s + j)) ≠ wB i j)
def wdIs (B : Nat → Int) (t : gTk) (i : Nat) : Bool := decide (t.k = 1) && decide (t.e - t.s = wL i) && !exB (wdP B t i) (wL i)
section WD
variable {B : Nat → Int} {L : Nat} {f g : Nat → Int32} {hb : gH} {q cd st : Nat} {ec ep wr : Int32} {x : gV} {t : gTk}
theorem kM_1 (hk : t.k ≤ 4) : iI (kM B t : Nat) = (1 : Int32) ↔ t.k = 1 := by
  rw [iI_1, iI_eq (by omega) (by unfold kM; split <;> omega) (by omega) (by omega)]
  unfold kM
  split <;> omega
theorem mIsW (hd : ∀ i j, i < g_tN → j < g_tN → x.2.2.1 i = x.2.2.1 j → i = j) (hB : byR f g B L) (hL : L ≤ 600) (ht : tkG B L t) {i : Nat} (hi : i < g_tN) (hw : wL i ≤ 600) : f_X6_isWord x (x.2.2.1 i) g (iI t.e) (iI (kM B t : Nat)) (iI t.s) = some (if wdIs B t i = true then (1 : Int32) else 0) := by
  obtain ⟨t1, t2, t3, t4, t5, t6⟩ := ht
  unfold f_X6_isWord wdIs
  by_cases k1 : t.k = 1
  · rw [if_pos ((kM_1 t3).mpr k1), wL_ok hd hi, gB_s, iI_sub]
    by_cases e1 : t.e - t.s = wL i
    · rw [if_pos (by rw [iI_eq (by omega) (by omega) (by omega) (by omega)]; omega)]
      have key : ∀ d j fu : Nat, j + d = wL i → d < fu → exB (wdP B t i) j = false → gL1 (f_X6_isWord_L28 x (x.2.2.1 i) g (iI t.e) (iI (kM B t : Nat)) (iI t.s)) fu (iI j) = some (if exB (wdP B t i) (wL i) = true then (0 : Int32) else 1) := by
        intro d
        induction d with
        | zero =>
          intro j fu e hfu hx
          obtain ⟨fu, rfl⟩ : ∃ k', fu = k' + 1 := ⟨fu - 1, by omega⟩
          have : j = wL i := by omega
          subst this
          show f_X6_isWord_L28 x (x.2.2.1 i) g (iI t.e) (iI (kM B t : Nat)) (iI t.s) (gL1 (f_X6_isWord_L28 x (x.2.2.1 i) g (iI t.e) (iI (kM B t : Nat)) (iI t.s)) fu) _ = _
          unfold f_X6_isWord_L28
          rw [wL_ok hd hi, gB_s, if_pos (Int32.le_refl _), hx, if_neg (by decide)]
        | succ d ih =>
          intro j fu e hfu hx
          obtain ⟨fu, rfl⟩ : ∃ k', fu = k' + 1 := ⟨fu - 1, by omega⟩
          obtain ⟨b1, b2, -⟩ := hB (t.s + j) (by omega)
          have ih := ih (j + 1) fu (by omega) (by omega)
          show f_X6_isWord_L28 x (x.2.2.1 i) g (iI t.e) (iI (kM B t : Nat)) (iI t.s) (gL1 (f_X6_isWord_L28 x (x.2.2.1 i) g (iI t.e) (iI (kM B t : Nat)) (iI t.s)) fu) _ = _
          generalize gL1 (f_X6_isWord_L28 x (x.2.2.1 i) g (iI t.e) (iI (kM B t : Nat)) (iI t.s)) fu = r at ih ⊢
          unfold f_X6_isWord_L28
          rw [Int.natCast_add, Int.natCast_one] at ih
          rw [wL_ok hd hi, gB_s, if_neg (by rw [iI_le (by omega) (by omega) (by omega) (by omega)]; omega), iI_add, ra_at (j := t.s + j) (by omega) (by omega) (by decide) b2, gB_s, wB_ok hd hi (by omega) hw, gB_s]
          by_cases z : iI (B (t.s + j)) = wB i j
          · rw [if_pos z, iI_1, iI_add]
            exact ih (by simp only [exB, hx, wdP]; simp [z])
          · rw [if_neg z, if_pos]
            exact exB_iff.mpr ⟨j, by omega, by unfold wdP; simp [z]⟩
      have := key (wL i) 0 gN (by omega) (by unfold gN; omega) rfl
      refine Eq.trans this ?_
      cases h : exB (wdP B t i) (wL i) <;> simp [k1, e1]
    · rw [if_neg (by rw [iI_eq (by omega) (by omega) (by omega) (by omega)]; omega)]
      simp [e1]
  · rw [if_neg (fun w => k1 ((kM_1 t3).mp w))]
    simp [k1]
theorem cIsW (w : scB hb q cd st ec ep wr f L) (hd : ∀ i j, i < g_tN → j < g_tN → x.2.2.1 i = x.2.2.1 j → i = j) (hB : byR f g B L) (hL : L ≤ 600) (ht : tkG B L t) {i : Nat} (hi : i < g_tN) (hw : wL i ≤ 600) {v : Int32} : f_X3_isWord x q (x.2.2.1 i) (scH hb q cd (iI t.k) (iI t.s) (iI t.e) v) = some (if wdIs B t i = true then (1 : Int32) else 0) := by
  obtain ⟨t1, t2, t3, t4, t5, t6⟩ := ht
  unfold f_X3_isWord wdIs
  simp only [sc_e, sc_s, sc_k, gB_s, wL_ok hd hi]
  by_cases k1 : t.k = 1
  · obtain ⟨k2, k3, k4⟩ := t6 k1
    rw [if_pos (by rw [k1]; rfl), iI_sub]
    by_cases e1 : t.e - t.s = wL i
    · rw [if_pos (by rw [iI_eq (by omega) (by omega) (by omega) (by omega)]; omega)]
      have key : ∀ d j fu : Nat, j + d = wL i → d < fu → exB (wdP B t i) j = false → gL1 (f_X3_isWord_L28 x q (x.2.2.1 i) (scH hb q cd (iI t.k) (iI t.s) (iI t.e) v)) fu (iI j) = some (if exB (wdP B t i) (wL i) = true then (0 : Int32) else 1) := by
        intro d
        induction d with
        | zero =>
          intro j fu e hfu hx
          obtain ⟨fu, rfl⟩ : ∃ k', fu = k' + 1 := ⟨fu - 1, by omega⟩
          have : j = wL i := by omega
          subst this
          show f_X3_isWord_L28 x q (x.2.2.1 i) _ (gL1 (f_X3_isWord_L28 x q (x.2.2.1 i) _) fu) _ = _
          unfold f_X3_isWord_L28
          rw [wL_ok hd hi, gB_s, if_pos (Int32.le_refl _), hx, if_neg (by decide)]
        | succ d ih =>
          intro j fu e hfu hx
          obtain ⟨fu, rfl⟩ : ∃ k', fu = k' + 1 := ⟨fu - 1, by omega⟩
          obtain ⟨b1, -, b3⟩ := hB (t.s + j) (by omega)
          have k5 := k4 (t.s + j) (by omega) (by omega)
          have b4 : f (t.s + j) = iI (B (t.s + j)) := by
            rw [b3]; unfold sgB; rw [if_pos (by omega)]
          have ih := ih (j + 1) fu (by omega) (by omega)
          show f_X3_isWord_L28 x q (x.2.2.1 i) _ (gL1 (f_X3_isWord_L28 x q (x.2.2.1 i) _) fu) _ = _
          generalize gL1 (f_X3_isWord_L28 x q (x.2.2.1 i) (scH hb q cd (iI t.k) (iI t.s) (iI t.e) v)) fu = r at ih ⊢
          unfold f_X3_isWord_L28
          rw [Int.natCast_add, Int.natCast_one] at ih
          have rd := sc_rd w (k := iI t.k) (s := iI t.s) (e := iI t.e) (v := v) (i := t.s + j) (by omega)
          rw [Int.natCast_add] at rd
          rw [wL_ok hd hi, gB_s, if_neg (by rw [iI_le (by omega) (by omega) (by omega) (by omega)]; omega), sc_out, gB_s, sc_buf w, gB_s, sc_s, gB_s, iI_add, rd, gB_s, wB_ok hd hi (by omega) hw, gB_s, b4]
          by_cases z : iI (B (t.s + j)) = wB i j
          · rw [if_pos z, iI_1, iI_add]
            exact ih (by simp only [exB, hx, wdP]; simp [z])
          · rw [if_neg z, if_pos]
            exact exB_iff.mpr ⟨j, by omega, by unfold wdP; simp [z]⟩
      have := key (wL i) 0 gN (by omega) (by unfold gN; omega) rfl
      refine Eq.trans this ?_
      cases h : exB (wdP B t i) (wL i) <;> simp [k1, e1]
    · rw [if_neg (by rw [iI_eq (by omega) (by omega) (by omega) (by omega)]; omega)]
      simp [e1]
  · rw [if_neg (by rw [iI_1, iI_eq (by omega) (by omega) (by omega) (by omega)]; omega)]
    simp [k1]
end WD
-- a sibling's name
def nmP (S : gS) (i : Nat) (W : Nat → Int) : Nat → Bool := fun j => decide ((S.nm i).getD j 0 ≠ W j)
theorem nmP_f {S : gS} {i j : Nat} {W : Nat → Int} (y : (S.nm i).getD j 0 = W j) : nmP S i W j = false := decide_eq_false fun h => h y
theorem nmP_t {S : gS} {i j : Nat} {W : Nat → Int} (y : (S.nm i).getD j 0 ≠ W j) : nmP S i W j = true := decide_eq_true y
def nmQ (S : gS) (i wl : Nat) (W : Nat → Int) : Bool := decide ((S.nm i).length = wl) && !exB (nmP S i W) wl
def snZ (S : gS) (wl : Nat) (W : Nat → Int) : Nat → Nat → Int
  | 0, _ => -1
  | d + 1, i => if nmQ S i wl W = true then (i : Int) else snZ S wl W d (i + 1)
section NM
variable {S : gS} {h : gH} {st q : Nat} {sa : Nat → Nat} {m : Nat → Int32} {W : Nat → Int} {wl : Nat}
theorem cNamed (hS : StAt h st S sa) (hw : ∀ s, s < S.n → (1 ≤ (S.nm s).length ∧ (S.nm s).length ≤ 6) ∧ ∀ i, i < (S.nm s).length → 97 ≤ (S.nm s).getD i 0 ∧ (S.nm s).getD i 0 ≤ 122) {F : Nat → Int32} (hq : h q = some (.inl (1, wl, .inl F))) (hF : ∀ j, j < wl → (0 ≤ W j ∧ W j < 256) ∧ F j = iI (sgB (W j))) (hl : wl ≤ 600) {i : Nat} (hi : i < S.n) : f_X5_isNamed (sa i) q h = some (if nmQ S i wl W = true then (1 : Int32) else 0) := by
  obtain ⟨⟨hl1, hl2⟩, hl3⟩ := hw i hi
  obtain ⟨na, w1, -, f8, w3, w4⟩ := hS.2.2.2.2.2 i hi
  have key : ∀ d j fu : Nat, j + d = (S.nm i).length → (S.nm i).length = wl → d < fu → gL2 (f_X5_isNamed_L18 (sa i) q h) fu (if exB (nmP S i W) j = true then (0 : Int32) else 1) (iI j) = some (if exB (nmP S i W) wl = true then (0 : Int32) else 1) := by
    intro d
    induction d with
    | zero =>
      intro j fu e ew hfu
      obtain ⟨fu, rfl⟩ : ∃ k', fu = k' + 1 := ⟨fu - 1, by omega⟩
      have e1 : j = (S.nm i).length := by omega
      show f_X5_isNamed_L18 (sa i) q h (gL2 (f_X5_isNamed_L18 (sa i) q h) fu) _ _ = _
      unfold f_X5_isNamed_L18
      rw [fA_at w1 rfl, gB_s, len_at w3, gB_s, if_pos (by rw [e1]; exact Int32.le_refl _), e1, ew]
      cases exB (nmP S i W) wl <;> rfl
    | succ d ih =>
      intro j fu e ew hfu
      obtain ⟨fu, rfl⟩ : ∃ k', fu = k' + 1 := ⟨fu - 1, by omega⟩
      have ih := ih (j + 1) fu (by omega) ew (by omega)
      obtain ⟨y1, y2⟩ := hF j (by omega)
      have y3 := hl3 j (by omega)
      have y4 : iI ((S.nm i).getD j 0) = F j ↔ (S.nm i).getD j 0 = W j := by
        rw [y2]
        have : -128 ≤ sgB (W j) ∧ sgB (W j) < 128 := by unfold sgB; split <;> omega
        rw [iI_eq (by omega) (by omega) (by omega) (by omega)]
        unfold sgB
        split <;> omega
      show f_X5_isNamed_L18 (sa i) q h (gL2 (f_X5_isNamed_L18 (sa i) q h) fu) _ _ = _
      generalize gL2 (f_X5_isNamed_L18 (sa i) q h) fu = r at ih ⊢
      unfold f_X5_isNamed_L18
      rw [Int.natCast_add, Int.natCast_one] at ih
      rw [fA_at w1 rfl, gB_s, len_at w3, gB_s]
      show (if iI ((S.nm i).length : Int) ≤ iI (j : Int) then _ else _) = _
      rw [if_neg (by rw [iI_le (by omega) (by omega) (by omega) (by omega)]; omega)]
      by_cases z : exB (nmP S i W) j = true
      · rw [if_pos z, if_pos rfl, if_pos (.inl rfl), if_pos (exB_mono z (by omega))]
      · rw [if_neg z, if_neg (by decide), gB_s, aI_at (j := j) w3 rfl (by omega) (by omega) (w4 j (by omega)), gB_s, aI_at (j := j) hq rfl (by omega) (by omega) rfl, gB_s]
        by_cases y : (S.nm i).getD j 0 = W j
        · have hz : exB (nmP S i W) (j + 1) = false := by
            simp only [exB]
            have : exB (nmP S i W) j = false := by simpa using z
            rw [this, nmP_f y]; rfl
          rw [hz] at ih
          rw [if_pos (y4.mpr y), iI_1, iI_add]
          exact ih
        · have hz : exB (nmP S i W) (j + 1) = true := exB_iff.mpr ⟨j, by omega, nmP_t y⟩
          rw [hz] at ih
          rw [if_neg (fun w => y (y4.mp w)), iI_1, iI_add]
          exact ih
  unfold f_X5_isNamed f_X5_isNamed_J15 nmQ
  rw [len_at hq, gB_s, fA_at w1 rfl, gB_s, len_at w3, gB_s]
  show (if iI ((wl : Nat) : Int) = iI ((S.nm i).length : Int) then _ else _) = _
  by_cases ew : (S.nm i).length = wl
  · rw [if_pos (by rw [ew])]
    have := key (S.nm i).length 0 gN (by omega) ew (by unfold gN; omega)
    refine Eq.trans this ?_
    cases hx : exB (nmP S i W) wl <;> simp [ew]
  · rw [if_neg (by rw [iI_eq (by omega) (by omega) (by omega) (by omega)]; omega)]
    show f_X5_isNamed_L18 (sa i) q h (gL2 (f_X5_isNamed_L18 (sa i) q h) 99999) _ _ = _
    unfold f_X5_isNamed_L18
    rw [fA_at w1 rfl, gB_s, len_at w3, gB_s]
    show (if iI ((S.nm i).length : Int) ≤ iI 0 then _ else _) = _
    rw [if_neg (by rw [iI_le (by omega) (by omega) (by omega) (by omega)]; omega), if_pos rfl, if_pos (.inl rfl)]
    simp [ew]
theorem cSn (hS : StAt h st S sa) (hn : S.n ≤ 6) (hw : ∀ s, s < S.n → (1 ≤ (S.nm s).length ∧ (S.nm s).length ≤ 6) ∧ ∀ i, i < (S.nm s).length → 97 ≤ (S.nm s).getD i 0 ∧ (S.nm s).getD i 0 ≤ 122) {F : Nat → Int32} (hq : h q = some (.inl (1, wl, .inl F))) (hF : ∀ j, j < wl → (0 ≤ W j ∧ W j < 256) ∧ F j = iI (sgB (W j))) (hl : wl ≤ 600) : f_X2_siblingNamed st q h = some (iI (snZ S wl W S.n 0)) := by
  have key : ∀ d i fu : Nat, i + d = S.n → d < fu → gL1 (f_X2_siblingNamed_L2 st q h) fu (iI i) = some (iI (snZ S wl W d i)) := by
    intro d
    induction d with
    | zero =>
      intro i fu e hfu
      obtain ⟨fu, rfl⟩ : ∃ k', fu = k' + 1 := ⟨fu - 1, by omega⟩
      obtain ⟨fs, o3⟩ := a_obj hS
      show f_X2_siblingNamed_L2 st q h (gL1 (f_X2_siblingNamed_L2 st q h) fu) _ = _
      unfold f_X2_siblingNamed_L2
      rw [o3, gB_s, a_size hS, gB_s, if_pos (by rw [iI_le (by omega) (by omega) (by omega) (by omega)]; omega)]
      rfl
    | succ d ih =>
      intro i fu e hfu
      obtain ⟨fu, rfl⟩ : ∃ k', fu = k' + 1 := ⟨fu - 1, by omega⟩
      obtain ⟨fs, o3⟩ := a_obj hS
      obtain ⟨fs2, o4⟩ := a_sobj hS (s := i) (by omega)
      have ih := ih (i + 1) fu (by omega) (by omega)
      show f_X2_siblingNamed_L2 st q h (gL1 (f_X2_siblingNamed_L2 st q h) fu) _ = _
      generalize gL1 (f_X2_siblingNamed_L2 st q h) fu = r at ih ⊢
      unfold f_X2_siblingNamed_L2
      rw [Int.natCast_add, Int.natCast_one] at ih
      rw [o3, gB_s, a_size hS, gB_s, if_neg (by rw [iI_le (by omega) (by omega) (by omega) (by omega)]; omega), a_sib hS (by omega) hn, gB_s, o4, gB_s, cNamed hS hw hq hF hl (by omega), gB_s]
      simp only [snZ]
      by_cases z : nmQ S i wl W = true
      · rw [if_pos z, if_pos z, if_neg (by decide)]
      · rw [if_neg z, if_neg z, if_pos rfl, iI_1, iI_add]
        exact ih
  exact key S.n 0 gN (by omega) (by unfold gN; omega)
/-- the reference: what stands in its buffer from a on -/
theorem mSn {g : Nat → Int32} {a : Nat} (hN : m 1 = iI S.n) (hn : S.n ≤ 6) (hw : ∀ s, s < S.n → (1 ≤ (S.nm s).length ∧ (S.nm s).length ≤ 6) ∧ ∀ i, i < (S.nm s).length → 97 ≤ (S.nm s).getD i 0 ∧ (S.nm s).getD i 0 ≤ 122) (hm : ∀ s, s < S.n → m (26 + 31 * s) = iI ((S.nm s).length : Int) ∧ ∀ i, i < (S.nm s).length → m (26 + 31 * s + 1 + i) = iI ((S.nm s).getD i 0)) (hF : ∀ j, j < wl → (0 ≤ W j ∧ W j < 256) ∧ g (a + j) = iI (W j)) (hl : a + wl ≤ 600) : f_X6_siblingNamed (iI a) (iI wl) m g = some (iI (snZ S wl W S.n 0)) := by
  have inner : ∀ i, i < S.n → (S.nm i).length = wl → ∀ (r2 : Int32 → Option Int32) (d j fu : Nat), j + d = wl → d < fu → gL2 (f_X6_siblingNamed_L42 r2 (iI a) (iI wl) (iI i) (iI (26 + 31 * i : Nat)) m g) fu (if exB (nmP S i W) j = true then (0 : Int32) else 1) (iI j) = (if exB (nmP S i W) wl = true then r2 (iI ((i : Int) + 1)) else some (iI i)) := by
    intro i hi ew r2 d
    obtain ⟨⟨hl1, hl2⟩, hl3⟩ := hw i hi
    obtain ⟨m1, m2⟩ := hm i hi
    induction d with
    | zero =>
      intro j fu e hfu
      obtain ⟨fu, rfl⟩ : ∃ k', fu = k' + 1 := ⟨fu - 1, by omega⟩
      have e1 : j = wl := by omega
      subst e1
      show f_X6_siblingNamed_L42 r2 (iI a) (iI j) (iI i) (iI (26 + 31 * i : Nat)) m g (gL2 (f_X6_siblingNamed_L42 r2 (iI a) (iI j) (iI i) (iI (26 + 31 * i : Nat)) m g) fu) _ _ = _
      unfold f_X6_siblingNamed_L42
      by_cases z : exB (nmP S i W) j = true
      · rw [if_pos z, if_pos z, if_pos rfl, if_pos rfl, iI_1, iI_add]
      · rw [if_neg z, if_neg z, if_neg (by decide), if_pos (Int32.le_refl _), if_neg (by decide)]
    | succ d ih =>
      intro j fu e hfu
      obtain ⟨fu, rfl⟩ : ∃ k', fu = k' + 1 := ⟨fu - 1, by omega⟩
      have ih := ih (j + 1) fu (by omega) (by omega)
      obtain ⟨y1, y2⟩ := hF j (by omega)
      have y3 := hl3 j (by omega)
      show f_X6_siblingNamed_L42 r2 (iI a) (iI wl) (iI i) (iI (26 + 31 * i : Nat)) m g (gL2 (f_X6_siblingNamed_L42 r2 (iI a) (iI wl) (iI i) (iI (26 + 31 * i : Nat)) m g) fu) _ _ = _
      generalize gL2 (f_X6_siblingNamed_L42 r2 (iI a) (iI wl) (iI i) (iI (26 + 31 * i : Nat)) m g) fu = r at ih ⊢
      unfold f_X6_siblingNamed_L42
      rw [Int.natCast_add, Int.natCast_one] at ih
      by_cases z : exB (nmP S i W) j = true
      · rw [if_pos z, if_pos rfl, if_pos rfl, if_pos (exB_mono z (by omega)), iI_1, iI_add]
      · rw [if_neg z, if_neg (by decide), if_neg (by rw [iI_le (by omega) (by omega) (by omega) (by omega)]; omega), iI_1, iI_add, iI_add, ra_at (j := 26 + 31 * i + 1 + j) (by omega) (by omega) (by decide) (m2 j (by omega)), gB_s, iI_add, ra_at (j := a + j) (by omega) (by omega) (by decide) y2, gB_s]
        by_cases y : (S.nm i).getD j 0 = W j
        · have hz : exB (nmP S i W) (j + 1) = false := by
            simp only [exB]
            have : exB (nmP S i W) j = false := by simpa using z
            rw [this, nmP_f y]; rfl
          rw [hz] at ih
          rw [if_pos (by rw [y]), iI_add]
          exact ih
        · have hz : exB (nmP S i W) (j + 1) = true := exB_iff.mpr ⟨j, by omega, nmP_t y⟩
          rw [hz] at ih
          rw [if_neg (by rw [iI_eq (by omega) (by omega) (by omega) (by omega)]; exact y), iI_add]
          exact ih
  have key : ∀ d i fu : Nat, i + d = S.n → d < fu → gL1 (f_X6_siblingNamed_L2 (iI a) (iI wl) m g) fu (iI i) = some (iI (snZ S wl W d i)) := by
    intro d
    induction d with
    | zero =>
      intro i fu e hfu
      obtain ⟨fu, rfl⟩ : ∃ k', fu = k' + 1 := ⟨fu - 1, by omega⟩
      show f_X6_siblingNamed_L2 (iI a) (iI wl) m g (gL1 (f_X6_siblingNamed_L2 (iI a) (iI wl) m g) fu) _ = _
      unfold f_X6_siblingNamed_L2
      rw [show g_ra 2120 m (1 : Int32) = some (iI S.n) from ra_at (a := 1) (j := 1) rfl (by decide) (by decide) hN, gB_s, if_pos (by rw [iI_le (by omega) (by omega) (by omega) (by omega)]; omega)]
      rfl
    | succ d ih =>
      intro i fu e hfu
      obtain ⟨fu, rfl⟩ : ∃ k', fu = k' + 1 := ⟨fu - 1, by omega⟩
      have hi : i < S.n := by omega
      obtain ⟨⟨hl1, hl2⟩, hl3⟩ := hw i hi
      obtain ⟨m1, m2⟩ := hm i hi
      have ih := ih (i + 1) fu (by omega) (by omega)
      show f_X6_siblingNamed_L2 (iI a) (iI wl) m g (gL1 (f_X6_siblingNamed_L2 (iI a) (iI wl) m g) fu) _ = _
      generalize gL1 (f_X6_siblingNamed_L2 (iI a) (iI wl) m g) fu = r at ih ⊢
      unfold f_X6_siblingNamed_L2 f_X6_siblingNamed_J37
      rw [Int.natCast_add, Int.natCast_one] at ih
      have e26 : iI 26 + iI (i : Int) * iI 31 = iI ((26 + 31 * i : Nat) : Int) := by rw [iI_mul, iI_add]; congr 1; omega
      rw [show g_ra 2120 m (1 : Int32) = some (iI S.n) from ra_at (a := 1) (j := 1) rfl (by decide) (by decide) hN, gB_s, if_neg (by rw [iI_le (by omega) (by omega) (by omega) (by omega)]; omega), iI_26, iI_31, e26, ra_at (j := 26 + 31 * i) rfl (by omega) (by decide) m1, gB_s]
      simp only [snZ]
      by_cases ew : (S.nm i).length = wl
      · rw [if_pos (by rw [ew])]
        have := inner i hi ew r wl 0 gN (by omega) (by unfold gN; omega)
        refine Eq.trans this ?_
        unfold nmQ
        by_cases z : exB (nmP S i W) wl = true
        · rw [if_pos z, if_neg (by simp [z])]; exact ih
        · rw [if_neg z, if_pos (by simp [ew, z])]
      · rw [if_neg (by rw [iI_eq (by omega) (by omega) (by omega) (by omega)]; omega), if_neg (by unfold nmQ; simp [ew])]
        show f_X6_siblingNamed_L42 r (iI a) (iI wl) (iI i) _ m g (gL2 (f_X6_siblingNamed_L42 r (iI a) (iI wl) (iI i) _ m g) 99999) _ _ = _
        unfold f_X6_siblingNamed_L42
        rw [if_pos rfl, if_pos rfl, iI_1, iI_add]
        exact ih
  exact key S.n 0 gN (by omega) (by unfold gN; omega)
end NM
