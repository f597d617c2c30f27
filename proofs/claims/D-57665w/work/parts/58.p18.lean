/-! THE REFERENCE'S BLOCKS: exchange, a value, copies, remember -/
section BK
variable {S : gS} {m : Nat → Int32}
theorem mSw_loop {a b : Nat} (hw : WF S) (ha : a < S.n) (hb : b < S.n) (hab : a ≠ b) : ∀ (d i k : Nat) (m : Nat → Int32), i + d = S.c → d < k → BlkAt m 0 (setOw S (swI S a b i)) → ∃ m', gL2 (f_X6_exchange_L2 (iI a) (iI b)) k (iI i) m = some m' ∧ BlkUp m m' (swS S a b) := by
  have hc := hw.1
  have hn := hw.2.1
  intro d
  induction d with
  | zero =>
    intro i k m e hk hB
    obtain ⟨k, rfl⟩ : ∃ k', k = k' + 1 := ⟨k - 1, by omega⟩
    have e1 : i = S.c := by omega
    subst e1
    refine ⟨m, ?_, BlkUp.rf hB⟩
    show f_X6_exchange_L2 (iI a) (iI b) (gL2 (f_X6_exchange_L2 (iI a) (iI b)) k) _ _ = _
    unfold f_X6_exchange_L2
    rw [show (0 : Int32) = iI 0 from rfl, b_c hB, gB_s]
    exact if_pos (Int32.le_refl _)
  | succ d ih =>
    intro i k m e hk hB
    obtain ⟨k, rfl⟩ : ∃ k', k = k' + 1 := ⟨k - 1, by omega⟩
    have hb2 := hw.2.2.1 i (by omega)
    have hk5 : f_X6_ownerOf (iI i) m = some (iI (S.ow i)) := by
      rw [b_own hB (by show i < S.c; omega) hc.2]
      show some (iI (swI S a b i i)) = _
      unfold swI; rw [if_neg (by omega)]
    have hsw := swI_s (S := S) (a := a) (b := b) (i := i) (k := i)
    rw [if_pos rfl] at hsw
    have hnext : ∀ x : Int, x = swI S a b (i + 1) i → BlkUp m (upd m (2 + i) (iI x)) (setOw S (swI S a b (i + 1))) := fun x hx => by
      refine ⟨BlkAt_ow (S := setOw S (swI S a b i)) hB (fun j hj => ?_) (fun j hj => ?_) hc.2, fun j hj => ?_⟩
      · have : j < 2 ∨ 2 + S.c ≤ j := hj
        unfold upd; rw [if_neg (by omega)]
      · have hj : j < S.c := hj
        unfold upd
        by_cases q : j = i
        · subst q; rw [if_pos rfl, hx]
        · rw [if_neg (by omega), swI_s, if_neg q]
          have := hB.2.2.1 j hj
          rw [show 212 * 0 + 2 + j = 2 + j by omega] at this
          exact this
      · unfold upd; rw [if_neg (by omega)]
    have hsame : S.ow i ≠ a → S.ow i ≠ b → BlkUp m m (setOw S (swI S a b (i + 1))) := fun q1 q2 => by
      refine ⟨BlkAt_ow (S := setOw S (swI S a b i)) hB (fun j hj => rfl) (fun j hj => ?_) hc.2, fun j hj => rfl⟩
      have hj : j < S.c := hj
      have := hB.2.2.1 j hj
      rw [show 212 * 0 + 2 + j = 2 + j by omega] at this
      have e3 : m (2 + j) = iI (swI S a b i j) := this
      rw [e3, swI_s]
      by_cases q : j = i
      · subst q; rw [if_pos rfl, if_neg q1, if_neg q2]; unfold swI; rw [if_neg (by omega)]
      · rw [if_neg q]
    have go : ∀ m1, BlkUp m m1 (setOw S (swI S a b (i + 1))) → ∃ m', gL2 (f_X6_exchange_L2 (iI a) (iI b)) k (iI i + (1 : Int32)) m1 = some m' ∧ BlkUp m m' (swS S a b) := fun m1 u => by
      obtain ⟨m', e2, e3⟩ := ih (i + 1) k m1 (by omega) (by omega) u.1
      refine ⟨m', ?_, u.trans e3⟩
      rw [iI_1, iI_add, ← e2, Int.natCast_add, Int.natCast_one]
    show ∃ m', f_X6_exchange_L2 (iI a) (iI b) (gL2 (f_X6_exchange_L2 (iI a) (iI b)) k) _ _ = _ ∧ _
    generalize gL2 (f_X6_exchange_L2 (iI a) (iI b)) k = r at go ⊢
    unfold f_X6_exchange_L2 f_X6_exchange_J34
    rw [show (0 : Int32) = iI 0 from rfl, b_c hB, gB_s]
    show ∃ m', (if iI (S.c : Int) ≤ iI (i : Int) then _ else _) = _ ∧ _
    rw [if_neg (by rw [iI_le (by omega) (by omega) (by omega) (by omega)]; omega), hk5, gB_s]
    by_cases q1 : S.ow i = a
    · rw [if_pos (by rw [q1]), iI_2, iI_add, wa_at (j := 2 + i) (by omega) (by omega) (by decide), gB_s, if_neg (by rw [iI_eq (by omega) (by omega) (by omega) (by omega)]; omega)]
      rw [if_pos q1] at hsw
      exact go _ (hnext _ hsw.symm)
    · rw [if_neg (by rw [iI_eq (by omega) (by omega) (by omega) (by omega)]; exact q1)]
      by_cases q2 : S.ow i = b
      · rw [if_pos (by rw [q2]), iI_2, iI_add, wa_at (j := 2 + i) (by omega) (by omega) (by decide), gB_s]
        rw [if_neg q1, if_pos q2] at hsw
        exact go _ (hnext _ hsw.symm)
      · rw [if_neg (by rw [iI_eq (by omega) (by omega) (by omega) (by omega)]; exact q2)]
        exact go _ (hsame q1 q2)
theorem mSw (hB : BlkAt m 0 S) (hw : WF S) {a b : Nat} (ha : a < S.n) (hb : b < S.n) (hab : a ≠ b) : ∃ m', f_X6_exchange (iI a) (iI b) m = some m' ∧ BlkUp m m' (swS S a b) :=
  mSw_loop hw ha hb hab S.c 0 gN m (by omega) (by unfold gN; have := hw.1; omega) (by rw [swI_0]; exact hB)
theorem mSv (hB : BlkAt m 0 S) (hw : WF S) {s k : Nat} {x : Int} (hs : s < S.n) (hk : k < S.c) : ∃ m', g_wa 2120 m ((((26 : Int32) + (iI s * (31 : Int32))) + (7 : Int32)) + iI k) (iI x) = some m' ∧ BlkUp m m' (valS S s k x) := by
  have hc := hw.1
  have hn := hw.2.1
  refine ⟨upd m (26 + 31 * s + 7 + k) (iI x), ?_, ⟨?_, ?_, ?_, ?_⟩, fun j hj => ?_⟩
  · rw [iI_26, iI_31, iI_7, iI_mul, iI_add, iI_add, iI_add, wa_at (j := 26 + 31 * s + 7 + k) (by omega) (by omega) (by decide)]
  · unfold upd; rw [if_neg (by omega)]; exact hB.1
  · unfold upd; rw [if_neg (by omega)]; exact hB.2.1
  · intro j hj
    have hj : j < S.c := hj
    unfold upd; rw [if_neg (by omega)]; exact hB.2.2.1 j hj
  · intro a ha
    have ha : a < S.n := ha
    obtain ⟨b1, b2, b3⟩ := hB.2.2.2 a ha
    have hl := hw.2.2.2.2 a ha
    refine ⟨?_, fun i hi => ?_, fun j hj => ?_⟩
    · unfold upd; rw [if_neg (by omega)]; exact b1
    · have hi : i < (S.nm a).length := hi
      unfold upd; rw [if_neg (by omega)]; exact b2 i hi
    · have hj : j < S.c := hj
      show (if 212 * 0 + 26 + 31 * a + 7 + j = 26 + 31 * s + 7 + k then iI x else m (212 * 0 + 26 + 31 * a + 7 + j)) = iI ((if a = s then fun j => if j = k then x else S.v s j else S.v a) j)
      by_cases q : a = s
      · subst q
        rw [if_pos (rfl : a = a)]
        show _ = iI (if j = k then x else S.v a j)
        by_cases q2 : j = k
        · rw [if_pos q2, if_pos (by omega)]
        · rw [if_neg q2, if_neg (by omega)]; exact b3 j hj
      · rw [if_neg q, if_neg (by omega)]; exact b3 j hj
  · unfold upd; rw [if_neg (by omega)]
theorem BlkAt_sh {m m' : Nat → Int32} {b b' : Nat} (hw : WF S) (e : ∀ j, j < 212 → m' (212 * b' + j) = m (212 * b + j)) (hB : BlkAt m b S) : BlkAt m' b' S := by
  have hc := hw.1
  have hn := hw.2.1
  obtain ⟨h1, h2, h3, h4⟩ := hB
  refine ⟨by have := e 0 (by omega); rw [Nat.add_zero, Nat.add_zero] at this; rw [this]; exact h1, by rw [e 1 (by omega)]; exact h2, fun k hk => ?_, fun s hs => ?_⟩
  · rw [Nat.add_assoc, e (2 + k) (by omega), ← Nat.add_assoc]; exact h3 k hk
  · obtain ⟨w1, w2, w3⟩ := h4 s hs
    have hl := hw.2.2.2.2 s hs
    refine ⟨?_, fun i hi => ?_, fun k hk => ?_⟩
    · have := e (26 + 31 * s) (by omega)
      rw [← Nat.add_assoc, ← Nat.add_assoc] at this
      rw [this]; exact w1
    · have := e (26 + 31 * s + 1 + i) (by omega)
      simp only [← Nat.add_assoc] at this
      rw [this]; exact w2 i hi
    · have := e (26 + 31 * s + 7 + k) (by omega)
      simp only [← Nat.add_assoc] at this
      rw [this]; exact w3 k hk
def cpB (m : Nat → Int32) (a b i : Nat) : Nat → Int32 := fun j => if 212 * b ≤ j ∧ j < 212 * b + i then m (j - 212 * b + 212 * a) else m j
theorem cpB_loop {a b : Nat} (hab : a ≠ b) (ha : a ≤ 9) (hb : b ≤ 9) : ∀ d i k : Nat, i + d = 212 → d < k → gL2 (f_X6_copyBlock_L2 (iI a) (iI b)) k (iI i) (cpB m a b i) = some (cpB m a b 212) := by
  intro d
  induction d with
  | zero =>
    intro i k e hk
    obtain ⟨k, rfl⟩ : ∃ k', k = k' + 1 := ⟨k - 1, by omega⟩
    have e1 : i = 212 := by omega
    subst e1
    show f_X6_copyBlock_L2 (iI a) (iI b) (gL2 (f_X6_copyBlock_L2 (iI a) (iI b)) k) _ _ = _
    unfold f_X6_copyBlock_L2
    exact if_pos (Int32.le_refl _)
  | succ d ih =>
    intro i k e hk
    obtain ⟨k, rfl⟩ : ∃ k', k = k' + 1 := ⟨k - 1, by omega⟩
    have ih := ih (i + 1) k (by omega) (by omega)
    show f_X6_copyBlock_L2 (iI a) (iI b) (gL2 (f_X6_copyBlock_L2 (iI a) (iI b)) k) _ _ = _
    generalize gL2 (f_X6_copyBlock_L2 (iI a) (iI b)) k = r at ih ⊢
    unfold f_X6_copyBlock_L2
    rw [Int.natCast_add, Int.natCast_one] at ih
    have hrd : cpB m a b i (212 * a + i) = m (212 * a + i) := by
      unfold cpB; rw [if_neg (by omega)]
    have hst : upd (cpB m a b i) (212 * b + i) (m (212 * a + i)) = cpB m a b (i + 1) := by
      funext j
      unfold upd cpB
      by_cases q : j = 212 * b + i
      · subst q
        rw [if_pos rfl, if_pos (by omega)]
        congr 1; omega
      · rw [if_neg q]
        by_cases q2 : 212 * b ≤ j ∧ j < 212 * b + i
        · rw [if_pos q2, if_pos (by omega)]
        · rw [if_neg q2, if_neg (by omega)]
    rw [iI_212, if_neg (by rw [iI_le (by omega) (by omega) (by omega) (by omega)]; omega), iI_mul, iI_add, ra_at (j := 212 * a + i) (by omega) (by omega) (by decide) hrd, gB_s, iI_mul, iI_add, wa_at (j := 212 * b + i) (by omega) (by omega) (by decide), gB_s, hst, iI_1, iI_add]
    exact ih
theorem mCpB {a b : Nat} (hab : a ≠ b) (ha : a ≤ 9) (hb : b ≤ 9) : f_X6_copyBlock (iI a) (iI b) m = some (cpB m a b 212) := by
  have h0 : cpB m a b 0 = m := by
    funext j; unfold cpB; rw [if_neg (by omega)]
  have := cpB_loop (m := m) hab ha hb 212 0 gN (by omega) (by unfold gN; omega)
  rw [h0] at this
  exact this
theorem cpB_in {a b j : Nat} (hj : j < 212) : cpB m a b 212 (212 * b + j) = m (212 * a + j) := by
  unfold cpB; rw [if_pos (by omega)]; congr 1; omega
theorem cpB_ot {a b j : Nat} (hj : j < 212 * b ∨ 212 * b + 212 ≤ j) : cpB m a b 212 j = m j := by
  unfold cpB; rw [if_neg (by omega)]
theorem cpB_to {a b : Nat} (hw : WF S) (hB : BlkAt m a S) : BlkAt (cpB m a b 212) b S := BlkAt_sh hw (fun _ hj => cpB_in hj) hB
theorem cpB_stay {a b c : Nat} (hw : WF S) (hne : c ≠ b) (hB : BlkAt m c S) : BlkAt (cpB m a b 212) c S := BlkAt_sh hw (fun j hj => cpB_ot (by omega)) hB
-- a history of six at most
def hL (len : Nat) : Nat := if len = 6 then 6 else len + 1
def hF {α : Type} (len : Nat) (l : Nat → α) (q : α) : Nat → α := fun j => if len = 6 then (if j = 5 then q else l (j + 1)) else if j = len then q else l j
theorem hL_le {len : Nat} (h : len ≤ 6) : hL len ≤ 6 := by
  unfold hL; split <;> omega
theorem rem_loop {iU : Int32} : ∀ (d i k : Nat) (m : Nat → Int32), 1 ≤ i → i + d = 6 → d < k → ∃ m', gL2 (f_X6_remember_L11 (0 : Int32) iU) k (iI i) m = f_X6_remember_J31 (0 : Int32) m' iU ∧ (∀ j, j < 212 * i ∨ 212 * 7 ≤ j → m' j = m j) ∧ ∀ j, 212 * i ≤ j → j < 212 * 6 → m' j = m (j + 212) := by
  intro d
  induction d with
  | zero =>
    intro i k m hi e hk
    obtain ⟨k, rfl⟩ : ∃ k', k = k' + 1 := ⟨k - 1, by omega⟩
    refine ⟨m, ?_, fun _ _ => rfl, fun j h1 h2 => absurd h1 (by omega)⟩
    show f_X6_remember_L11 (0 : Int32) iU (gL2 (f_X6_remember_L11 (0 : Int32) iU) k) _ _ = _
    unfold f_X6_remember_L11
    rw [iI_6, if_pos (by rw [iI_le (by omega) (by omega) (by omega) (by omega)]; omega)]
  | succ d ih =>
    intro i k m hi e hk
    obtain ⟨k, rfl⟩ : ∃ k', k = k' + 1 := ⟨k - 1, by omega⟩
    obtain ⟨m', e1, e2, e3⟩ := ih (i + 1) k (cpB m (i + 1) i 212) (by omega) (by omega) (by omega)
    refine ⟨m', ?_, fun j hj => ?_, fun j h1 h2 => ?_⟩
    · show f_X6_remember_L11 (0 : Int32) iU (gL2 (f_X6_remember_L11 (0 : Int32) iU) k) _ _ = _
      generalize gL2 (f_X6_remember_L11 (0 : Int32) iU) k = r at e1 ⊢
      unfold f_X6_remember_L11
      have hcp := mCpB (m := m) (a := i + 1) (b := i) (by omega) (by omega) (by omega)
      rw [Int.natCast_add, Int.natCast_one] at e1 hcp
      rw [iI_6, if_neg (by rw [iI_le (by omega) (by omega) (by omega) (by omega)]; omega), iI_1, iI_add, hcp, gB_s]
      exact e1
    · rw [e2 j (by omega)]; exact cpB_ot (by omega)
    · by_cases q : j < 212 * (i + 1)
      · rw [e2 j (by omega)]
        have := cpB_in (m := m) (a := i + 1) (b := i) (j := j - 212 * i) (by omega)
        rw [show 212 * i + (j - 212 * i) = j by omega] at this
        rw [this]; congr 1; omega
      · rw [e3 j (by omega) h2]; exact cpB_ot (by omega)
theorem mRem {len : Nat} {HS : Nat → gS} (hB : BlkAt m 0 S) (hw : WF S) (hl : len ≤ 6) (hH : ∀ j, j < len → BlkAt m (j + 1) (HS j) ∧ WF (HS j)) : ∃ m', f_X6_remember (0 : Int32) m (iI len) = some (m', iI (hL len)) ∧ BlkAt m' 0 S ∧ (∀ j, j < hL len → BlkAt m' (j + 1) (hF len HS S j) ∧ WF (hF len HS S j)) ∧ ∀ j, 212 * 7 ≤ j → m' j = m j := by
  unfold f_X6_remember
  by_cases q : len = 6
  · subst q
    obtain ⟨m1, e1, e2, e3⟩ := rem_loop (iU := iI 6) 5 1 gN m (by omega) (by omega) (by unfold gN; omega)
    have e1' : gL2 (f_X6_remember_L11 (0 : Int32) (iI ((6 : Nat) : Int))) gN (1 : Int32) m = f_X6_remember_J31 (0 : Int32) m1 (iI 6) := e1
    have hcp := mCpB (m := m1) (a := 0) (b := 6) (by omega) (by omega) (by omega)
    have hcp' : f_X6_copyBlock (0 : Int32) (iI 6) m1 = some (cpB m1 0 6 212) := hcp
    rw [if_pos (show iI ((6 : Nat) : Int) = (6 : Int32) from rfl), e1']
    unfold f_X6_remember_J31 f_X6_remember_J41
    rw [iI_1, iI_sub, iI_add, show (6 : Int) - 1 + 1 = 6 from rfl, hcp', gB_s]
    have s0 : BlkAt m1 0 S := BlkAt_sh hw (fun j hj => e2 _ (by omega)) hB
    refine ⟨_, rfl, cpB_stay hw (by omega) s0, fun j hj => ?_, fun j hj => ?_⟩
    · have hj : j < 6 := hj
      unfold hF
      rw [if_pos rfl]
      by_cases q2 : j = 5
      · subst q2
        rw [if_pos rfl]
        exact ⟨cpB_to hw s0, hw⟩
      · rw [if_neg q2]
        obtain ⟨w1, w2⟩ := hH (j + 1) (by omega)
        have w3 : BlkAt m1 (j + 1) (HS (j + 1)) := BlkAt_sh (m := m) (b := j + 1 + 1) w2 (fun i hi => (e3 (212 * (j + 1) + i) (by omega) (by omega)).trans (congrArg m (by omega))) w1
        exact ⟨cpB_stay (a := 0) (b := 6) w2 (by omega) w3, w2⟩
    · rw [cpB_ot (by omega)]; exact e2 j (by omega)
  · rw [if_neg (by rw [iI_6, iI_eq (by omega) (by omega) (by omega) (by omega)]; omega)]
    unfold f_X6_remember_J41
    have hcp := mCpB (m := m) (a := 0) (b := len + 1) (by omega) (by omega) (by omega)
    have hcp' : f_X6_copyBlock (0 : Int32) (iI ((len : Int) + 1)) m = some (cpB m 0 (len + 1) 212) := hcp
    rw [iI_1, iI_add, hcp', gB_s]
    have hLe : hL len = len + 1 := by unfold hL; rw [if_neg q]
    refine ⟨_, by rw [hLe]; rfl, cpB_stay hw (by omega) hB, fun j hj => ?_, fun j hj => ?_⟩
    · rw [hLe] at hj
      unfold hF
      rw [if_neg q]
      by_cases q2 : j = len
      · subst q2
        rw [if_pos rfl]
        exact ⟨cpB_to hw hB, hw⟩
      · rw [if_neg q2]
        obtain ⟨w1, w2⟩ := hH j (by omega)
        exact ⟨cpB_stay w2 (by omega) w1, w2⟩
    · exact cpB_ot (by omega)
end BK
