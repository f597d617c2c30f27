/-! ENVY CYCLES: the reference -/
section EM
variable {S : gS} {g : Nat} {m : Nat → Int32}
abbrev tP (S : gS) (g s k : Nat) : Nat → Bool := fun j => (if s = 0 then decide (j = g) else decide (j ≠ g) && decide (Tt S g s j = (s : Int))) && decide (eZ S k j ≠ 0)
theorem Tt_s (s k : Nat) : Tt S g (s + 1) k = if Tt S g s k = -1 then (if exB (tP S g s k) S.n = true then (s : Int) + 1 else -1) else Tt S g s k := rfl
def tV (S : gS) (g s k j : Nat) : Int := if Tt S g s k = -1 then (if exB (tP S g s k) j = true then (s : Int) + 1 else -1) else Tt S g s k
theorem Tt_b : ∀ s k, -1 ≤ Tt S g s k ∧ Tt S g s k ≤ s := by
  intro s
  induction s with
  | zero => intro k; simp [Tt]
  | succ s ih =>
    intro k
    have := ih k
    simp only [Tt]
    split
    · split <;> omega
    · omega
theorem tV_n (s k : Nat) : tV S g s k S.n = Tt S g (s + 1) k := rfl
theorem wkI_loop (hB : BlkAt m 0 S) (hw : WF S) (hg : g < S.n) {s a : Nat} (hs : s < S.n) (ha : a < S.n) {r23 r35 : Int32 → (Nat → Int32) → Option (Nat → Int32)} : ∀ (d j fu : Nat) (f : Nat → Int32), j + d = S.n → d < fu → (∀ i, i < S.n → f i = iI (if i < a then Tt S g (s + 1) i else if i = a then tV S g s a j else Tt S g s i)) → ∃ f', gL2 (f_X6_walkTo_L48 r23 r35 (iI g) (iI ((s : Int) + 1)) (iI a) m) fu (iI j) f = r35 (iI (a + 1)) f' ∧ ∀ i, i < S.n → f' i = iI (if i < a + 1 then Tt S g (s + 1) i else Tt S g s i) := by
  have hn := hw.2.1
  have fin : ∀ (f : Nat → Int32) (j : Nat), tV S g s a j = Tt S g (s + 1) a → (∀ i, i < S.n → f i = iI (if i < a then Tt S g (s + 1) i else if i = a then tV S g s a j else Tt S g s i)) → ∀ i, i < S.n → f i = iI (if i < a + 1 then Tt S g (s + 1) i else Tt S g s i) := by
    intro f j ej hf i hi
    rw [hf i hi]
    by_cases q1 : i < a
    · rw [if_pos q1, if_pos (by omega)]
    · by_cases q2 : i = a
      · subst q2; rw [if_neg q1, if_pos rfl, if_pos (by omega), ej]
      · rw [if_neg q1, if_neg q2, if_neg (by omega)]
  intro d
  induction d with
  | zero =>
    intro j fu f e hfu hf
    obtain ⟨fu, rfl⟩ : ∃ k', fu = k' + 1 := ⟨fu - 1, by omega⟩
    have e1 : j = S.n := by omega
    subst e1
    refine ⟨f, ?_, fin f S.n rfl hf⟩
    show f_X6_walkTo_L48 r23 r35 (iI g) (iI ((s : Int) + 1)) (iI a) m (gL2 (f_X6_walkTo_L48 r23 r35 (iI g) (iI ((s : Int) + 1)) (iI a) m) fu) _ _ = _
    unfold f_X6_walkTo_L48
    rw [ra_at (j := a) rfl (by omega) (by decide) rfl, gB_s, show g_ra 2120 m (1 : Int32) = some (iI S.n) from b_n hB, gB_s, if_pos (Int32.le_refl _), iI_1, iI_add]
    split <;> rfl
  | succ d ih =>
    intro j fu f e hfu hf
    obtain ⟨fu, rfl⟩ : ∃ k', fu = k' + 1 := ⟨fu - 1, by omega⟩
    have hj : j < S.n := by omega
    have fk : f a = iI (tV S g s a j) := by rw [hf a ha, if_neg (by omega), if_pos rfl]
    have bk := Tt_b (S := S) (g := g) s a
    have bj := Tt_b (S := S) (g := g) s j
    have bv : -1 ≤ tV S g s a j ∧ tV S g s a j ≤ s + 1 := by
      unfold tV; split
      · split <;> omega
      · omega
    show ∃ f', f_X6_walkTo_L48 r23 r35 (iI g) (iI ((s : Int) + 1)) (iI a) m (gL2 (f_X6_walkTo_L48 r23 r35 (iI g) (iI ((s : Int) + 1)) (iI a) m) fu) _ _ = _ ∧ _
    by_cases v1 : tV S g s a j = -1
    · have hk0 : Tt S g s a = -1 := by
        unfold tV at v1
        by_cases z : Tt S g s a = -1
        · exact z
        · rw [if_neg z] at v1; exact v1
      have hx0 : ¬ exB (tP S g s a) j = true := fun z => by
        unfold tV at v1
        rw [if_pos hk0, if_pos z] at v1
        omega
      have skip : tP S g s a j = false → ∃ f', gL2 (f_X6_walkTo_L48 r23 r35 (iI g) (iI ((s : Int) + 1)) (iI a) m) fu (iI j + (1 : Int32)) f = r35 (iI (a + 1)) f' ∧ ∀ i, i < S.n → f' i = iI (if i < a + 1 then Tt S g (s + 1) i else Tt S g s i) := fun z => by
        rw [iI_1, iI_add]
        refine ih (j + 1) fu f (by omega) (by omega) fun i hi => ?_
        have ev : tV S g s a (j + 1) = tV S g s a j := by
          unfold tV
          simp only [exB, z, Bool.or_false]
        rw [ev]; exact hf i hi
      have hit : tP S g s a j = true → ∃ f', gL2 (f_X6_walkTo_L48 r23 r35 (iI g) (iI ((s : Int) + 1)) (iI a) m) fu (iI j + (1 : Int32)) (upd f a (iI ((s : Int) + 1))) = r35 (iI (a + 1)) f' ∧ ∀ i, i < S.n → f' i = iI (if i < a + 1 then Tt S g (s + 1) i else Tt S g s i) := fun z => by
        rw [iI_1, iI_add]
        refine ih (j + 1) fu _ (by omega) (by omega) fun i hi => ?_
        have ev : tV S g s a (j + 1) = (s : Int) + 1 := by
          unfold tV
          rw [if_pos hk0, if_pos (by simp only [exB, z, Bool.or_true])]
        unfold upd
        by_cases y : i = a
        · subst y; rw [if_pos rfl, if_neg (by omega), if_pos rfl, ev]
        · rw [if_neg y, hf i hi, if_neg y, if_neg y]
      have hcj : s ≠ 0 → (f j = iI (s : Int) ↔ Tt S g s j = (s : Int)) := fun hs0 => by
        rw [hf j hj]
        by_cases q1 : j < a
        · rw [if_pos q1]
          have b2 := Tt_b (S := S) (g := g) (s + 1) j
          rw [iI_eq (by omega) (by omega) (by omega) (by omega)]
          by_cases q2 : Tt S g s j = -1
          · have : Tt S g (s + 1) j = s + 1 ∨ Tt S g (s + 1) j = -1 := by
              rw [Tt_s, if_pos q2]
              by_cases y : exB (tP S g s j) S.n = true
              · rw [if_pos y]; exact .inl rfl
              · rw [if_neg y]; exact .inr rfl
            omega
          · have : Tt S g (s + 1) j = Tt S g s j := by simp only [Tt]; rw [if_neg q2]
            rw [this]
        · rw [if_neg q1]
          by_cases q2 : j = a
          · subst q2
            rw [if_pos rfl, v1, iI_eq (by omega) (by omega) (by omega) (by omega)]
            omega
          · rw [if_neg q2, iI_eq (by omega) (by omega) (by omega) (by omega)]
      -- what a next one does
      have nx : (∀ (x : Int32), tP S g s a j = (decide (x ≠ 0) && decide (eZ S a j ≠ 0)) → ∃ f', f_X6_walkTo_J112 r23 r35 (gL2 (f_X6_walkTo_L48 r23 r35 (iI g) (iI ((s : Int) + 1)) (iI a) m) fu) (iI g) (iI ((s : Int) + 1)) (iI a) (iI j) x m f = r35 (iI (a + 1)) f' ∧ ∀ i, i < S.n → f' i = iI (if i < a + 1 then Tt S g (s + 1) i else Tt S g s i)) := fun x hx => by
        unfold f_X6_walkTo_J112
        by_cases x0 : x = 0
        · rw [if_pos x0]
          exact skip (by rw [hx]; simp [x0])
        · rw [if_neg x0, mEnv hB hw ha hj, gB_s, eZ_if]
          by_cases z : eZ S a j = 0
          · rw [if_pos z]
            exact skip (by rw [hx]; simp [z])
          · rw [if_neg z, wa_at (j := a) rfl (by omega) (by decide), gB_s]
            exact hit (by rw [hx]; simp [x0, z])
      generalize gL2 (f_X6_walkTo_L48 r23 r35 (iI g) (iI ((s : Int) + 1)) (iI a) m) fu = r at nx ⊢
      unfold f_X6_walkTo_L48 f_X6_walkTo_J111
      rw [ra_at (j := a) rfl (by omega) (by decide) fk, gB_s, if_pos (by rw [v1]; rfl), show g_ra 2120 m (1 : Int32) = some (iI S.n) from b_n hB, gB_s, if_neg (by rw [iI_le (by omega) (by omega) (by omega) (by omega)]; omega)]
      by_cases s0 : s = 0
      · subst s0
        rw [if_pos (by rfl)]
        by_cases z : j = g
        · rw [if_pos (by rw [z])]
          exact nx 1 (by show ((if (0 : Nat) = 0 then decide (j = g) else _) && _) = _; rw [if_pos rfl]; simp [z])
        · rw [if_neg (by rw [iI_eq (by omega) (by omega) (by omega) (by omega)]; omega)]
          exact nx 0 (by show ((if (0 : Nat) = 0 then decide (j = g) else _) && _) = _; rw [if_pos rfl]; simp [z])
      · rw [if_neg (by rw [iI_1, iI_eq (by omega) (by omega) (by omega) (by omega)]; omega)]
        by_cases z : j = g
        · rw [if_pos (by rw [z])]
          exact nx 0 (by show ((if s = 0 then _ else decide (j ≠ g) && _) && _) = _; rw [if_neg s0]; simp [z])
        · rw [if_neg (by rw [iI_eq (by omega) (by omega) (by omega) (by omega)]; omega), ra_at (j := j) rfl (by omega) (by decide) rfl, gB_s, iI_1, iI_sub, show (s : Int) + 1 - 1 = s by omega]
          by_cases y : Tt S g s j = (s : Int)
          · rw [if_pos ((hcj s0).mpr y)]
            exact nx 1 (by show ((if s = 0 then _ else decide (j ≠ g) && _) && _) = _; rw [if_neg s0]; simp [z, y])
          · rw [if_neg fun w => y ((hcj s0).mp w)]
            exact nx 0 (by show ((if s = 0 then _ else decide (j ≠ g) && _) && _) = _; rw [if_neg s0]; simp [y])
    · have ev : tV S g s a j = Tt S g (s + 1) a := by
        by_cases z : Tt S g s a = -1
        · have y : exB (tP S g s a) j = true := by
            unfold tV at v1
            rw [if_pos z] at v1
            by_cases y : exB (tP S g s a) j = true
            · exact y
            · rw [if_neg y] at v1; exact absurd rfl v1
          rw [← tV_n]
          unfold tV
          rw [if_pos z, if_pos z, if_pos y, if_pos (exB_mono y (by omega))]
        · rw [← tV_n]
          unfold tV
          rw [if_neg z, if_neg z]
      refine ⟨f, ?_, fin f j ev hf⟩
      unfold f_X6_walkTo_L48
      rw [ra_at (j := a) rfl (by omega) (by decide) fk, gB_s, if_neg (by rw [iI_n1, iI_eq (by omega) (by omega) (by omega) (by omega)]; exact v1), iI_1, iI_add]
theorem wkA_loop (hB : BlkAt m 0 S) (hw : WF S) (hg : g < S.n) {s : Nat} (hs : s < S.n) {r23 : Int32 → (Nat → Int32) → Option (Nat → Int32)} : ∀ (d a fu : Nat) (f : Nat → Int32), a + d = S.n → d < fu → (∀ i, i < S.n → f i = iI (if i < a then Tt S g (s + 1) i else Tt S g s i)) → ∃ f', gL2 (f_X6_walkTo_L35 r23 (iI g) (iI ((s : Int) + 1)) m) fu (iI a) f = r23 (iI ((s : Int) + 1 + 1)) f' ∧ ∀ i, i < S.n → f' i = iI (Tt S g (s + 1) i) := by
  have hn := hw.2.1
  intro d
  induction d with
  | zero =>
    intro a fu f e hfu hf
    obtain ⟨fu, rfl⟩ : ∃ k', fu = k' + 1 := ⟨fu - 1, by omega⟩
    refine ⟨f, ?_, fun i hi => by rw [hf i hi, if_pos (by omega)]⟩
    show f_X6_walkTo_L35 r23 (iI g) (iI ((s : Int) + 1)) m (gL2 (f_X6_walkTo_L35 r23 (iI g) (iI ((s : Int) + 1)) m) fu) _ _ = _
    unfold f_X6_walkTo_L35
    rw [show g_ra 2120 m (1 : Int32) = some (iI S.n) from b_n hB, gB_s, if_pos (by rw [iI_le (by omega) (by omega) (by omega) (by omega)]; omega), iI_1, iI_add]
  | succ d ih =>
    intro a fu f e hfu hf
    obtain ⟨fu, rfl⟩ : ∃ k', fu = k' + 1 := ⟨fu - 1, by omega⟩
    obtain ⟨f1, e1, hf1⟩ := wkI_loop hB hw hg (s := s) (a := a) (r23 := r23) (r35 := gL2 (f_X6_walkTo_L35 r23 (iI g) (iI ((s : Int) + 1)) m) fu) hs (by omega) S.n 0 gN f (by omega) (by unfold gN; omega) (fun i hi => by
      rw [hf i hi]
      by_cases q1 : i < a
      · rw [if_pos q1, if_pos q1]
      · rw [if_neg q1, if_neg q1]
        by_cases q2 : i = a
        · subst q2; rw [if_pos rfl]; unfold tV; by_cases z : Tt S g s i = -1
          · rw [if_pos z, if_neg (by simp [exB]), z]
          · rw [if_neg z]
        · rw [if_neg q2])
    obtain ⟨f2, e2, hf2⟩ := ih (a + 1) fu f1 (by omega) (by omega) hf1
    refine ⟨f2, ?_, hf2⟩
    show f_X6_walkTo_L35 r23 (iI g) (iI ((s : Int) + 1)) m (gL2 (f_X6_walkTo_L35 r23 (iI g) (iI ((s : Int) + 1)) m) fu) _ _ = _
    generalize gL2 (f_X6_walkTo_L35 r23 (iI g) (iI ((s : Int) + 1)) m) fu = r at e1 e2 ⊢
    unfold f_X6_walkTo_L35
    rw [Int.natCast_add, Int.natCast_one] at e2
    rw [show g_ra 2120 m (1 : Int32) = some (iI S.n) from b_n hB, gB_s, if_neg (by rw [iI_le (by omega) (by omega) (by omega) (by omega)]; omega)]
    exact e1.trans e2
theorem wkS_loop (hB : BlkAt m 0 S) (hw : WF S) (hg : g < S.n) : ∀ (d s fu : Nat) (f : Nat → Int32), s + d = S.n → d < fu → (∀ i, i < S.n → f i = iI (Tt S g s i)) → ∃ f', gL2 (f_X6_walkTo_L23 (iI g) m) fu (iI ((s : Int) + 1)) f = some f' ∧ ∀ i, i < S.n → f' i = iI (Tt S g S.n i) := by
  have hn := hw.2.1
  intro d
  induction d with
  | zero =>
    intro s fu f e hfu hf
    obtain ⟨fu, rfl⟩ : ∃ k', fu = k' + 1 := ⟨fu - 1, by omega⟩
    have e1 : s = S.n := by omega
    subst e1
    refine ⟨f, ?_, hf⟩
    show f_X6_walkTo_L23 (iI g) m (gL2 (f_X6_walkTo_L23 (iI g) m) fu) _ _ = _
    unfold f_X6_walkTo_L23
    rw [show g_ra 2120 m (1 : Int32) = some (iI S.n) from b_n hB, gB_s, if_pos (by rw [iI_lt (by omega) (by omega) (by omega) (by omega)]; omega)]
  | succ d ih =>
    intro s fu f e hfu hf
    obtain ⟨fu, rfl⟩ : ∃ k', fu = k' + 1 := ⟨fu - 1, by omega⟩
    obtain ⟨f1, e1, hf1⟩ := wkA_loop hB hw hg (s := s) (r23 := gL2 (f_X6_walkTo_L23 (iI g) m) fu) (by omega) S.n 0 gN f (by omega) (by unfold gN; omega) (fun i hi => by rw [if_neg (Nat.not_lt_zero i)]; exact hf i hi)
    obtain ⟨f2, e2, hf2⟩ := ih (s + 1) fu f1 (by omega) (by omega) hf1
    refine ⟨f2, ?_, hf2⟩
    show f_X6_walkTo_L23 (iI g) m (gL2 (f_X6_walkTo_L23 (iI g) m) fu) _ _ = _
    generalize gL2 (f_X6_walkTo_L23 (iI g) m) fu = r at e1 e2 ⊢
    unfold f_X6_walkTo_L23
    rw [Int.natCast_add, Int.natCast_one] at e2
    rw [show g_ra 2120 m (1 : Int32) = some (iI S.n) from b_n hB, gB_s, if_neg (by rw [iI_lt (by omega) (by omega) (by omega) (by omega)]; omega)]
    exact e1.trans e2
theorem wkF_loop : ∀ (d i fu : Nat) (f : Nat → Int32), i + d = 6 → d < fu → (∀ k, k < i → f k = iI (-1)) → ∃ f', gL2 (f_X6_walkTo_L2 (iI g) m) fu (iI i) f = f_X6_walkTo_J21 (iI g) m f' ∧ ∀ k, k < 6 → f' k = iI (-1) := by
  intro d
  induction d with
  | zero =>
    intro i fu f e hfu hf
    obtain ⟨fu, rfl⟩ : ∃ k', fu = k' + 1 := ⟨fu - 1, by omega⟩
    refine ⟨f, ?_, fun k hk => hf k (by omega)⟩
    show f_X6_walkTo_L2 (iI g) m (gL2 (f_X6_walkTo_L2 (iI g) m) fu) _ _ = _
    unfold f_X6_walkTo_L2
    rw [iI_6, if_pos (by rw [iI_le (by omega) (by omega) (by omega) (by omega)]; omega)]
  | succ d ih =>
    intro i fu f e hfu hf
    obtain ⟨fu, rfl⟩ : ∃ k', fu = k' + 1 := ⟨fu - 1, by omega⟩
    obtain ⟨f1, e1, hf1⟩ := ih (i + 1) fu (upd f i (iI (-1))) (by omega) (by omega) (fun k hk => by
      unfold upd
      by_cases z : k = i
      · rw [if_pos z]
      · rw [if_neg z]; exact hf k (by omega))
    refine ⟨f1, ?_, hf1⟩
    show f_X6_walkTo_L2 (iI g) m (gL2 (f_X6_walkTo_L2 (iI g) m) fu) _ _ = _
    generalize gL2 (f_X6_walkTo_L2 (iI g) m) fu = r at e1 ⊢
    unfold f_X6_walkTo_L2
    rw [Int.natCast_add, Int.natCast_one] at e1
    rw [iI_6, if_neg (by rw [iI_le (by omega) (by omega) (by omega) (by omega)]; omega), iI_n1, wa_at (j := i) rfl (by omega) (by decide), gB_s, iI_1, iI_add]
    exact e1
theorem mWalk (hB : BlkAt m 0 S) (hw : WF S) (hg : g < S.n) (aT : Nat → Int32) : ∃ aT', f_X6_walkTo (iI g) m aT = some aT' ∧ ∀ i, i < S.n → aT' i = iI (Tt S g S.n i) := by
  have hn := hw.2.1
  obtain ⟨f1, e1, hf1⟩ := wkF_loop (g := g) (m := m) 6 0 gN aT (by omega) (by unfold gN; omega) (fun k hk => absurd hk (Nat.not_lt_zero k))
  obtain ⟨f2, e2, hf2⟩ := wkS_loop hB hw hg S.n 0 gN f1 (by omega) (by unfold gN; omega) (fun i hi => hf1 i (by omega))
  exact ⟨f2, e1.trans e2, hf2⟩
theorem fcN_loop (hB : BlkAt m 0 S) (hw : WF S) (hg : g < S.n) {aT aC : Nat → Int32} (hT : ∀ i, i < S.n → aT i = iI (Tt S g S.n i)) {p : Nat} (hp0 : 1 ≤ p) (hp : (p : Int) < lenE S g) (hC : aC (p - 1) = iI (mbE S g (p - 1) : Nat)) {r28 : Int32 → (Nat → Int32) → Option (Int32 × (Nat → Int32) × (Nat → Int32))} : ∀ (d i fu : Nat), i + d = mbE S g p → d < fu → gL1 (f_X6_findCycle_L36 r28 (iI g) (iI (lenE S g)) (iI p) m aT aC) fu (iI i) = r28 (iI ((p : Int) + 1)) (upd aC p (iI (mbE S g p : Nat))) := by
  have hn := hw.2.1
  have hl := lenE_b hg
  obtain ⟨m1, -⟩ := mbE_ok hg (p - 1) (by omega)
  obtain ⟨m2, m3⟩ := mbE_ok hg p hp
  obtain ⟨c1, c2, c3, c4, c5⟩ := m3.resolve_left (by omega)
  intro d
  induction d with
  | zero =>
    intro i fu e hfu
    obtain ⟨fu, rfl⟩ : ∃ k', fu = k' + 1 := ⟨fu - 1, by omega⟩
    have e1 : i = mbE S g p := by omega
    subst e1
    have b1 := Tt_b (S := S) (g := g) S.n (mbE S g p)
    have t1 := Tt_D (S := S) (g := g) S.n (mbE S g p) c1
    show f_X6_findCycle_L36 r28 (iI g) (iI (lenE S g)) (iI p) m aT aC (gL1 (f_X6_findCycle_L36 r28 (iI g) (iI (lenE S g)) (iI p) m aT aC) fu) _ = _
    unfold f_X6_findCycle_L36
    rw [if_neg (by rw [iI_eq (by omega) (by omega) (by omega) (by omega)]; omega), ra_at (j := mbE S g p) rfl (by omega) (by decide) (hT _ m2), gB_s, iI_sub, if_pos (by rw [t1, c2]), iI_sub_1, ra_at (j := p - 1) (by omega) (by omega) (by decide) hC, gB_s, mEnv hB hw m1 m2, gB_s, eZ_if, if_neg c4, wa_at (j := p) rfl (by omega) (by decide), gB_s, iI_1, iI_add]
  | succ d ih =>
    intro i fu e hfu
    obtain ⟨fu, rfl⟩ : ∃ k', fu = k' + 1 := ⟨fu - 1, by omega⟩
    have ih := ih (i + 1) fu (by omega) (by omega)
    have hi : i < S.n := by omega
    have b1 := Tt_b (S := S) (g := g) S.n i
    have hno := c5 i (by omega)
    show f_X6_findCycle_L36 r28 (iI g) (iI (lenE S g)) (iI p) m aT aC (gL1 (f_X6_findCycle_L36 r28 (iI g) (iI (lenE S g)) (iI p) m aT aC) fu) _ = _
    generalize gL1 (f_X6_findCycle_L36 r28 (iI g) (iI (lenE S g)) (iI p) m aT aC) fu = r at ih ⊢
    unfold f_X6_findCycle_L36
    rw [Int.natCast_add, Int.natCast_one] at ih
    have ih' : r (iI i + (1 : Int32)) = r28 (iI ((p : Int) + 1)) (upd aC p (iI (mbE S g p : Nat))) := by rw [iI_1, iI_add]; exact ih
    by_cases z : i = g
    · rw [if_pos (by rw [z])]; exact ih'
    · have t1 := Tt_D (S := S) (g := g) S.n i z
      rw [if_neg (by rw [iI_eq (by omega) (by omega) (by omega) (by omega)]; omega), ra_at (j := i) rfl (by omega) (by decide) (hT i hi), gB_s, iI_sub]
      by_cases y : Dd S g S.n i = lenE S g - p
      · rw [if_pos (by rw [t1, y]), iI_sub_1, ra_at (j := p - 1) (by omega) (by omega) (by decide) hC, gB_s, mEnv hB hw m1 hi, gB_s, eZ_if]
        by_cases w : eZ S (mbE S g (p - 1)) i = 0
        · rw [if_pos w]; exact ih'
        · exact absurd ⟨z, y, w⟩ hno
      · rw [if_neg (by rw [iI_eq (by omega) (by omega) (by omega) (by omega), t1]; exact y)]; exact ih'
theorem fcP_loop (hB : BlkAt m 0 S) (hw : WF S) (hg : g < S.n) {aT : Nat → Int32} (hT : ∀ i, i < S.n → aT i = iI (Tt S g S.n i)) : ∀ (d p fu : Nat) (aC : Nat → Int32), (p : Int) + d = lenE S g → 1 ≤ p → d < fu → (∀ i, i < p → aC i = iI (mbE S g i : Nat)) → ∃ aC', gL2 (f_X6_findCycle_L28 (iI g) (iI (lenE S g)) m aT) fu (iI p) aC = some (iI (lenE S g), aT, aC') ∧ ∀ i : Nat, (i : Int) < lenE S g → aC' i = iI (mbE S g i : Nat) := by
  have hn := hw.2.1
  have hl := lenE_b hg
  intro d
  induction d with
  | zero =>
    intro p fu aC e hp hfu hC
    obtain ⟨fu, rfl⟩ : ∃ k', fu = k' + 1 := ⟨fu - 1, by omega⟩
    refine ⟨aC, ?_, fun i hi => hC i (by omega)⟩
    show f_X6_findCycle_L28 (iI g) (iI (lenE S g)) m aT (gL2 (f_X6_findCycle_L28 (iI g) (iI (lenE S g)) m aT) fu) _ _ = _
    unfold f_X6_findCycle_L28
    rw [if_pos (by rw [iI_le (by omega) (by omega) (by omega) (by omega)]; omega)]
  | succ d ih =>
    intro p fu aC e hp hfu hC
    obtain ⟨fu, rfl⟩ : ∃ k', fu = k' + 1 := ⟨fu - 1, by omega⟩
    obtain ⟨m2, -⟩ := mbE_ok hg p (by omega)
    have e1 := fcN_loop hB hw hg hT (p := p) (aC := aC) (r28 := gL2 (f_X6_findCycle_L28 (iI g) (iI (lenE S g)) m aT) fu) hp (by omega) (hC _ (by omega)) (mbE S g p) 0 gN (by omega) (by unfold gN; omega)
    obtain ⟨aC', e2, hC'⟩ := ih (p + 1) fu (upd aC p (iI (mbE S g p : Nat))) (by omega) (by omega) (by omega) (fun i hi => by
      unfold upd
      by_cases z : i = p
      · subst z; rw [if_pos rfl]
      · rw [if_neg z]; exact hC i (by omega))
    refine ⟨aC', ?_, hC'⟩
    show f_X6_findCycle_L28 (iI g) (iI (lenE S g)) m aT (gL2 (f_X6_findCycle_L28 (iI g) (iI (lenE S g)) m aT) fu) _ _ = _
    generalize gL2 (f_X6_findCycle_L28 (iI g) (iI (lenE S g)) m aT) fu = r at e1 e2 ⊢
    unfold f_X6_findCycle_L28
    rw [Int.natCast_add, Int.natCast_one] at e2
    rw [if_neg (by rw [iI_le (by omega) (by omega) (by omega) (by omega)]; omega)]
    exact e1.trans e2
theorem mFc (hB : BlkAt m 0 S) (hw : WF S) (hg : g < S.n) (aT aC : Nat → Int32) : ∃ aT' aC', f_X6_findCycle (iI g) m aT aC = some (iI (lenE S g), aT', aC') ∧ ∀ i : Nat, (i : Int) < lenE S g → aC' i = iI (mbE S g i : Nat) := by
  have hn := hw.2.1
  have hl := lenE_b hg
  obtain ⟨f1, e1, hf1⟩ := mWalk hB hw hg aT
  have ht : f1 g = iI (lenE S g) := by rw [hf1 g hg, lenE_T hg]
  unfold f_X6_findCycle
  rw [e1, gB_s, ra_at (j := g) rfl (by omega) (by decide) ht, gB_s]
  by_cases q : lenE S g = -1
  · rw [if_pos (by rw [q]; rfl)]
    exact ⟨f1, aC, by rw [q]; rfl, fun i hi => by omega⟩
  · rw [if_neg (by rw [iI_n1, iI_eq (by omega) (by omega) (by omega) (by omega)]; exact q), show (0 : Int32) = iI ((0 : Nat) : Int) from rfl, wa_at (j := 0) rfl (by decide) (by decide), gB_s]
    obtain ⟨aC', e2, hC⟩ := fcP_loop hB hw hg hf1 ((lenE S g).toNat - 1) 1 gN (upd aC 0 (iI g)) (by omega) (by omega) (by unfold gN; omega) (fun i hi => by
      have : i = 0 := by omega
      subst this; rfl)
    exact ⟨f1, aC', e2, hC⟩
end EM
