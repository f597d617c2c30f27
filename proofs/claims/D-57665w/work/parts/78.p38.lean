/-! ENVY CYCLES: the class -/
def EcAt (h : gH) (q st g da : Nat) (S : gS) : Prop := h q = some (.inr (5, [.ref st, .int (iI g), .ref da, .int (iI (lenE S g))])) ∧ ∃ f : Nat → Int32, h da = some (.inl (0, 6, .inl f)) ∧ ∀ k, k < S.n → f k = iI (Dd S g S.n k)
section EK
variable {S : gS} {g q da st : Nat} {sa : Nat → Nat} {hb : gH} {x : Int32}
def ecV (S : gS) (g s k j : Nat) : Int := if Dd S g s k = -1 then (if exB (fun i => decide (Dd S g s i = (s : Int)) && decide (eZ S k i ≠ 0)) j = true then (s : Int) + 1 else -1) else Dd S g s k
theorem exB_mono {P : Nat → Bool} {i j : Nat} (h : exB P i = true) (hij : i ≤ j) : exB P j = true := by
  obtain ⟨k, h1, h2⟩ := exB_iff.mp h
  exact exB_iff.mpr ⟨k, by omega, h2⟩
def ecH (hb : gH) (da : Nat) (f : Nat → Int32) : gH := g_up hb da (.inl (0, 6, .inl f))
theorem ecH_up {f f' : Nat → Int32} : g_up (ecH hb da f) da (.inl (0, 6, .inl f')) = ecH hb da f' := g_up_up
theorem spI_loop (hq : ∀ f, ecH hb da f q = some (.inr (5, [.ref st, .int (iI g), .ref da, .int x]))) (hS : ∀ f, StAt (ecH hb da f) st S sa) (hw : WF S) {s k : Nat} (hs : s < S.n) (hk : k < S.n) {r2 : Int32 → gH → Option gH} : ∀ (d j fu : Nat) (f : Nat → Int32), j + d = S.n → d < fu → (∀ i, i < S.n → f i = iI (if i < k then Dd S g (s + 1) i else if i = k then ecV S g s k j else Dd S g s i)) → ∃ f', gL2 (f_X7_spread_L15 r2 q (iI s) (iI k)) fu (iI j) (ecH hb da f) = r2 (iI (k + 1)) (ecH hb da f') ∧ ∀ i, i < S.n → f' i = iI (if i < k + 1 then Dd S g (s + 1) i else Dd S g s i) := by
  have hn := hw.2.1
  have fin : ∀ (f : Nat → Int32) (j : Nat), ecV S g s k j = Dd S g (s + 1) k → (∀ i, i < S.n → f i = iI (if i < k then Dd S g (s + 1) i else if i = k then ecV S g s k j else Dd S g s i)) → ∀ i, i < S.n → f i = iI (if i < k + 1 then Dd S g (s + 1) i else Dd S g s i) := by
    intro f j ej hf i hi
    rw [hf i hi]
    by_cases q1 : i < k
    · rw [if_pos q1, if_pos (by omega)]
    · by_cases q2 : i = k
      · subst q2; rw [if_neg q1, if_pos rfl, if_pos (by omega), ej]
      · rw [if_neg q1, if_neg q2, if_neg (by omega)]
  intro d
  induction d with
  | zero =>
    intro j fu f e hfu hf
    obtain ⟨fu, rfl⟩ : ∃ k', fu = k' + 1 := ⟨fu - 1, by omega⟩
    have e1 : j = S.n := by omega
    subst e1
    obtain ⟨fs, o3⟩ := a_obj (hS f)
    refine ⟨f, ?_, fin f S.n rfl hf⟩
    show f_X7_spread_L15 r2 q (iI s) (iI k) (gL2 (f_X7_spread_L15 r2 q (iI s) (iI k)) fu) _ _ = _
    unfold f_X7_spread_L15
    rw [fA_at (hq f) rfl, gB_s, o3, gB_s, a_size (hS f), gB_s, if_pos (Int32.le_refl _), iI_1, iI_add]
  | succ d ih =>
    intro j fu f e hfu hf
    obtain ⟨fu, rfl⟩ : ∃ k', fu = k' + 1 := ⟨fu - 1, by omega⟩
    have hj : j < S.n := by omega
    obtain ⟨fs, o3⟩ := a_obj (hS f)
    have fk : f k = iI (ecV S g s k j) := by rw [hf k hk, if_neg (by omega), if_pos rfl]
    have hda : ecH hb da f da = some (.inl (0, 6, .inl f)) := g_up_s
    have bk := Dd_b (S := S) (g := g) s k
    have bj := Dd_b (S := S) (g := g) s j
    have bv : -1 ≤ ecV S g s k j ∧ ecV S g s k j ≤ s + 1 := by
      unfold ecV; split
      · split <;> omega
      · omega
    by_cases v1 : ecV S g s k j = -1
    · -- still open
      have hk0 : Dd S g s k = -1 := by
        unfold ecV at v1
        by_cases z : Dd S g s k = -1
        · exact z
        · rw [if_neg z] at v1; exact v1
      have hx0 : ¬ exB (fun i => decide (Dd S g s i = (s : Int)) && decide (eZ S k i ≠ 0)) j = true := fun z => by
        unfold ecV at v1
        rw [if_pos hk0, if_pos z] at v1
        omega
      have same : ecV S g s k (j + 1) = -1 → ∀ i, i < S.n → upd f k (f k) i = iI (if i < k then Dd S g (s + 1) i else if i = k then ecV S g s k (j + 1) else Dd S g s i) := fun z i hi => by
        have : upd f k (f k) i = f i := by
          unfold upd; split
          · rename_i w; rw [w]
          · rfl
        rw [this, hf i hi, v1, z]
      have hcj : f j = iI (s : Int) ↔ Dd S g s j = (s : Int) := by
        rw [hf j hj]
        by_cases q1 : j < k
        · rw [if_pos q1]
          have b2 := Dd_b (S := S) (g := g) (s + 1) j
          rw [iI_eq (by omega) (by omega) (by omega) (by omega)]
          by_cases q2 : Dd S g s j = -1
          · have : Dd S g (s + 1) j = s + 1 ∨ Dd S g (s + 1) j = -1 := by
              simp only [Dd]; rw [if_pos q2]; split <;> simp
            omega
          · rw [Dd_up1 q2]
        · rw [if_neg q1]
          by_cases q2 : j = k
          · subst q2
            rw [if_pos rfl, v1, iI_eq (by omega) (by omega) (by omega) (by omega)]
            omega
          · rw [if_neg q2, iI_eq (by omega) (by omega) (by omega) (by omega)]
      have go : ∀ (f2 : Nat → Int32), (∀ i, i < S.n → f2 i = iI (if i < k then Dd S g (s + 1) i else if i = k then ecV S g s k (j + 1) else Dd S g s i)) → ∃ f', gL2 (f_X7_spread_L15 r2 q (iI s) (iI k)) fu (iI j + (1 : Int32)) (ecH hb da f2) = r2 (iI (k + 1)) (ecH hb da f') ∧ ∀ i, i < S.n → f' i = iI (if i < k + 1 then Dd S g (s + 1) i else Dd S g s i) := fun f2 hf2 => by
        rw [iI_1, iI_add]
        exact ih (j + 1) fu f2 (by omega) (by omega) hf2
      show ∃ f', f_X7_spread_L15 r2 q (iI s) (iI k) (gL2 (f_X7_spread_L15 r2 q (iI s) (iI k)) fu) _ _ = _ ∧ _
      generalize gL2 (f_X7_spread_L15 r2 q (iI s) (iI k)) fu = r at go ⊢
      unfold f_X7_spread_L15
      rw [fA_at (hq f) rfl, gB_s, o3, gB_s, a_size (hS f), gB_s, if_neg (by rw [iI_le (by omega) (by omega) (by omega) (by omega)]; omega), fA_at (hq f) rfl, gB_s, aI_at (j := k) hda rfl (by omega) (by decide) fk, gB_s, if_pos (by rw [v1]; rfl), gB_s, gB_s, aI_at (j := j) hda rfl (by omega) (by decide) rfl, gB_s]
      by_cases w : Dd S g s j = (s : Int)
      · rw [if_pos (hcj.mpr w), gB_s, o3, gB_s, cEnv (hS f) hw hk hj, gB_s, eZ_if]
        by_cases z : eZ S k j = 0
        · rw [if_pos z, gB_s, aI_at (j := k) hda rfl (by omega) (by decide) rfl, gB_s, sI_at (j := k) hda rfl (by omega) (by decide), gB_s, ecH_up]
          refine go _ (same ?_)
          unfold ecV
          rw [if_pos hk0, if_neg]
          simp only [exB, Bool.or_eq_true]
          rintro (y | y)
          · exact hx0 y
          · simp [z] at y
        · rw [if_neg z, sI_at (j := k) hda rfl (by omega) (by decide), gB_s, ecH_up]
          refine go _ fun i hi => ?_
          have ev : ecV S g s k (j + 1) = (s : Int) + 1 := by
            unfold ecV
            rw [if_pos hk0, if_pos]
            simp only [exB, Bool.or_eq_true]
            exact .inr (by simp [w, z])
          unfold upd
          by_cases y : i = k
          · subst y; rw [if_pos rfl, if_neg (by omega), if_pos rfl, ev, iI_1, iI_add]
          · rw [if_neg y, hf i hi, if_neg y, if_neg y]
      · rw [if_neg (fun z => w (hcj.mp z)), gB_s, aI_at (j := k) hda rfl (by omega) (by decide) rfl, gB_s, sI_at (j := k) hda rfl (by omega) (by decide), gB_s, ecH_up]
        refine go _ (same ?_)
        unfold ecV
        rw [if_pos hk0, if_neg]
        simp only [exB, Bool.or_eq_true]
        rintro (y | y)
        · exact hx0 y
        · simp [w] at y
    · -- measured
      have ev : ecV S g s k j = Dd S g (s + 1) k := by
        by_cases z : Dd S g s k = -1
        · have y : exB (fun i => decide (Dd S g s i = (s : Int)) && decide (eZ S k i ≠ 0)) j = true := by
            unfold ecV at v1
            rw [if_pos z] at v1
            by_cases y : exB (fun i => decide (Dd S g s i = (s : Int)) && decide (eZ S k i ≠ 0)) j = true
            · exact y
            · rw [if_neg y] at v1; exact absurd rfl v1
          unfold ecV
          simp only [Dd]
          rw [if_pos z, if_pos z, if_pos y, if_pos (exB_mono y (by omega))]
        · unfold ecV
          simp only [Dd]
          rw [if_neg z, if_neg z]
      refine ⟨f, ?_, fin f j ev hf⟩
      show f_X7_spread_L15 r2 q (iI s) (iI k) (gL2 (f_X7_spread_L15 r2 q (iI s) (iI k)) fu) _ _ = _
      unfold f_X7_spread_L15
      rw [fA_at (hq f) rfl, gB_s, o3, gB_s, a_size (hS f), gB_s, if_neg (by rw [iI_le (by omega) (by omega) (by omega) (by omega)]; omega), fA_at (hq f) rfl, gB_s, aI_at (j := k) hda rfl (by omega) (by decide) fk, gB_s, if_neg (by rw [iI_n1, iI_eq (by omega) (by omega) (by omega) (by omega)]; exact v1), iI_1, iI_add]
theorem spK_loop (hq : ∀ f, ecH hb da f q = some (.inr (5, [.ref st, .int (iI g), .ref da, .int x]))) (hS : ∀ f, StAt (ecH hb da f) st S sa) (hw : WF S) {s : Nat} (hs : s < S.n) : ∀ (d k fu : Nat) (f : Nat → Int32), k + d = S.n → d < fu → (∀ i, i < S.n → f i = iI (if i < k then Dd S g (s + 1) i else Dd S g s i)) → ∃ f', gL2 (f_X7_spread_L2 q (iI s)) fu (iI k) (ecH hb da f) = some (ecH hb da f') ∧ ∀ i, i < S.n → f' i = iI (Dd S g (s + 1) i) := by
  have hn := hw.2.1
  intro d
  induction d with
  | zero =>
    intro k fu f e hfu hf
    obtain ⟨fu, rfl⟩ : ∃ k', fu = k' + 1 := ⟨fu - 1, by omega⟩
    obtain ⟨fs, o3⟩ := a_obj (hS f)
    refine ⟨f, ?_, fun i hi => by rw [hf i hi, if_pos (by omega)]⟩
    show f_X7_spread_L2 q (iI s) (gL2 (f_X7_spread_L2 q (iI s)) fu) _ _ = _
    unfold f_X7_spread_L2
    rw [fA_at (hq f) rfl, gB_s, o3, gB_s, a_size (hS f), gB_s, if_pos (by rw [iI_le (by omega) (by omega) (by omega) (by omega)]; omega)]
  | succ d ih =>
    intro k fu f e hfu hf
    obtain ⟨fu, rfl⟩ : ∃ k', fu = k' + 1 := ⟨fu - 1, by omega⟩
    obtain ⟨fs, o3⟩ := a_obj (hS f)
    obtain ⟨f1, e1, hf1⟩ := spI_loop hq hS hw (g := g) (s := s) (k := k) (r2 := gL2 (f_X7_spread_L2 q (iI s)) fu) hs (by omega) S.n 0 gN f (by omega) (by unfold gN; omega) (fun i hi => by
      rw [hf i hi]
      by_cases q1 : i < k
      · rw [if_pos q1, if_pos q1]
      · rw [if_neg q1, if_neg q1]
        by_cases q2 : i = k
        · subst q2; rw [if_pos rfl]; unfold ecV; by_cases z : Dd S g s i = -1
          · rw [if_pos z, if_neg (by simp [exB]), z]
          · rw [if_neg z]
        · rw [if_neg q2])
    obtain ⟨f2, e2, hf2⟩ := ih (k + 1) fu f1 (by omega) (by omega) hf1
    refine ⟨f2, ?_, hf2⟩
    show f_X7_spread_L2 q (iI s) (gL2 (f_X7_spread_L2 q (iI s)) fu) _ _ = _
    generalize gL2 (f_X7_spread_L2 q (iI s)) fu = r at e1 e2 ⊢
    unfold f_X7_spread_L2
    rw [Int.natCast_add, Int.natCast_one] at e2
    rw [fA_at (hq f) rfl, gB_s, o3, gB_s, a_size (hS f), gB_s, if_neg (by rw [iI_le (by omega) (by omega) (by omega) (by omega)]; omega)]
    exact e1.trans e2
theorem suc_loop {h : gH} {f : Nat → Int32} (hq : h q = some (.inr (5, [.ref st, .int (iI g), .ref da, .int x]))) (hda : h da = some (.inl (0, 6, .inl f))) (hf : ∀ k, k < S.n → f k = iI (Dd S g S.n k)) (hS : StAt h st S sa) (hw : WF S) {a : Nat} (ha : a < S.n) : ∀ d i fu : Nat, i + d = S.n → d < fu → gL2 (f_X7_successor_L4 q (iI a) h) fu (iI (scZ S g a i)) (iI i) = some (iI (scZ S g a S.n)) := by
  have hn := hw.2.1
  obtain ⟨fs, o3⟩ := a_obj hS
  intro d
  induction d with
  | zero =>
    intro i fu e hfu
    obtain ⟨fu, rfl⟩ : ∃ k', fu = k' + 1 := ⟨fu - 1, by omega⟩
    have e1 : i = S.n := by omega
    subst e1
    show f_X7_successor_L4 q (iI a) h (gL2 (f_X7_successor_L4 q (iI a) h) fu) _ _ = _
    unfold f_X7_successor_L4
    rw [fA_at hq rfl, gB_s, o3, gB_s, a_size hS, gB_s, if_pos (Int32.le_refl _)]
  | succ d ih =>
    intro i fu e hfu
    obtain ⟨fu, rfl⟩ : ∃ k', fu = k' + 1 := ⟨fu - 1, by omega⟩
    have hi : i < S.n := by omega
    have ih := ih (i + 1) fu (by omega) (by omega)
    have bi := Dd_b (S := S) (g := g) S.n i
    show f_X7_successor_L4 q (iI a) h (gL2 (f_X7_successor_L4 q (iI a) h) fu) _ _ = _
    generalize gL2 (f_X7_successor_L4 q (iI a) h) fu = r at ih ⊢
    rw [Int.natCast_add, Int.natCast_one] at ih
    have no : ldZ S g a i = false → r (iI (scZ S g a i)) (iI i + (1 : Int32)) = some (iI (scZ S g a S.n)) := fun z => by
      simp only [scZ] at ih
      rw [if_neg (fun w => by rw [z] at w; cases w.1)] at ih
      rw [iI_1, iI_add]; exact ih
    unfold f_X7_successor_L4 f_X7_successor_J46
    rw [fA_at hq rfl, gB_s, o3, gB_s, a_size hS, gB_s, if_neg (by rw [iI_le (by omega) (by omega) (by omega) (by omega)]; omega)]
    by_cases q1 : i = a
    · rw [if_pos (by rw [q1])]
      unfold f_X7_successor_J47
      rw [if_pos rfl]
      exact no (by unfold ldZ; simp [q1])
    · rw [if_neg (by rw [iI_eq (by omega) (by omega) (by omega) (by omega)]; omega), fA_at hq rfl, gB_s, aI_at (j := i) hda rfl (by omega) (by decide) (hf i hi), gB_s]
      by_cases q2 : Dd S g S.n i = -1
      · rw [if_pos (by rw [q2]; rfl)]
        unfold f_X7_successor_J47
        rw [if_pos rfl]
        exact no (by unfold ldZ; simp [q2])
      · rw [if_neg (by rw [iI_n1, iI_eq (by omega) (by omega) (by omega) (by omega)]; exact q2), gB_s, o3, gB_s, cEnv hS hw ha hi, gB_s, eZ_if]
        by_cases q3 : eZ S a i = 0
        · rw [if_pos q3]
          unfold f_X7_successor_J47
          rw [if_pos rfl]
          exact no (by unfold ldZ; simp [q3])
        · rw [if_neg q3]
          have hld : ldZ S g a i = true := by unfold ldZ; simp [q1, q2, q3]
          unfold f_X7_successor_J47
          rw [if_neg (by decide)]
          simp only [scZ] at ih
          rcases scZ_ok (S := S) (g := g) a i with ⟨e1, e2⟩ | ⟨b, e1, e2, e3, e4, e5⟩
          · rw [if_pos ⟨hld, .inl e1⟩] at ih
            rw [if_pos (by rw [e1]; rfl), iI_1, iI_add]
            exact ih
          · have bb := Dd_b (S := S) (g := g) S.n b
            rw [e1, Int.toNat_natCast] at ih
            rw [e1, if_neg (by rw [iI_n1, iI_eq (by omega) (by omega) (by omega) (by omega)]; omega), fA_at hq rfl, gB_s, aI_at (j := i) hda rfl (by omega) (by decide) (hf i hi), gB_s, gB_s, aI_at (j := b) hda rfl (by omega) (by decide) (hf b (by omega)), gB_s]
            by_cases q4 : Dd S g S.n i < Dd S g S.n b
            · rw [if_pos ⟨hld, .inr q4⟩] at ih
              rw [if_neg (by rw [iI_le (by omega) (by omega) (by omega) (by omega)]; omega), iI_1, iI_add]
              exact ih
            · rw [if_neg (by rintro ⟨-, w | w⟩ <;> omega)] at ih
              rw [if_pos (by rw [iI_le (by omega) (by omega) (by omega) (by omega)]; omega), iI_1, iI_add]
              exact ih
end EK
