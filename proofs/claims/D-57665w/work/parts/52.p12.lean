/-! CHANGES, 5: the moving knife, whole -/
def knS (S : gS) : gS := knZ 6 (owG S (-1) 0 S.c) (fun _ => false) 0 S.n
theorem unN_all : ∀ n, unN (fun _ => false) n = n := by
  intro n
  induction n with
  | zero => rfl
  | succ n ih => simp only [unN]; rw [ih]; rfl
theorem knS_wf {S : gS} (hw : WF S) : WF (knS S) := knZ_wf _ _ _ _ _ (WF_owG hw ⟨by omega, by have := hw.2.1; omega⟩)
section CH12
theorem svC_loop {st : Nat} {S : gS} {sa : Nat → Nat} (hn : S.n ≤ 6) : ∀ (d i k : Nat) (h : gH) (g : Nat → Int32), i + d = S.n → d < k → StAt h st S sa → h (st + 3) = some (.inl (2, 6, .inl g)) → (∀ j, j < i → g j = 0) → ∃ h', gL2 (f_X2_movingKnife_L13 st) k (iI i) h = f_X2_movingKnife_J34 st h' ∧ StAt h' st S sa ∧ SvAt h' st (fun _ => false) S.n ∧ FrO h h' st := by
  intro d
  induction d with
  | zero =>
    intro i k h g e hk hS hg hz
    obtain ⟨k, rfl⟩ : ∃ k', k = k' + 1 := ⟨k - 1, by omega⟩
    obtain ⟨fs, h1⟩ := a_obj hS
    refine ⟨h, ?_, hS, ⟨g, hg, fun j hj => by rw [hz j (by omega)]; rfl⟩, FrO.rf⟩
    show f_X2_movingKnife_L13 st (gL2 (f_X2_movingKnife_L13 st) k) _ _ = _
    unfold f_X2_movingKnife_L13
    rw [h1, gB_s, a_size hS, gB_s, if_pos (by rw [iI_le (by omega) (by omega) (by omega) (by omega)]; omega)]
  | succ d ih =>
    intro i k h g e hk hS hg hz
    obtain ⟨k, rfl⟩ : ∃ k', k = k' + 1 := ⟨k - 1, by omega⟩
    obtain ⟨fs, h1⟩ := a_obj hS
    have hS2 := StAt_sv' (f := upd g i 0) hS hS
    obtain ⟨h', e1, e2, e3, e4⟩ := ih (i + 1) k (g_up h (st + 3) (.inl (2, 6, .inl (upd g i 0)))) (upd g i 0) (by omega) (by omega) hS2 g_up_s (fun j hj => by
      by_cases z : j = i
      · simp [upd, z]
      · simp only [upd]; rw [if_neg z]; exact hz j (by omega))
    refine ⟨h', ?_, e2, e3, fun b q1 q2 => by rw [e4 b q1 q2, g_up_n q1]⟩
    show f_X2_movingKnife_L13 st (gL2 (f_X2_movingKnife_L13 st) k) _ _ = _
    generalize gL2 (f_X2_movingKnife_L13 st) k = r at e1 ⊢
    unfold f_X2_movingKnife_L13
    have hnar : vp_nar .boolean (0 : Int32) = 0 := by decide
    rw [Int.natCast_add, Int.natCast_one] at e1
    rw [h1, gB_s, a_size hS, gB_s, if_neg (by rw [iI_le (by omega) (by omega) (by omega) (by omega)]; omega), a_sv hS, gB_s, hnar, sI_at hg rfl (by omega) (by omega), gB_s, iI_1, iI_add]
    exact e1
theorem cKn {h : gH} {st : Nat} {S : gS} {sa : Nat → Nat} (hS : StAt h st S sa) (hw : WF S) : ∃ h', f_X2_movingKnife st h = some (iI (sumZ (satZ (knS S)) S.n), h') ∧ StAt h' st (knS S) sa ∧ FrO h h' st := by
  have hc := hw.1
  have hn := hw.2.1
  obtain ⟨fs, h1⟩ := a_obj hS
  obtain ⟨h2, e2, u2⟩ := cRel hS hw (a := 0) (e := S.c) (by omega) (Nat.le_refl _)
  have hS2 : StAt h2 st (owG S (-1) 0 S.c) sa := OwUp.st (g := (owG S (-1) 0 S.c).ow) hS u2
  have hw2 := WF_owG (o := -1) (a := 0) (e := S.c) hw (by omega)
  obtain ⟨g, hg⟩ := hS2.2.2.2.1
  obtain ⟨h3, e3, hS3, hv3, fr3⟩ := svC_loop (by show S.n ≤ 6; omega) S.n 0 gN h2 g (by show 0 + S.n = S.n; omega) (by unfold gN; omega) hS2 hg (fun j hj => by omega)
  obtain ⟨h4, e4, hS4, fr4⟩ := knC_loop 6 (owG S (-1) 0 S.c) (fun _ => false) 0 S.n h3 gN hw2 hS3 hv3 (unN_all _) (by omega) (by omega) (by omega) (by unfold gN; omega) (by show 0 ≤ S.c; omega)
  obtain ⟨fs3, o3⟩ := a_obj hS3
  refine ⟨h4, ?_, hS4, (u2.fr.trans fr3).trans fr4⟩
  unfold f_X2_movingKnife
  have e2' : f_X2_release st (0 : Int32) (iI (S.c : Int) - (1 : Int32)) h = some h2 := by rw [iI_1, iI_sub]; exact e2
  rw [h1, gB_s, a_cells hS, gB_s, e2', gB_s]
  refine Eq.trans e3 ?_
  unfold f_X2_movingKnife_J34
  rw [o3, gB_s, a_size hS3, gB_s]
  exact e4
-- the reference
theorem clM_loop {S : gS} : ∀ (d i k : Nat) (m : Nat → Int32), i + d = S.c → d < k → S.c ≤ 24 → m 0 = iI S.c → gL2 f_X6_clear_L2 k (iI i) m = some (fun j => if 2 + i ≤ j ∧ j < 2 + S.c then iI (-1) else m j) := by
  intro d
  induction d with
  | zero =>
    intro i k m e1 hk hc hm
    obtain ⟨k, rfl⟩ : ∃ k', k = k' + 1 := ⟨k - 1, by omega⟩
    show f_X6_clear_L2 (gL2 f_X6_clear_L2 k) _ _ = _
    unfold f_X6_clear_L2
    rw [show g_ra 2120 m (0 : Int32) = some (iI S.c) from ra_at (j := 0) rfl (by decide) (by decide) hm, gB_s, if_pos (by rw [iI_le (by omega) (by omega) (by omega) (by omega)]; omega)]
    congr 1
    funext j
    rw [if_neg (by omega)]
  | succ d ih =>
    intro i k m e1 hk hc hm
    obtain ⟨k, rfl⟩ : ∃ k', k = k' + 1 := ⟨k - 1, by omega⟩
    show f_X6_clear_L2 (gL2 f_X6_clear_L2 k) _ _ = _
    have ih := ih (i + 1) k (upd m (2 + i) (iI (-1))) (by omega) (by omega) hc (by simp only [upd]; rw [if_neg (by omega)]; exact hm)
    generalize gL2 f_X6_clear_L2 k = r at ih ⊢
    unfold f_X6_clear_L2
    rw [show g_ra 2120 m (0 : Int32) = some (iI S.c) from ra_at (j := 0) rfl (by decide) (by decide) hm, gB_s, if_neg (by rw [iI_le (by omega) (by omega) (by omega) (by omega)]; omega), iI_2, iI_add, iI_n1, wa_at (j := 2 + i) (by omega) (by omega) (by decide), gB_s, iI_1, iI_add]
    rw [Int.natCast_add, Int.natCast_one] at ih
    rw [ih]
    congr 1
    funext j
    by_cases q : j = 2 + i
    · subst q
      rw [if_neg (by omega), if_pos (by omega)]
      simp [upd]
    · rw [show upd m (2 + i) (iI (-1)) j = m j by simp [upd, q]]
      by_cases q2 : 2 + i ≤ j ∧ j < 2 + S.c
      · rw [if_pos q2, if_pos (by omega)]
      · rw [if_neg q2, if_neg (by omega)]
theorem mClr {m : Nat → Int32} {S : gS} (hB : BlkAt m 0 S) (hw : WF S) : ∃ m', f_X6_clear m = some m' ∧ BlkUp m m' (owG S (-1) 0 S.c) := by
  have hc := hw.1
  have h1 := clM_loop (S := S) S.c 0 gN m (by omega) (by unfold gN; omega) hc.2 hB.1
  refine ⟨_, h1, BlkAt_ow hB (fun j hj => by show (if 2 + 0 ≤ j ∧ j < 2 + S.c then iI (-1) else m j) = m j; rw [if_neg (by omega)]) (fun k hk => ?_) hc.2, fun j hj => by show (if 2 + 0 ≤ j ∧ j < 2 + S.c then iI (-1) else m j) = m j; rw [if_neg (by omega)]⟩
  show (if 2 + 0 ≤ 2 + k ∧ 2 + k < 2 + S.c then iI (-1) else m (2 + k)) = iI (if 0 ≤ k ∧ k < S.c then -1 else S.ow k)
  rw [if_pos (by omega), if_pos (by omega)]
theorem svM_loop {m : Nat → Int32} : ∀ (d i k : Nat) (a : Nat → Int32), i + d = 6 → d < k → (∀ j, j < i → a j = 0) → ∃ a', gL2 (f_X6_knife_L6 m) k (iI i) a = f_X6_knife_J25 m a' ∧ SvM a' (fun _ => false) 6 := by
  intro d
  induction d with
  | zero =>
    intro i k a e hk hz
    obtain ⟨k, rfl⟩ : ∃ k', k = k' + 1 := ⟨k - 1, by omega⟩
    refine ⟨a, ?_, fun j hj => by rw [hz j (by omega)]; rfl⟩
    show f_X6_knife_L6 m (gL2 (f_X6_knife_L6 m) k) _ _ = _
    unfold f_X6_knife_L6
    rw [if_pos (by rw [iI_6, iI_le (by omega) (by omega) (by omega) (by omega)]; omega)]
  | succ d ih =>
    intro i k a e hk hz
    obtain ⟨k, rfl⟩ : ∃ k', k = k' + 1 := ⟨k - 1, by omega⟩
    obtain ⟨a', e1, e2⟩ := ih (i + 1) k (upd a i 0) (by omega) (by omega) (fun j hj => by
      by_cases z : j = i
      · simp [upd, z]
      · simp only [upd]; rw [if_neg z]; exact hz j (by omega))
    refine ⟨a', ?_, e2⟩
    show f_X6_knife_L6 m (gL2 (f_X6_knife_L6 m) k) _ _ = _
    generalize gL2 (f_X6_knife_L6 m) k = r at e1 ⊢
    unfold f_X6_knife_L6
    have hnar : vp_nar .boolean (0 : Int32) = 0 := by decide
    rw [Int.natCast_add, Int.natCast_one] at e1
    rw [if_neg (by rw [iI_6, iI_le (by omega) (by omega) (by omega) (by omega)]; omega), hnar, wa_at (j := i) rfl (by omega) (by decide), gB_s, iI_1, iI_add]
    exact e1
theorem knM_in {m a : Nat → Int32} {S : gS} {sv : Nat → Bool} {l q : Nat} (hB : BlkAt m 0 S) (hw : WF S) (hv : SvM a sv S.n) (hl : l < S.c) (hq : 1 ≤ q ∧ q ≤ 6) {r : Int32 → Int32 → (Nat → Int32) → (Nat → Int32) → Option (Int32 × (Nat → Int32) × (Nat → Int32))} : ∀ d i k : Nat, i + d = S.n → d < k → gL3 (f_X6_knife_L63 r (iI l) (iI q) m a) k (iI (slZ S sv l q i).1) (iI ((slZ S sv l q i).2 : Nat)) (iI i) = f_X6_knife_J141 r (iI l) (iI q) (iI (slZ S sv l q S.n).1) (iI ((slZ S sv l q S.n).2 : Nat)) m a := by
  have hn := hw.2.1
  have hc := hw.1
  intro d
  induction d with
  | zero =>
    intro i k e hk
    obtain ⟨k, rfl⟩ : ∃ k', k = k' + 1 := ⟨k - 1, by omega⟩
    show f_X6_knife_L63 r (iI l) (iI q) m a (gL3 (f_X6_knife_L63 r (iI l) (iI q) m a) k) _ _ _ = _
    unfold f_X6_knife_L63
    have e1 : i = S.n := by omega
    subst e1
    rw [iI_1, b_n hB, gB_s, if_pos (by rw [iI_le (by omega) (by omega) (by omega) (by omega)]; omega)]
  | succ d ih =>
    intro i k e hk
    obtain ⟨k, rfl⟩ : ∃ k', k = k' + 1 := ⟨k - 1, by omega⟩
    show f_X6_knife_L63 r (iI l) (iI q) m a (gL3 (f_X6_knife_L63 r (iI l) (iI q) m a) k) _ _ _ = _
    have hi : i < S.n := by omega
    have b1 := slZ_b (S := S) (sv := sv) (l := l) (q := q) hl i
    have b2 := mkQ_b (S := S) (l := l) (q := q) (k := i) hl
    have ih := ih (i + 1) k (by omega) (by omega)
    generalize gL3 (f_X6_knife_L63 r (iI l) (iI q) m a) k = r63 at ih ⊢
    unfold f_X6_knife_L63
    rw [Int.natCast_add, Int.natCast_one] at ih
    rw [iI_1, b_n hB, gB_s, if_neg (by rw [iI_le (by omega) (by omega) (by omega) (by omega)]; omega), ra_at (j := i) rfl (by omega) (by decide) (hv i hi), gB_s, ← ih]
    simp only [slZ]
    have fin : f_X6_knife_J111 r r63 (iI l) (iI q) (iI (slZ S sv l q i).1) (iI ((slZ S sv l q i).2 : Nat)) (iI i) (iI (mkQ S l q i : Nat)) m a = r63 (iI (if (slZ S sv l q i).1 = -1 ∨ mkQ S l q i < (slZ S sv l q i).2 then ((i : Int), mkQ S l q i) else slZ S sv l q i).1) (iI ((if (slZ S sv l q i).1 = -1 ∨ mkQ S l q i < (slZ S sv l q i).2 then ((i : Int), mkQ S l q i) else slZ S sv l q i).2 : Nat)) (iI ((i : Int) + 1)) := by
      unfold f_X6_knife_J111
      rw [iI_n1, iI_1, iI_add]
      by_cases w3 : (slZ S sv l q i).1 = -1
      · rw [if_pos (by rw [w3]), if_pos (Or.inl w3)]
      · rw [if_neg (by rw [iI_eq (by omega) (by omega) (by omega) (by omega)]; exact w3)]
        by_cases w2 : mkQ S l q i < (slZ S sv l q i).2
        · rw [if_pos (by rw [iI_lt (by omega) (by omega) (by omega) (by omega)]; omega), if_pos (Or.inr w2)]
        · rw [if_neg (by rw [iI_lt (by omega) (by omega) (by omega) (by omega)]; omega), if_neg (by intro z; rcases z with z | z; exact w3 z; exact w2 z)]
    by_cases w : sv i = true
    · rw [if_pos w, if_neg (by decide), if_pos w, iI_add]
    · rw [if_neg w, if_pos rfl, if_neg w]
      by_cases w4 : q = 1
      · have em : mkQ S l q i = S.c - 1 := by unfold mkQ; rw [if_pos w4]
        rw [if_pos (by rw [w4]; rfl), iI_0, b_c hB, gB_s, iI_sub, ← fin, em]
        congr 2
        omega
      · have em : mkQ S l q i = mkZ S i l q := by unfold mkQ; rw [if_neg w4]
        rw [if_neg (by rw [iI_eq (by omega) (by omega) (by omega) (by omega)]; omega), mMk hB hw hi hl (by omega), gB_s, ← em]
        exact fin
theorem knM_loop : ∀ (f : Nat) (S : gS) (sv : Nat → Bool) (l q : Nat) (m a : Nat → Int32) (k : Nat), WF S → BlkAt m 0 S → SvM a sv S.n → unN sv S.n = q → q ≤ 6 → q ≤ f → f < k → l ≤ S.c → ∃ m' a', gL4 f_X6_knife_L34 k (iI l) (iI q) m a = some (iI (sumZ (satZ (knZ f S sv l q)) S.n), m', a') ∧ BlkUp m m' (knZ f S sv l q) := by
  intro f
  induction f with
  | zero =>
    intro S sv l q m a k hw hB hv hu h6 hf hk hl
    obtain ⟨k, rfl⟩ : ∃ k', k = k' + 1 := ⟨k - 1, by omega⟩
    refine ⟨m, a, ?_, BlkUp.rf hB⟩
    show f_X6_knife_L34 (gL4 f_X6_knife_L34 k) _ _ _ _ = _
    unfold f_X6_knife_L34
    rw [if_pos (by rw [iI_0, iI_le (by omega) (by omega) (by omega) (by omega)]; omega), mSatN hB hw, gB_s]
    rfl
  | succ f ih =>
    intro S sv l q m a k hw hB hv hu h6 hf hk hlc
    obtain ⟨k, rfl⟩ : ∃ k', k = k' + 1 := ⟨k - 1, by omega⟩
    have hc := hw.1
    have hn := hw.2.1
    have ih := fun S2 sv2 l2 q2 m2 a2 => ih S2 sv2 l2 q2 m2 a2 k
    have unf : ∀ (x y : Int32) (hh aa : Nat → Int32), gL4 f_X6_knife_L34 (k + 1) x y hh aa = f_X6_knife_L34 (gL4 f_X6_knife_L34 k) x y hh aa := fun _ _ _ _ => rfl
    rw [unf]
    generalize gL4 f_X6_knife_L34 k = r at ih ⊢
    simp only [knZ]
    unfold f_X6_knife_L34
    by_cases w1 : q = 0
    · rw [if_pos (by rw [iI_0, iI_le (by omega) (by omega) (by omega) (by omega)]; omega), mSatN hB hw, gB_s, if_pos (Or.inl w1)]
      exact ⟨m, a, rfl, BlkUp.rf hB⟩
    · rw [if_neg (by rw [iI_0, iI_le (by omega) (by omega) (by omega) (by omega)]; omega), iI_0, b_c hB, gB_s]
      by_cases w2 : S.c ≤ l
      · rw [if_pos (by rw [iI_le (by omega) (by omega) (by omega) (by omega)]; omega), mSatN hB hw, gB_s, if_pos (Or.inr w2)]
        exact ⟨m, a, rfl, BlkUp.rf hB⟩
      · obtain ⟨fu1, fu2, fu3⟩ := fuZ_spec (sv := sv) (n := S.n) (by omega)
        have hl : l < S.c := by omega
        have b1 := slZ_b (S := S) (sv := sv) (l := l) (q := q) hl S.n
        have sne := slZ_some (S := S) (l := l) (q := q) S.n _ fu2 fu1
        have ein := knM_in (q := q) hB hw hv hl (by omega) (r := r) S.n 0 gN (by omega) (by unfold gN; omega)
        rw [if_neg (by rw [iI_le (by omega) (by omega) (by omega) (by omega)]; omega), if_neg (by omega), gB_s, iI_1, iI_sub]
        have e5 : gL3 (f_X6_knife_L63 r (iI l) (iI q) m a) gN (-(iI 1)) (iI ((S.c : Int) - 1)) (iI 0) = f_X6_knife_J141 r (iI l) (iI q) (iI (slZ S sv l q S.n).1) (iI ((slZ S sv l q S.n).2 : Nat)) m a := by
          have e4 : (iI ((S.c : Int) - 1)) = iI ((slZ S sv l q 0).2 : Nat) := congrArg iI (by show (S.c : Int) - 1 = ((S.c - 1 : Nat) : Int); omega)
          rw [e4]
          exact ein
        rw [e5]
        obtain ⟨b, hb⟩ : ∃ b : Nat, (slZ S sv l q S.n).1 = (b : Int) := ⟨(slZ S sv l q S.n).1.toNat, by omega⟩
        generalize hmk : (slZ S sv l q S.n).2 = mk at b1 ⊢
        have hsb := b1.2.2 sne
        rw [hb] at hsb b1 ⊢
        rw [Int.toNat_natCast] at hsb ⊢
        obtain ⟨m3, e3, u3⟩ := mOwn' hB hw (o := b) (a := l) (e := mk + 1) (by omega) (by omega)
        have hw3 := WF_owG (o := (b : Int)) (a := l) (e := mk + 1) hw (by omega)
        have hv4 : SvM (upd a b 1) (svS sv b) (owG S b l (mk + 1)).n := by
          intro j hj
          show upd a b 1 j = if (if j = b then true else sv j) = true then 1 else 0
          by_cases z : j = b
          · simp [upd, z]
          · rw [if_neg z, ← hv j hj]; simp [upd, z]
        have hu4 : unN (svS sv b) (owG S b l (mk + 1)).n = q - 1 := by
          have := (unN_set hsb S.n).2 (by omega)
          show unN (fun k => if k = b then true else sv k) S.n = q - 1
          omega
        obtain ⟨m5, a5, e6, u6⟩ := ih (owG S b l (mk + 1)) (svS sv b) (mk + 1) (q - 1) m3 (upd a b 1) hw3 u3.1 hv4 hu4 (by omega) (by omega) (by omega) (by show mk + 1 ≤ S.c; omega)
        refine ⟨m5, a5, ?_, u3.trans u6⟩
        unfold f_X6_knife_J141
        have e3' : f_X6_own (iI (b : Int)) (iI l) (iI (mk : Int)) m = some m3 := by rw [← e3]; congr 2; omega
        have hnar : vp_nar .boolean (1 : Int32) = 1 := by decide
        rw [e3', gB_s, hnar, wa_at (j := b) rfl (by omega) (by decide), gB_s, iI_n1, iI_1, iI_add, iI_add]
        have e7 : (mk : Int) + 1 = ((mk + 1 : Nat) : Int) := by omega
        have e8 : (q : Int) + -1 = ((q - 1 : Nat) : Int) := by omega
        rw [e7, e8]
        exact e6
theorem mKn {m a : Nat → Int32} {S : gS} (hB : BlkAt m 0 S) (hw : WF S) : ∃ m' a', f_X6_knife m a = some (iI (sumZ (satZ (knS S)) S.n), m', a') ∧ BlkUp m m' (knS S) := by
  have hc := hw.1
  have hn := hw.2.1
  obtain ⟨m2, e2, u2⟩ := mClr hB hw
  have hw2 := WF_owG (o := -1) (a := 0) (e := S.c) hw (by omega)
  obtain ⟨a3, e3, v3⟩ := svM_loop (m := m2) 6 0 gN a (by omega) (by unfold gN; omega) (fun j hj => by omega)
  obtain ⟨m4, a4, e4, u4⟩ := knM_loop 6 (owG S (-1) 0 S.c) (fun _ => false) 0 S.n m2 a3 gN hw2 u2.1 (fun k hk => v3 k (by have : k < S.n := hk; omega)) (unN_all _) (by omega) (by omega) (by unfold gN; omega) (by show 0 ≤ S.c; omega)
  refine ⟨m4, a4, ?_, u2.trans u4⟩
  unfold f_X6_knife
  rw [e2, gB_s]
  refine Eq.trans e3 ?_
  unfold f_X6_knife_J25
  rw [iI_1, b_n u2.1, gB_s]
  exact e4
end CH12
