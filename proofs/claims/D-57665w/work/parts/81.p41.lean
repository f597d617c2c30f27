/-! ENVY CYCLES: the turn; the calls -/
theorem rem6 : ∀ p : Nat, p < 6 → ∀ d : Nat, d < 7 → 0 < d → (iI p + iI d - (1 : Int32)) - (iI p + iI d - (1 : Int32)) / iI d * iI d = iI ((p + d - 1) % d : Nat) := by decide +kernel
section ER
variable {S : gS} {g : Nat} {m : Nat → Int32}
def roK (S : gS) (g : Nat) (o : Int) : Nat → Int
  | 0 => o
  | k + 1 => if (mbE S g k : Int) = o then (mbE S g ((k + (lenE S g).toNat - 1) % (lenE S g).toNat) : Int) else roK S g o k
def shK (S : gS) (g : Nat) (v : Nat) : Nat → Nat
  | 0 => v
  | i + 1 => if v = (if (i + 1 : Nat) < (lenE S g).toNat then mbE S g (i + 1) else g) then mbE S g i else shK S g v i
theorem roK_no {o : Int} : ∀ k, (∀ j, j < k → (mbE S g j : Int) ≠ o) → roK S g o k = o := by
  intro k
  induction k with
  | zero => intro _; rfl
  | succ k ih =>
    intro h
    simp only [roK]
    rw [if_neg (h k (by omega))]
    exact ih fun j hj => h j (by omega)
theorem roK_at (hg : g < S.n) {p : Nat} (hp : (p : Int) < lenE S g) : ∀ k, p < k → (k : Int) ≤ lenE S g → roK S g (mbE S g p) k = (mbE S g ((p + (lenE S g).toNat - 1) % (lenE S g).toNat) : Int) := by
  intro k
  induction k with
  | zero => intro h; omega
  | succ k ih =>
    intro h hk
    simp only [roK]
    by_cases z : p = k
    · subst z; rw [if_pos rfl]
    · rw [if_neg (fun w => z (mbE_inj hg hp (by omega) (by omega)).symm.symm)]
      exact ih (by omega) (by omega)
theorem shK_no {v : Nat} : ∀ i : Nat, (i : Int) ≤ lenE S g → (∀ j : Nat, (j : Int) < lenE S g → mbE S g j ≠ v) → shK S g v i = v := by
  intro i
  induction i with
  | zero => intro _ _; rfl
  | succ i ih =>
    intro hi h
    simp only [shK]
    rw [if_neg, ih (by omega) h]
    split
    · exact fun w => h (i + 1) (by omega) w.symm
    · exact fun w => h 0 (by omega) w.symm
theorem shK_at (hg : g < S.n) {p : Nat} (hp : (p : Int) < lenE S g) : ∀ i : Nat, (if p = 0 then (lenE S g).toNat - 1 else p - 1) < i → (i : Int) ≤ lenE S g → shK S g (mbE S g p) i = mbE S g (if p = 0 then (lenE S g).toNat - 1 else p - 1) := by
  intro i
  induction i with
  | zero => intro h; omega
  | succ i ih =>
    intro h hi
    simp only [shK]
    by_cases z : (if p = 0 then (lenE S g).toNat - 1 else p - 1) = i
    · rw [z, if_pos]
      by_cases p0 : p = 0
      · rw [if_pos p0] at z
        rw [if_neg (by omega), p0]; rfl
      · rw [if_neg p0] at z
        rw [if_pos (by omega)]
        congr 1; omega
    · rw [if_neg]
      · exact ih (by omega) (by omega)
      · intro w
        split at w
        · have := mbE_inj hg hp (by omega) w
          split at z <;> omega
        · have e0 : mbE S g p = mbE S g 0 := w
          have := mbE_inj hg hp (by omega) e0
          split at z <;> omega
theorem roK_sh (hg : g < S.n) (h1 : 1 ≤ lenE S g) (v : Nat) : roK S g v (lenE S g).toNat = (shK S g v (lenE S g).toNat : Int) := by
  by_cases q : ∃ p : Nat, (p : Int) < lenE S g ∧ mbE S g p = v
  · obtain ⟨p, hp, rfl⟩ := q
    have hlt : (if p = 0 then (lenE S g).toNat - 1 else p - 1) < (lenE S g).toNat := by split <;> omega
    rw [roK_at hg hp _ (by omega) (by omega), shK_at hg hp _ hlt (by omega)]
    congr 2
    by_cases p0 : p = 0
    · rw [if_pos p0, p0, Nat.zero_add]
      exact Nat.mod_eq_of_lt (by omega)
    · rw [if_neg p0, show p + (lenE S g).toNat - 1 = p - 1 + (lenE S g).toNat by omega, Nat.add_mod_right]
      exact Nat.mod_eq_of_lt (by omega)
  · have h : ∀ j : Nat, (j : Int) < lenE S g → mbE S g j ≠ v := fun j hj w => q ⟨j, hj, w⟩
    rw [roK_no _ (fun j hj w => h j (by omega) (by omega)), shK_no _ (by omega) h]
theorem shK_lt (hg : g < S.n) {v : Nat} (hv : v < S.n) : ∀ i : Nat, (i : Int) ≤ lenE S g → shK S g v i < S.n := by
  intro i
  induction i with
  | zero => intro _; exact hv
  | succ i ih =>
    intro hi
    simp only [shK]
    by_cases z : v = (if (i + 1 : Nat) < (lenE S g).toNat then mbE S g (i + 1) else g)
    · rw [if_pos z]; exact (mbE_ok hg i (by omega)).1
    · rw [if_neg z]; exact ih (by omega)
def roF (S : gS) (g : Nat) (k : Nat) : Int := roK S g (S.ow k) (lenE S g).toNat
def roS (S : gS) (g : Nat) : gS := setOw S (roF S g)
theorem roF_b (hw : WF S) (hg : g < S.n) (h1 : 1 ≤ lenE S g) {k : Nat} (hk : k < S.c) : (S.ow k = -1 ∧ roF S g k = -1) ∨ ∃ v : Nat, S.ow k = v ∧ v < S.n ∧ roF S g k = (shK S g v (lenE S g).toNat : Int) ∧ shK S g v (lenE S g).toNat < S.n := by
  have h := hw.2.2.1 k hk
  unfold roF
  by_cases q : S.ow k = -1
  · exact .inl ⟨q, by rw [q]; exact roK_no _ (fun j _ => by omega)⟩
  · obtain ⟨v, hv⟩ : ∃ v : Nat, S.ow k = v := ⟨(S.ow k).toNat, by omega⟩
    exact .inr ⟨v, hv, by omega, by rw [hv]; exact roK_sh hg h1 v, shK_lt hg (by omega) _ (by omega)⟩
theorem roS_wf (hw : WF S) (hg : g < S.n) (h1 : 1 ≤ lenE S g) : WF (roS S g) := WF_ow hw fun k hk => by
  rcases roF_b hw hg h1 hk with ⟨-, e⟩ | ⟨v, -, -, e, l⟩ <;> omega
-- the reference turns
theorem tnK_loop (hw : WF S) (hg : g < S.n) (h1 : 1 ≤ lenE S g) {aT aC : Nat → Int32} (hC : ∀ i : Nat, (i : Int) < lenE S g → aC i = iI (mbE S g i : Nat)) {c : Nat} (hc : c < S.c) {r8 : Int32 → (Nat → Int32) → Option (Int32 × (Nat → Int32) × (Nat → Int32) × (Nat → Int32))} : ∀ (d p fu : Nat) (m : Nat → Int32), (p : Int) + d = lenE S g → d < fu → (∀ k, k < S.c → k ≠ c → True) → m (2 + c) = iI (roK S g (S.ow c) p) → gL2 (f_X6_turnCycle_L28 r8 (iI (lenE S g)) (iI c) (iI (S.ow c)) aT aC) fu (iI p) m = r8 (iI ((c : Int) + 1)) (upd m (2 + c) (iI (roF S g c))) := by
  have hcc := hw.1
  have hn := hw.2.1
  have hl := lenE_b hg
  have ho := hw.2.2.1 c hc
  intro d
  induction d with
  | zero =>
    intro p fu m e hfu _ hm
    obtain ⟨fu, rfl⟩ : ∃ k', fu = k' + 1 := ⟨fu - 1, by omega⟩
    show f_X6_turnCycle_L28 r8 (iI (lenE S g)) (iI c) (iI (S.ow c)) aT aC (gL2 (f_X6_turnCycle_L28 r8 (iI (lenE S g)) (iI c) (iI (S.ow c)) aT aC) fu) _ _ = _
    unfold f_X6_turnCycle_L28
    have ep : p = (lenE S g).toNat := by omega
    have em : upd m (2 + c) (iI (roF S g c)) = m := by
      funext j
      unfold upd
      by_cases z : j = 2 + c
      · subst z
        rw [if_pos rfl, hm, ep]; rfl
      · rw [if_neg z]
    rw [if_pos (by rw [iI_le (by omega) (by omega) (by omega) (by omega)]; omega), iI_1, iI_add, em]
  | succ d ih =>
    intro p fu m e hfu _ hm
    obtain ⟨fu, rfl⟩ : ∃ k', fu = k' + 1 := ⟨fu - 1, by omega⟩
    obtain ⟨mp, -⟩ := mbE_ok hg p (by omega)
    show f_X6_turnCycle_L28 r8 (iI (lenE S g)) (iI c) (iI (S.ow c)) aT aC (gL2 (f_X6_turnCycle_L28 r8 (iI (lenE S g)) (iI c) (iI (S.ow c)) aT aC) fu) _ _ = _
    have ihh := ih (p + 1) fu
    generalize gL2 (f_X6_turnCycle_L28 r8 (iI (lenE S g)) (iI c) (iI (S.ow c)) aT aC) fu = r at ihh ⊢
    unfold f_X6_turnCycle_L28
    rw [Int.natCast_add, Int.natCast_one] at ihh
    obtain ⟨L, hL⟩ : ∃ L : Nat, lenE S g = L := ⟨(lenE S g).toNat, by omega⟩
    rw [if_neg (by rw [iI_le (by omega) (by omega) (by omega) (by omega)]; omega), ra_at (j := p) rfl (by omega) (by decide) (hC p (by omega)), gB_s]
    by_cases z : (mbE S g p : Int) = S.ow c
    · have hrem := rem6 p (by omega) L (by omega) (by omega)
      rw [← hL] at hrem
      have hjl : (p + L - 1) % L < L := Nat.mod_lt _ (by omega)
      rw [if_pos (by rw [z]), if_pos (by rw [show (0 : Int32) = iI 0 from rfl, iI_eq (by omega) (by omega) (by omega) (by omega)]; omega), hrem, ra_at (j := (p + L - 1) % L) rfl (by omega) (by decide) (hC _ (by omega)), gB_s, iI_2, iI_add, wa_at (j := 2 + c) (by omega) (by omega) (by decide), gB_s, iI_1, iI_add]
      rw [ihh _ (by omega) (by omega) (fun _ _ _ => trivial) (by
        unfold upd
        rw [if_pos rfl]
        simp only [roK]
        rw [if_pos z, hL, Int.toNat_natCast])]
      congr 1
      funext j
      unfold upd
      split <;> rfl
    · rw [if_neg (by rw [iI_eq (by omega) (by omega) (by omega) (by omega)]; exact z), iI_1, iI_add]
      exact ihh m (by omega) (by omega) (fun _ _ _ => trivial) (by
        simp only [roK]
        rw [if_neg z]; exact hm)
def roI (S : gS) (g i k : Nat) : Int := if k < i then roF S g k else S.ow k
theorem roI_s {i k : Nat} : roI S g (i + 1) k = if k = i then roF S g i else roI S g i k := by
  unfold roI
  by_cases q : k = i
  · subst q; rw [if_pos (by omega), if_pos rfl]
  · rw [if_neg q]
    by_cases q2 : k < i
    · rw [if_pos (by omega), if_pos q2]
    · rw [if_neg (by omega), if_neg q2]
theorem roI_0 : setOw S (roI S g 0) = S := by
  have : roI S g 0 = S.ow := by
    funext k; unfold roI; rw [if_neg (by omega)]
  rw [this]; rfl
theorem tnC_loop (hw : WF S) (hg : g < S.n) (h1 : 1 ≤ lenE S g) {aT aC : Nat → Int32} (hC : ∀ i : Nat, (i : Int) < lenE S g → aC i = iI (mbE S g i : Nat)) : ∀ (d c fu : Nat) (m : Nat → Int32), c + d = S.c → d < fu → BlkAt m 0 (setOw S (roI S g c)) → ∃ m', gL2 (f_X6_turnCycle_L8 (iI (lenE S g)) aT aC) fu (iI c) m = some (iI (lenE S g), m', aT, aC) ∧ BlkUp m m' (roS S g) := by
  have hcc := hw.1
  have hl := lenE_b hg
  have hn := hw.2.1
  intro d
  induction d with
  | zero =>
    intro c fu m e hfu hB
    obtain ⟨fu, rfl⟩ : ∃ k', fu = k' + 1 := ⟨fu - 1, by omega⟩
    have e1 : c = S.c := by omega
    subst e1
    have hB2 : BlkAt m 0 (roS S g) := by
      refine BlkAt_ow (S := setOw S (roI S g S.c)) (g := roF S g) hB (fun _ _ => rfl) (fun k hk => ?_) hcc.2
      have hk : k < S.c := hk
      have := hB.2.2.1 k hk
      rw [show 212 * 0 + 2 + k = 2 + k by omega] at this
      rw [this]
      show iI (roI S g S.c k) = _
      unfold roI; rw [if_pos hk]
    refine ⟨m, ?_, hB2, fun _ _ => rfl⟩
    show f_X6_turnCycle_L8 (iI (lenE S g)) aT aC (gL2 (f_X6_turnCycle_L8 (iI (lenE S g)) aT aC) fu) _ _ = _
    unfold f_X6_turnCycle_L8
    rw [show g_ra 2120 m (0 : Int32) = some (iI S.c) from b_c (S := setOw S (roI S g S.c)) hB, gB_s, if_pos (Int32.le_refl _)]
  | succ d ih =>
    intro c fu m e hfu hB
    obtain ⟨fu, rfl⟩ : ∃ k', fu = k' + 1 := ⟨fu - 1, by omega⟩
    have hc : c < S.c := by omega
    have ho := hw.2.2.1 c hc
    have hoc : f_X6_ownerOf (iI c) m = some (iI (S.ow c)) := by
      rw [b_own hB (by show c < S.c; omega) hcc.2]
      show some (iI (roI S g c c)) = _
      unfold roI; rw [if_neg (by omega)]
    have hmc : m (2 + c) = iI (S.ow c) := by
      have := hB.2.2.1 c hc
      rw [show 212 * 0 + 2 + c = 2 + c by omega] at this
      rw [this]
      show iI (roI S g c c) = _
      unfold roI; rw [if_neg (by omega)]
    have e1 := tnK_loop hw hg h1 (aT := aT) hC hc (r8 := gL2 (f_X6_turnCycle_L8 (iI (lenE S g)) aT aC) fu) (lenE S g).toNat 0 gN m (by omega) (by unfold gN; omega) (fun _ _ _ => trivial) hmc
    have u : BlkUp m (upd m (2 + c) (iI (roF S g c))) (setOw S (roI S g (c + 1))) := by
      refine ⟨BlkAt_ow (S := setOw S (roI S g c)) hB (fun j hj => ?_) (fun j hj => ?_) hcc.2, fun j hj => ?_⟩
      · have : j < 2 ∨ 2 + S.c ≤ j := hj
        unfold upd; rw [if_neg (by omega)]
      · have hj : j < S.c := hj
        unfold upd
        by_cases q : j = c
        · subst q; rw [if_pos rfl, roI_s, if_pos rfl]
        · rw [if_neg (by omega), roI_s, if_neg q]
          have := hB.2.2.1 j hj
          rw [show 212 * 0 + 2 + j = 2 + j by omega] at this
          exact this
      · unfold upd; rw [if_neg (by omega)]
    obtain ⟨m', e2, e3⟩ := ih (c + 1) fu _ (by omega) (by omega) u.1
    refine ⟨m', ?_, u.trans e3⟩
    show f_X6_turnCycle_L8 (iI (lenE S g)) aT aC (gL2 (f_X6_turnCycle_L8 (iI (lenE S g)) aT aC) fu) _ _ = _
    generalize gL2 (f_X6_turnCycle_L8 (iI (lenE S g)) aT aC) fu = r at e1 e2 ⊢
    unfold f_X6_turnCycle_L8
    rw [Int.natCast_add, Int.natCast_one] at e2
    rw [show g_ra 2120 m (0 : Int32) = some (iI S.c) from b_c (S := setOw S (roI S g c)) hB, gB_s, if_neg (by rw [iI_le (by omega) (by omega) (by omega) (by omega)]; show ¬ (S.c : Int) ≤ _; omega), hoc, gB_s]
    exact e1.trans e2
theorem mTurn (hB : BlkAt m 0 S) (hw : WF S) (hg : g < S.n) (h1 : 1 ≤ lenE S g) (aT aC : Nat → Int32) : ∃ m' aT' aC', f_X6_turnCycle (iI g) m aT aC = some (iI (lenE S g), m', aT', aC') ∧ BlkUp m m' (roS S g) := by
  have hcc := hw.1
  obtain ⟨aT', aC', e1, hC⟩ := mFc hB hw hg aT aC
  obtain ⟨m', e2, u⟩ := tnC_loop hw hg h1 (aT := aT') hC S.c 0 gN m (by omega) (by unfold gN; omega) (by rw [roI_0]; exact hB)
  refine ⟨m', aT', aC', ?_, u⟩
  unfold f_X6_turnCycle
  rw [e1, gT3_s]
  exact e2
end ER
