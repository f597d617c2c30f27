/-! CHANGES, 1: owners -/
def setOw (S : gS) (f : Nat → Int) : gS := (S.c, S.n, f, S.v, S.nm)
def owG (S : gS) (o : Int) (a e : Nat) : gS := setOw S fun k => if a ≤ k ∧ k < e then o else S.ow k
theorem g_up_id {h : gH} {q : Nat} {e : gE} (hq : h q = some e) : g_up h q e = h := by
  funext b
  by_cases hb : b = q
  · subst hb; rw [g_up_s, hq]
  · rw [g_up_n hb]
section CH8
variable {h : gH} {st cd : Nat} {S : gS} {sa : Nat → Nat} {m : Nat → Int32}
theorem giveC_loop {c : Nat} (hc : c ≤ 24) {o : Int} {e : Nat} (he : e ≤ c) : ∀ (d i k : Nat) (h : gH) (f : Nat → Int32), i + d = e → d < k → h st = some (.inr (0, [.ref (st + 1), .ref (st + 4), .ref (st + 3)])) → h (st + 4) = some (.inl (0, c, .inl f)) → gL2 (f_X2_give_L3 st (iI o) (iI ((e : Int) - 1))) k (iI i) h = some (g_up h (st + 4) (.inl (0, c, .inl (fun j => if i ≤ j ∧ j < e then iI o else f j)))) := by
  intro d
  induction d with
  | zero =>
    intro i k h f e1 hk h1 h2
    obtain ⟨k, rfl⟩ : ∃ k', k = k' + 1 := ⟨k - 1, by omega⟩
    show f_X2_give_L3 st (iI o) (iI ((e : Int) - 1)) (gL2 (f_X2_give_L3 st (iI o) (iI ((e : Int) - 1))) k) _ _ = _
    unfold f_X2_give_L3
    rw [if_pos (by rw [iI_lt (by omega) (by omega) (by omega) (by omega)]; omega)]
    have e2 : (fun j => if i ≤ j ∧ j < e then iI o else f j) = f := by
      funext j
      rw [if_neg (by omega)]
    rw [e2, g_up_id h2]
  | succ d ih =>
    intro i k h f e1 hk h1 h2
    obtain ⟨k, rfl⟩ : ∃ k', k = k' + 1 := ⟨k - 1, by omega⟩
    show f_X2_give_L3 st (iI o) (iI ((e : Int) - 1)) (gL2 (f_X2_give_L3 st (iI o) (iI ((e : Int) - 1))) k) _ _ = _
    have h3 : g_up h (st + 4) (.inl (0, c, .inl (upd f i (iI o)))) st = some (.inr (0, [.ref (st + 1), .ref (st + 4), .ref (st + 3)])) := by rw [g_up_n (by omega)]; exact h1
    have ih := ih (i + 1) k (g_up h (st + 4) (.inl (0, c, .inl (upd f i (iI o))))) (upd f i (iI o)) (by omega) (by omega) h3 g_up_s
    generalize gL2 (f_X2_give_L3 st (iI o) (iI ((e : Int) - 1))) k = r at ih ⊢
    unfold f_X2_give_L3
    rw [if_neg (by rw [iI_lt (by omega) (by omega) (by omega) (by omega)]; omega), fA_at h1 rfl, gB_s, sI_at h2 rfl (by omega) (by omega), gB_s, iI_1, iI_add]
    rw [Int.natCast_add, Int.natCast_one] at ih
    rw [ih, g_up_up]
    congr 6
    funext j
    by_cases q : j = i
    · subst q
      rw [if_neg (by omega), if_pos (by omega)]
      simp [upd]
    · rw [show upd f i (iI o) j = f j by simp [upd, q]]
      by_cases q2 : i ≤ j ∧ j < e
      · rw [if_pos q2, if_pos (by omega)]
      · rw [if_neg q2, if_neg (by omega)]
/-- the new owners, at st -/
theorem StAt_ow {f : Nat → Int32} {g : Nat → Int} (hS : StAt h st S sa) (hf : ∀ k, k < S.c → f k = iI (g k)) : StAt (g_up h (st + 4) (.inl (0, S.c, .inl f))) st (setOw S g) sa := by
  obtain ⟨h1, ⟨mc, h2⟩, ⟨f3, h3, h3'⟩, ⟨f4, h4⟩, ⟨f5, h5, h5'⟩, h6⟩ := hS
  refine ⟨by rw [g_up_n (by omega)]; exact h1, ⟨mc, by rw [g_up_n (by omega)]; exact h2⟩, ⟨f3, by rw [g_up_n (by omega)]; exact h3, h3'⟩, ⟨f4, by rw [g_up_n (by omega)]; exact h4⟩, ⟨f, g_up_s, hf⟩, fun s hs => ?_⟩
  obtain ⟨na, w1, ⟨f7, w2, w2'⟩, ⟨f8, w3, w3'⟩⟩ := h6 s hs
  have n1 : sa s ≠ st + 4 := fun q => by rw [q] at w1; rw [w1] at h5; cases h5
  have n2 : sa s + 1 ≠ st + 4 := fun q => by
    have q2 : sa s = st + 3 := by omega
    rw [q2] at w1; rw [w1] at h4; cases h4
  have n3 : na ≠ st + 4 := fun q => by rw [q] at w3; rw [w3] at h5; cases h5
  exact ⟨na, by rw [g_up_n n1]; exact w1, ⟨f7, by rw [g_up_n n2]; exact w2, w2'⟩, ⟨f8, by rw [g_up_n n3]; exact w3, w3'⟩⟩
/-- .. and any other state stays -/
theorem StAt_ow' {S2 : gS} {sa2 : Nat → Nat} {st2 : Nat} {y : gE} (hS : StAt h st S sa) (hT : StAt h st2 S2 sa2) (hne : st2 ≠ st) : StAt (g_up h (st + 4) y) st2 S2 sa2 := by
  obtain ⟨-, -, -, ⟨g4, k4⟩, ⟨g5, k5, -⟩, -⟩ := hS
  obtain ⟨h1, ⟨mc, h2⟩, ⟨f3, h3, h3'⟩, ⟨f4, h4⟩, ⟨f5, h5, h5'⟩, h6⟩ := hT
  refine ⟨by rw [g_up_n (fun q => by rw [q, k5] at h1; cases h1)]; exact h1, ⟨mc, by rw [g_up_n (fun q => by rw [q, k5] at h2; cases h2)]; exact h2⟩, ⟨f3, by rw [g_up_n (fun q => by rw [q, k5] at h3; cases h3)]; exact h3, h3'⟩, ⟨f4, by rw [g_up_n (fun q => by rw [q, k5] at h4; cases h4)]; exact h4⟩, ⟨f5, by rw [g_up_n (by omega)]; exact h5, h5'⟩, fun s hs => ?_⟩
  obtain ⟨na, w1, ⟨f7, w2, w2'⟩, ⟨f8, w3, w3'⟩⟩ := h6 s hs
  have n1 : sa2 s ≠ st + 4 := fun q => by rw [q, k5] at w1; cases w1
  have n2 : sa2 s + 1 ≠ st + 4 := fun q => by
    have q2 : sa2 s = st + 3 := by omega
    rw [q2, k4] at w1; cases w1
  have n3 : na ≠ st + 4 := fun q => by rw [q, k5] at w3; cases w3
  exact ⟨na, by rw [g_up_n n1]; exact w1, ⟨f7, by rw [g_up_n n2]; exact w2, w2'⟩, ⟨f8, by rw [g_up_n n3]; exact w3, w3'⟩⟩
/-- .. and so when st's served flags are written -/
theorem StAt_sv' {S2 : gS} {sa2 : Nat → Nat} {st2 : Nat} {f : Nat → Int32} (hS : StAt h st S sa) (hT : StAt h st2 S2 sa2) : StAt (g_up h (st + 3) (.inl (2, 6, .inl f))) st2 S2 sa2 := by
  obtain ⟨-, -, ⟨g3, k3, -⟩, ⟨g4, k4⟩, -, -⟩ := hS
  obtain ⟨h1, ⟨mc, h2⟩, ⟨f3, h3, h3'⟩, ⟨f4, h4⟩, ⟨f5, h5, h5'⟩, h6⟩ := hT
  refine ⟨by rw [g_up_n (fun q => by rw [q, k4] at h1; cases h1)]; exact h1, ⟨mc, by rw [g_up_n (fun q => by rw [q, k4] at h2; cases h2)]; exact h2⟩, ⟨f3, by rw [g_up_n (fun q => by rw [q, k4] at h3; cases h3)]; exact h3, h3'⟩, ?_, ⟨f5, by rw [g_up_n (fun q => by rw [q, k4] at h5; cases h5)]; exact h5, h5'⟩, fun s hs => ?_⟩
  · by_cases q : st2 = st
    · subst q; exact ⟨f, g_up_s⟩
    · exact ⟨f4, by rw [g_up_n (by omega)]; exact h4⟩
  obtain ⟨na, w1, ⟨f7, w2, w2'⟩, ⟨f8, w3, w3'⟩⟩ := h6 s hs
  exact ⟨na, by rw [g_up_n (fun q => by rw [q, k4] at w1; cases w1)]; exact w1, ⟨f7, by rw [g_up_n (fun q => by rw [q, k4] at w2; cases w2)]; exact w2, w2'⟩, ⟨f8, by rw [g_up_n (fun q => by rw [q, k4] at w3; cases w3)]; exact w3, w3'⟩⟩
theorem cGive (hS : StAt h st S sa) (hw : WF S) {o : Int} {a e : Nat} (hae : a ≤ e) (he : e ≤ S.c) : ∃ f : Nat → Int32, f_X2_give st (iI o) (iI a) (iI ((e : Int) - 1)) h = some (g_up h (st + 4) (.inl (0, S.c, .inl f))) ∧ ∀ k, k < S.c → f k = iI ((owG S o a e).ow k) := by
  have hS0 := hS
  obtain ⟨h1, -, -, -, ⟨f5, h5, h5'⟩, -⟩ := hS
  refine ⟨_, giveC_loop hw.1.2 he (e - a) a gN h f5 (by omega) (by unfold gN; have := hw.1; omega) h1 h5, fun k hk => ?_⟩
  show (if a ≤ k ∧ k < e then iI o else f5 k) = iI (if a ≤ k ∧ k < e then o else S.ow k)
  rw [h5' k hk]
  split <;> rfl
theorem ownM_loop {o : Int} {e : Nat} (he : e ≤ 24) : ∀ (d i k : Nat) (m : Nat → Int32), i + d = e → d < k → gL2 (f_X6_own_L3 (iI o) (iI ((e : Int) - 1))) k (iI i) m = some (fun j => if 2 + i ≤ j ∧ j < 2 + e then iI o else m j) := by
  intro d
  induction d with
  | zero =>
    intro i k m e1 hk
    obtain ⟨k, rfl⟩ : ∃ k', k = k' + 1 := ⟨k - 1, by omega⟩
    show f_X6_own_L3 (iI o) (iI ((e : Int) - 1)) (gL2 (f_X6_own_L3 (iI o) (iI ((e : Int) - 1))) k) _ _ = _
    unfold f_X6_own_L3
    rw [if_pos (by rw [iI_lt (by omega) (by omega) (by omega) (by omega)]; omega)]
    congr 1
    funext j
    rw [if_neg (by omega)]
  | succ d ih =>
    intro i k m e1 hk
    obtain ⟨k, rfl⟩ : ∃ k', k = k' + 1 := ⟨k - 1, by omega⟩
    show f_X6_own_L3 (iI o) (iI ((e : Int) - 1)) (gL2 (f_X6_own_L3 (iI o) (iI ((e : Int) - 1))) k) _ _ = _
    have ih := ih (i + 1) k (upd m (2 + i) (iI o)) (by omega) (by omega)
    generalize gL2 (f_X6_own_L3 (iI o) (iI ((e : Int) - 1))) k = r at ih ⊢
    unfold f_X6_own_L3
    rw [if_neg (by rw [iI_lt (by omega) (by omega) (by omega) (by omega)]; omega), iI_2, iI_add, wa_at (j := 2 + i) (by omega) (by omega) (by decide), gB_s, iI_1, iI_add]
    rw [Int.natCast_add, Int.natCast_one] at ih
    rw [ih]
    congr 1
    funext j
    by_cases q : j = 2 + i
    · subst q
      rw [if_neg (by omega), if_pos (by omega)]
      simp [upd]
    · rw [show upd m (2 + i) (iI o) j = m j by simp [upd, q]]
      by_cases q2 : 2 + i ≤ j ∧ j < 2 + e
      · rw [if_pos q2, if_pos (by omega)]
      · rw [if_neg q2, if_neg (by omega)]
theorem BlkAt_ow {f : Nat → Int32} {g : Nat → Int} (hB : BlkAt m 0 S) (h1 : ∀ j, j < 2 ∨ 2 + S.c ≤ j → f j = m j) (h2 : ∀ k, k < S.c → f (2 + k) = iI (g k)) (hc : S.c ≤ 24) : BlkAt f 0 (setOw S g) := by
  obtain ⟨b1, b2, b3, b4⟩ := hB
  refine ⟨by rw [h1 _ (by omega)]; exact b1, by rw [h1 _ (by omega)]; exact b2, fun k hk => ?_, fun s hs => ?_⟩
  · rw [show 212 * 0 + 2 + k = 2 + k by omega]; exact h2 k hk
  · obtain ⟨w1, w2, w3⟩ := b4 s hs
    exact ⟨by rw [h1 _ (by omega)]; exact w1, fun i hi => by rw [h1 _ (by omega)]; exact w2 i hi, fun k hk => by rw [h1 _ (by omega)]; exact w3 k hk⟩
theorem mOwn (hB : BlkAt m 0 S) (hw : WF S) {o : Int} {a e : Nat} (hae : a ≤ e) (he : e ≤ S.c) : ∃ f : Nat → Int32, f_X6_own (iI o) (iI a) (iI ((e : Int) - 1)) m = some f ∧ BlkAt f 0 (owG S o a e) ∧ ∀ j, 212 ≤ j → f j = m j := by
  have hc := hw.1
  refine ⟨_, ownM_loop (by omega) (e - a) a gN m (by omega) (by unfold gN; omega), ?_, fun j hj => by show (if 2 + a ≤ j ∧ j < 2 + e then iI o else m j) = m j; rw [if_neg (by omega)]⟩
  refine BlkAt_ow hB (fun j hj => by show (if 2 + a ≤ j ∧ j < 2 + e then iI o else m j) = m j; rw [if_neg (by omega)]) (fun k hk => ?_) hc.2
  show (if 2 + a ≤ 2 + k ∧ 2 + k < 2 + e then iI o else m (2 + k)) = iI (if a ≤ k ∧ k < e then o else S.ow k)
  have b3 := hB.2.2.1 k hk
  rw [show 212 * 0 + 2 + k = 2 + k by omega] at b3
  rw [b3]
  by_cases q : a ≤ k ∧ k < e
  · rw [if_pos (by omega), if_pos q]
  · rw [if_neg (by omega), if_neg q]
theorem WF_ow {g : Nat → Int} (hw : WF S) (hg : ∀ k, k < S.c → -1 ≤ g k ∧ g k < S.n) : WF (setOw S g) := ⟨hw.1, hw.2.1, hg, hw.2.2.2.1, hw.2.2.2.2⟩
theorem WF_owG {o : Int} {a e : Nat} (hw : WF S) (ho : -1 ≤ o ∧ o < S.n) : WF (owG S o a e) := WF_ow hw fun k hk => by
  have := hw.2.2.1 k hk
  split <;> omega
end CH8
