/-! CHANGES, 2: round robin -/
/-- h' is h with the owners of S' at st -/
def OwUp (h h' : gH) (st : Nat) (S' : gS) : Prop := ∃ f : Nat → Int32, h' = g_up h (st + 4) (.inl (0, S'.c, .inl f)) ∧ ∀ k, k < S'.c → f k = iI (S'.ow k)
theorem OwUp.st {h h' : gH} {st : Nat} {S : gS} {sa : Nat → Nat} {g : Nat → Int} (hS : StAt h st S sa) (u : OwUp h h' st (setOw S g)) : StAt h' st (setOw S g) sa := by
  obtain ⟨f, rfl, hf⟩ := u
  exact StAt_ow (S := S) (g := g) hS hf
theorem OwUp.st' {h h' : gH} {st st2 : Nat} {S S' S2 : gS} {sa sa2 : Nat → Nat} (hS : StAt h st S sa) (u : OwUp h h' st S') (hT : StAt h st2 S2 sa2) (hne : st2 ≠ st) : StAt h' st2 S2 sa2 := by
  obtain ⟨f, rfl, hf⟩ := u
  exact StAt_ow' hS hT hne
theorem OwUp.trans {h h1 h2 : gH} {st : Nat} {S1 S2 : gS} (u : OwUp h h1 st S1) (v : OwUp h1 h2 st S2) : OwUp h h2 st S2 := by
  obtain ⟨f, rfl, hf⟩ := u
  obtain ⟨g, rfl, hg⟩ := v
  exact ⟨g, g_up_up, hg⟩
theorem OwUp.rf {h : gH} {st : Nat} {S : gS} {sa : Nat → Nat} (hS : StAt h st S sa) : OwUp h h st S := by
  obtain ⟨f, h1, h2⟩ := hS.2.2.2.2.1
  exact ⟨f, (g_up_id h1).symm, h2⟩
theorem OwUp.ne {h h' : gH} {st b : Nat} {S' : gS} (u : OwUp h h' st S') (hb : b ≠ st + 4) : h' b = h b := by
  obtain ⟨f, rfl, hf⟩ := u
  exact g_up_n hb
def BlkUp (m m' : Nat → Int32) (S' : gS) : Prop := BlkAt m' 0 S' ∧ ∀ j, 212 ≤ j → m' j = m j
theorem BlkUp.trans {m m1 m2 : Nat → Int32} {S1 S2 : gS} (u : BlkUp m m1 S1) (v : BlkUp m1 m2 S2) : BlkUp m m2 S2 := ⟨v.1, fun j hj => (v.2 j hj).trans (u.2 j hj)⟩
theorem BlkUp.rf {m : Nat → Int32} {S : gS} (hB : BlkAt m 0 S) : BlkUp m m S := ⟨hB, fun _ _ => rfl⟩
theorem fvZ_yes (S : gS) (s : Nat) : ∀ k : Nat, fvZ S s k ≠ -1 → 0 ≤ fvZ S s k ∧ fvZ S s k < k ∧ S.ow (fvZ S s k).toNat = -1 := by
  intro k
  induction k with
  | zero => intro h; exact absurd rfl h
  | succ k ih =>
    intro h
    simp only [fvZ] at h ⊢
    by_cases q : S.ow k = -1
    · rw [if_pos q] at h ⊢
      by_cases q2 : fvZ S s k = -1
      · rw [if_pos q2]; exact ⟨by omega, by omega, by rw [Int.toNat_natCast]; exact q⟩
      · rw [if_neg q2]
        have := ih q2
        split
        · exact ⟨this.1, by omega, this.2.2⟩
        · exact ⟨by omega, by omega, by rw [Int.toNat_natCast]; exact q⟩
    · rw [if_neg q] at h ⊢
      have := ih h
      exact ⟨this.1, by omega, this.2.2⟩
theorem fvZ_no (S : gS) (s : Nat) : ∀ k : Nat, fvZ S s k = -1 → ∀ j, j < k → S.ow j ≠ -1 := by
  intro k
  induction k with
  | zero => intro _ j hj; exact absurd hj (Nat.not_lt_zero j)
  | succ k ih =>
    intro h j hj
    simp only [fvZ] at h
    by_cases q : S.ow k = -1
    · rw [if_pos q] at h
      by_cases q2 : fvZ S s k = -1
      · rw [if_pos q2] at h; omega
      · rw [if_neg q2] at h
        split at h
        · exact absurd h q2
        · omega
    · rw [if_neg q] at h
      by_cases e : j = k
      · rw [e]; exact q
      · exact ih h j (by omega)
def frN (ow : Nat → Int) : Nat → Nat
  | 0 => 0
  | k + 1 => frN ow k + (if ow k = -1 then 1 else 0)
theorem frN_set {ow : Nat → Int} {x : Int} {j : Nat} (hx : x ≠ -1) (hj : ow j = -1) : ∀ k, (k ≤ j → frN (fun i => if i = j then x else ow i) k = frN ow k) ∧ (j < k → frN (fun i => if i = j then x else ow i) k + 1 = frN ow k) := by
  intro k
  induction k with
  | zero => exact ⟨fun _ => rfl, fun h => absurd h (Nat.not_lt_zero j)⟩
  | succ k ih =>
    simp only [frN]
    refine ⟨fun h => ?_, fun h => ?_⟩
    · have e : ¬ k = j := by omega
      rw [ih.1 (by omega)]
      simp [e]
    · by_cases e : k = j
      · have h2 := ih.1 (by omega)
        rw [h2]
        subst e
        simp [hx, hj]
      · have h2 := ih.2 (by omega)
        simp only [e, if_false]
        omega
theorem frN_0 {ow : Nat → Int} : ∀ {k : Nat}, frN ow k = 0 → ∀ j, j < k → ow j ≠ -1 := by
  intro k
  induction k with
  | zero => intro _ j hj; exact absurd hj (Nat.not_lt_zero j)
  | succ k ih =>
    intro h j hj
    simp only [frN] at h
    by_cases e : j = k
    · rw [e]; intro q; rw [if_pos q] at h; omega
    · exact ih (by omega) j (by omega)
def rrO (S : gS) (s : Nat) : gS := setOw S fun i => if i = (fvZ S s S.c).toNat then (s : Int) else S.ow i
def rrZ : Nat → gS → Nat → Int → gS × Int
  | 0, S, _, c => (S, c)
  | f + 1, S, s, c => if fvZ S s S.c = -1 then (S, c) else rrZ f (rrO S s) (if s + 1 < S.n then s + 1 else 0) (c + 1)
theorem rrO_wf {S : gS} (hw : WF S) {s : Nat} (hs : s < S.n) : WF (rrO S s) := WF_ow hw fun k hk => by
  have := hw.2.2.1 k hk
  split <;> omega
theorem rrO_fr {S : gS} {s : Nat} (h : fvZ S s S.c ≠ -1) : frN (rrO S s).ow S.c + 1 = frN S.ow S.c := by
  have h1 := fvZ_yes S s S.c h
  exact (frN_set (x := (s : Int)) (by omega) h1.2.2 S.c).2 (by omega)
theorem rrZ_ow : ∀ (f : Nat) (S : gS) (s : Nat) (c : Int), ∃ g, (rrZ f S s c).1 = setOw S g := by
  intro f
  induction f with
  | zero => intro S s c; exact ⟨S.ow, rfl⟩
  | succ f ih =>
    intro S s c
    simp only [rrZ]
    split
    · exact ⟨S.ow, rfl⟩
    · obtain ⟨g, hg⟩ := ih (rrO S s) (if s + 1 < S.n then s + 1 else 0) (c + 1)
      exact ⟨g, hg⟩
theorem rrZ_wf : ∀ (f : Nat) (S : gS) (s : Nat) (c : Int), WF S → s < S.n → WF (rrZ f S s c).1 := by
  intro f
  induction f with
  | zero => intro S s c hw _; exact hw
  | succ f ih =>
    intro S s c hw hs
    simp only [rrZ]
    split
    · exact hw
    · exact ih _ _ _ (rrO_wf hw hs) (by show (if s + 1 < S.n then s + 1 else 0) < S.n; split <;> omega)
section CH9
theorem rrC_loop {st : Nat} {sa : Nat → Nat} : ∀ (f : Nat) (S : gS) (s : Nat) (c : Int) (h : gH) (k : Nat), WF S → s < S.n → StAt h st S sa → frN S.ow S.c ≤ f → f < k → ∃ h', gL4 (f_X2_roundRobin_L11 st) k (iI c) (iI s) (iI (fvZ S s S.c)) h = some (iI (rrZ f S s c).2, h') ∧ OwUp h h' st (rrZ f S s c).1 := by
  intro f
  induction f with
  | zero =>
    intro S s c h k hw hs hS hf hk
    obtain ⟨k, rfl⟩ : ∃ k', k = k' + 1 := ⟨k - 1, by omega⟩
    have e1 : fvZ S s S.c = -1 := by
      by_cases q : fvZ S s S.c = -1
      · exact q
      · have := fvZ_yes S s S.c q
        exact absurd this.2.2 (frN_0 (k := S.c) (by omega) _ (by omega))
    refine ⟨h, ?_, OwUp.rf hS⟩
    show f_X2_roundRobin_L11 st (gL4 (f_X2_roundRobin_L11 st) k) _ _ _ _ = _
    unfold f_X2_roundRobin_L11
    rw [e1, if_pos (show iI (-1) = (-1 : Int32) from rfl)]
    rfl
  | succ f ih =>
    intro S s c h k hw hs hS hf hk
    obtain ⟨k, rfl⟩ : ∃ k', k = k' + 1 := ⟨k - 1, by omega⟩
    have hc := hw.1
    have hn := hw.2.1
    simp only [rrZ]
    by_cases q : fvZ S s S.c = -1
    · refine ⟨h, ?_, ?_⟩
      · show f_X2_roundRobin_L11 st (gL4 (f_X2_roundRobin_L11 st) k) _ _ _ _ = _
        unfold f_X2_roundRobin_L11
        rw [q, if_pos (show iI (-1) = (-1 : Int32) from rfl), if_pos rfl]
      · rw [if_pos q]; exact OwUp.rf hS
    · have h1 := fvZ_yes S s S.c q
      have h2 := rrO_fr q
      obtain ⟨j, hj⟩ : ∃ j : Nat, fvZ S s S.c = (j : Int) := ⟨(fvZ S s S.c).toNat, by omega⟩
      obtain ⟨f5, h5, h5'⟩ := hS.2.2.2.2.1
      have u1 : OwUp h (g_up h (st + 4) (.inl (0, S.c, .inl (upd f5 j (iI s))))) st (rrO S s) := by
        refine ⟨_, rfl, fun i hi => ?_⟩
        show upd f5 j (iI s) i = iI (if i = (fvZ S s S.c).toNat then (s : Int) else S.ow i)
        rw [hj, Int.toNat_natCast]
        by_cases e : i = j
        · rw [if_pos e]; simp [upd, e]
        · rw [if_neg e, ← h5' i hi]; simp [upd, e]
      have hS1 := OwUp.st (g := (rrO S s).ow) hS u1
      have hS1 : StAt (g_up h (st + 4) (.inl (0, S.c, .inl (upd f5 j (iI s))))) st (rrO S s) sa := hS1
      have hw1 := rrO_wf hw hs
      have hs1 : (if s + 1 < S.n then s + 1 else 0) < (rrO S s).n := by show _ < S.n; split <;> omega
      obtain ⟨h', e1, u2⟩ := ih (rrO S s) (if s + 1 < S.n then s + 1 else 0) (c + 1) _ k hw1 hs1 hS1 (by show frN (rrO S s).ow S.c ≤ f; omega) (by omega)
      rw [if_neg q]
      refine ⟨h', ?_, OwUp.trans u1 u2⟩
      show f_X2_roundRobin_L11 st (gL4 (f_X2_roundRobin_L11 st) k) _ _ _ _ = _
      generalize gL4 (f_X2_roundRobin_L11 st) k = r at e1 ⊢
      unfold f_X2_roundRobin_L11
      obtain ⟨fs1, o1⟩ := a_obj hS1
      rw [if_neg (by rw [iI_n1, iI_eq (by omega) (by omega) (by omega) (by omega)]; exact q), a_ow hS, gB_s, hj, sI_at h5 rfl (by omega) (by omega), gB_s, o1, gB_s, a_size hS1, gB_s, iI_1, iI_add, iI_add]
      by_cases w : s + 1 < S.n
      · rw [if_pos w] at e1 hs1
        rw [if_neg (by show ¬ iI (S.n : Int) ≤ _; rw [iI_le (by omega) (by omega) (by omega) (by omega)]; omega), show (s : Int) + 1 = ((s + 1 : Nat) : Int) by omega, cFv hS1 hw1 hs1, gB_s, if_pos w]
        exact e1
      · rw [if_neg w] at e1 hs1
        rw [if_pos (by show iI (S.n : Int) ≤ _; rw [iI_le (by omega) (by omega) (by omega) (by omega)]; omega), if_neg w]
        have h9 := cFv hS1 hw1 hs1
        show Option.bind (f_X2_favourite st (iI (0 : Nat)) _) _ = _
        rw [h9, gB_s]
        exact e1
theorem rrM_loop : ∀ (f : Nat) (S : gS) (s : Nat) (c : Int) (m : Nat → Int32) (k : Nat), WF S → s < S.n → BlkAt m 0 S → frN S.ow S.c ≤ f → f < k → ∃ m', gL4 f_X6_robin_L11 k (iI c) (iI s) (iI (fvZ S s S.c)) m = some (iI (rrZ f S s c).2, m') ∧ BlkUp m m' (rrZ f S s c).1 := by
  intro f
  induction f with
  | zero =>
    intro S s c m k hw hs hB hf hk
    obtain ⟨k, rfl⟩ : ∃ k', k = k' + 1 := ⟨k - 1, by omega⟩
    have e1 : fvZ S s S.c = -1 := by
      by_cases q : fvZ S s S.c = -1
      · exact q
      · have := fvZ_yes S s S.c q
        exact absurd this.2.2 (frN_0 (k := S.c) (by omega) _ (by omega))
    refine ⟨m, ?_, BlkUp.rf hB⟩
    show f_X6_robin_L11 (gL4 f_X6_robin_L11 k) _ _ _ _ = _
    unfold f_X6_robin_L11
    rw [e1, if_pos (show iI (-1) = (-1 : Int32) from rfl)]
    rfl
  | succ f ih =>
    intro S s c m k hw hs hB hf hk
    obtain ⟨k, rfl⟩ : ∃ k', k = k' + 1 := ⟨k - 1, by omega⟩
    have hc := hw.1
    have hn := hw.2.1
    simp only [rrZ]
    by_cases q : fvZ S s S.c = -1
    · refine ⟨m, ?_, ?_⟩
      · show f_X6_robin_L11 (gL4 f_X6_robin_L11 k) _ _ _ _ = _
        unfold f_X6_robin_L11
        rw [q, if_pos (show iI (-1) = (-1 : Int32) from rfl), if_pos rfl]
      · rw [if_pos q]; exact BlkUp.rf hB
    · have h1 := fvZ_yes S s S.c q
      have h2 := rrO_fr q
      obtain ⟨j, hj⟩ : ∃ j : Nat, fvZ S s S.c = (j : Int) := ⟨(fvZ S s S.c).toNat, by omega⟩
      have u1 : BlkUp m (upd m (2 + j) (iI s)) (rrO S s) := by
        refine ⟨BlkAt_ow hB (fun i hi => by simp only [upd]; rw [if_neg (by omega)]) (fun i hi => ?_) hc.2, fun i hi => by simp only [upd]; rw [if_neg (by omega)]⟩
        show upd m (2 + j) (iI s) (2 + i) = iI (if i = (fvZ S s S.c).toNat then (s : Int) else S.ow i)
        rw [hj, Int.toNat_natCast]
        have b3 := hB.2.2.1 i hi
        rw [show 212 * 0 + 2 + i = 2 + i by omega] at b3
        by_cases e : i = j
        · rw [if_pos e]; simp [upd, e]
        · rw [if_neg e, ← b3]; simp only [upd]; rw [if_neg (by omega)]
      have hw1 := rrO_wf hw hs
      have hs1 : (if s + 1 < S.n then s + 1 else 0) < (rrO S s).n := by show _ < S.n; split <;> omega
      obtain ⟨m', e1, u2⟩ := ih (rrO S s) (if s + 1 < S.n then s + 1 else 0) (c + 1) _ k hw1 hs1 u1.1 (by show frN (rrO S s).ow S.c ≤ f; omega) (by omega)
      rw [if_neg q]
      refine ⟨m', ?_, BlkUp.trans u1 u2⟩
      show f_X6_robin_L11 (gL4 f_X6_robin_L11 k) _ _ _ _ = _
      generalize gL4 f_X6_robin_L11 k = r at e1 ⊢
      unfold f_X6_robin_L11
      have z0 : ¬ iI ((rrO S s).n : Int) = 0 := by show ¬ iI (S.n : Int) = 0; rw [iI_0, iI_eq (by omega) (by omega) (by omega) (by omega)]; omega
      have z1 := iI_rem (a := s + 1) (d := S.n) (by omega) (by omega) (by omega)
      have z2 : (s + 1) % S.n = if s + 1 < S.n then s + 1 else 0 := by
        by_cases w : s + 1 < S.n
        · rw [if_pos w, Nat.mod_eq_of_lt w]
        · rw [if_neg w, show s + 1 = S.n by omega, Nat.mod_self]
      rw [if_neg (by rw [iI_n1, iI_eq (by omega) (by omega) (by omega) (by omega)]; exact q), hj, iI_2, iI_add, wa_at (j := 2 + j) (by omega) (by omega) (by decide), gB_s, iI_1, b_n u1.1, gB_s, if_pos z0, iI_add, iI_add, show (s : Int) + 1 = ((s + 1 : Nat) : Int) by omega]
      show Option.bind (f_X6_favourite (iI ((s + 1 : Nat) : Int) - iI ((s + 1 : Nat) : Int) / iI (S.n : Int) * iI (S.n : Int)) _) (fun v6 => r _ (iI ((s + 1 : Nat) : Int) - iI ((s + 1 : Nat) : Int) / iI (S.n : Int) * iI (S.n : Int)) v6 _) = _
      rw [z1, z2, mFv u1.1 hw1 hs1, gB_s]
      exact e1
theorem cRr {h : gH} {st : Nat} {S : gS} {sa : Nat → Nat} (hS : StAt h st S sa) (hw : WF S) {s : Nat} (hs : s < S.n) : ∃ h', f_X2_roundRobin st (iI s) h = some (iI (rrZ 24 S s 0).2, h') ∧ OwUp h h' st (rrZ 24 S s 0).1 := by
  have hc := hw.1
  obtain ⟨fs, h1⟩ := a_obj hS
  have h2 : ∀ k, frN S.ow k ≤ k := by
    intro k
    induction k with
    | zero => exact Nat.le_refl _
    | succ k ih => simp only [frN]; split <;> omega
  obtain ⟨h', e1, u1⟩ := rrC_loop 24 S s 0 h gN hw hs hS (Nat.le_trans (h2 _) hc.2) (by unfold gN; omega)
  refine ⟨h', ?_, u1⟩
  unfold f_X2_roundRobin
  rw [h1, gB_s, cFv hS hw hs, gB_s]
  exact e1
theorem mRr {m : Nat → Int32} {S : gS} (hB : BlkAt m 0 S) (hw : WF S) {s : Nat} (hs : s < S.n) : ∃ m', f_X6_robin (iI s) m = some (iI (rrZ 24 S s 0).2, m') ∧ BlkUp m m' (rrZ 24 S s 0).1 := by
  have hc := hw.1
  have h2 : ∀ k, frN S.ow k ≤ k := by
    intro k
    induction k with
    | zero => exact Nat.le_refl _
    | succ k ih => simp only [frN]; split <;> omega
  obtain ⟨m', e1, u1⟩ := rrM_loop 24 S s 0 m gN hw hs hB (Nat.le_trans (h2 _) hc.2) (by unfold gN; omega)
  refine ⟨m', ?_, u1⟩
  unfold f_X6_robin
  rw [mFv hB hw hs, gB_s]
  exact e1
end CH9
