/-! CHANGES, 7: the copy of a state -/
section CH14
theorem old_st {h0 h : gH} {z st : Nat} {S : gS} {sa : Nat → Nat} (F : gFr h0 z) (o : ∀ b, b < z → h b = h0 b) (hS : StAt h0 st S sa) : StAt h st S sa := hS.mono fun b _ hb => (o b (F.lt hb)).trans hb
theorem cpC_loop {h0 : gH} {z st nx : Nat} {S : gS} {sa : Nat → Nat} (F : gFr h0 z) (hS : StAt h0 st S sa) (hn : S.n ≤ 6) : ∀ (d i k : Nat) (h : gH), i + d = S.n → d < k → (∀ b, b < z → h b = h0 b) → StAt h z (S.c, i, fun _ => -1, S.v, S.nm) sa → ∃ h', gL2 (f_X2_init_2_L11 z st nx) k (iI i) h = f_X2_init_2_J47 z st h' nx ∧ StAt h' z (S.c, S.n, fun _ => -1, S.v, S.nm) sa ∧ ∀ b, b ≠ z + 1 → b ≠ z + 2 → h' b = h b := by
  intro d
  induction d with
  | zero =>
    intro i k h e1 hk ho hT
    obtain ⟨k, rfl⟩ : ∃ k', k = k' + 1 := ⟨k - 1, by omega⟩
    have hS := old_st F ho hS
    obtain ⟨fs, h1⟩ := a_alo hS
    have e2 : i = S.n := by omega
    subst e2
    refine ⟨h, ?_, hT, fun _ _ _ => rfl⟩
    show f_X2_init_2_L11 z st nx (gL2 (f_X2_init_2_L11 z st nx) k) _ _ = _
    unfold f_X2_init_2_L11
    rw [a_al hS, gB_s, h1, gB_s, a_als hS, gB_s, if_pos (Int32.le_refl _)]
  | succ d ih =>
    intro i k h e1 hk ho hT
    obtain ⟨k, rfl⟩ : ∃ k', k = k' + 1 := ⟨k - 1, by omega⟩
    have hS2 := old_st F ho hS
    obtain ⟨fs, h1⟩ := a_alo hS2
    obtain ⟨fs2, h2⟩ := a_alo hT
    obtain ⟨fs3, h3⟩ := a_sobj hS2 (s := i) (by omega)
    obtain ⟨h', e4, hT', fr⟩ := cAdd hT (by omega) (hS2.2.2.2.2.2 i (by omega))
    obtain ⟨h'', e5, hT'', fr2⟩ := ih (i + 1) k h' (by omega) (by omega) (fun b hb => by rw [fr b (by omega) (by omega)]; exact ho b hb) hT'
    refine ⟨h'', ?_, hT'', fun b b1 b2 => by rw [fr2 b b1 b2, fr b b1 b2]⟩
    show f_X2_init_2_L11 z st nx (gL2 (f_X2_init_2_L11 z st nx) k) _ _ = _
    generalize gL2 (f_X2_init_2_L11 z st nx) k = r at e5 ⊢
    unfold f_X2_init_2_L11
    rw [Int.natCast_add, Int.natCast_one] at e5
    rw [a_al hS2, gB_s, h1, gB_s, a_als hS2, gB_s, if_neg (by rw [iI_le (by omega) (by omega) (by omega) (by omega)]; omega), a_al hT, gB_s, gB_s, h1, gB_s, a_get hS2 (by omega) hn, gB_s, h3, gB_s, h2, gB_s, e4, gT2_s, iI_1, iI_add]
    exact e5
theorem cCopy {h : gH} {n st : Nat} {S : gS} {sa : Nat → Nat} (F : gFr h n) (hS : StAt h st S sa) (hw : WF S) : ∃ h', f_X2_init_2 n st (g_up h n (.inr (0, [.null, .null, .null]))) (n + 1) = some (h', n + 5) ∧ StAt h' n S sa ∧ gPas h n h' (n + 5) noD := by
  have hc := hw.1
  have hn := hw.2.1
  have u0 := gPas.new (D := noD) (e := .inr (0, [.null, .null, .null])) F
  have hS0 := u0.st F hS
  obtain ⟨h1, e1, hT1, u1⟩ := cInit (z := n) u0.2.1 g_up_s hc S.v S.nm sa
  have o1 : ∀ b, b < n → h1 b = h b := fun b hb => by rw [u1.2.2 b (by omega) (by omega), g_up_n (by omega)]
  obtain ⟨h2, e2, hT2, fr2⟩ := cpC_loop (st := st) (nx := n + 5) F hS hn.2 S.n 0 gN h1 (by omega) (by unfold gN; omega) o1 hT1
  have o2 : ∀ b, b < n → h2 b = h b := fun b hb => by rw [fr2 b (by omega) (by omega)]; exact o1 b hb
  have hS2 := old_st F o2 hS
  have hT2' := hT2
  obtain ⟨-, -, -, -, ⟨f5, h5, h5'⟩, -⟩ := hS2
  obtain ⟨-, -, -, -, ⟨g5, k5, k5'⟩, -⟩ := hT2'
  refine ⟨_, ?_, StAt_ow (S := (S.c, S.n, fun _ => -1, S.v, S.nm)) (f := va_cpy f5 g5 0 0 S.c) (g := S.ow) hT2 fun k hk => ?_, by omega, fun b hb => ?_, fun b hb _ => ?_⟩
  · unfold f_X2_init_2
    rw [a_ow hS0, gB_s, a_owl hS0, gB_s, e1, gT2_s]
    refine Eq.trans e2 ?_
    unfold f_X2_init_2_J47
    have hS2 := old_st F o2 hS
    have hh := cpy_at (c := S.c) h5 k5 (Nat.le_refl _) (Nat.le_refl _) (by omega)
    have hl : g_len h2 (n + 4) 0 = some (iI S.c) := len_at k5
    rw [a_ow hS2, gB_s, a_ow hT2, gB_s, gB_s, hl, gB_s, hh, gB_s]
  · have hk : k < S.c := hk
    show (if 0 ≤ k ∧ k < 0 + S.c then f5 (0 + (k - 0)) else g5 k) = iI (S.ow k)
    rw [if_pos (by omega), ← h5' k hk]
    congr 1
    omega
  · rw [g_up_n (by omega), fr2 b (by omega) (by omega)]; exact u1.2.1 b (by omega)
  · rw [g_up_n (by omega)]; exact o2 b hb
theorem cNew {h : gH} {n st : Nat} {S : gS} {sa : Nat → Nat} (F : gFr h n) (hS : StAt h st S sa) (hw : WF S) {α : Type} {K : gH → Nat → Option α} : ∃ h', gT3 (g_new h n (.inr (0, [.null, .null, .null]))) (fun q h2 n3 => gT2 (f_X2_init_2 q st h2 n3) fun h5 n6 => K h5 n6) = K h' (n + 5) ∧ StAt h' n S sa ∧ StAt h' st S sa ∧ gPas h n h' (n + 5) noD := by
  obtain ⟨h', e, hT, u⟩ := cCopy F hS hw
  refine ⟨h', ?_, hT, u.st F hS, u⟩
  show gT2 (f_X2_init_2 n st _ (n + 1)) _ = _
  rw [e, gT2_s]
theorem cFree {h : gH} {n st : Nat} {S : gS} {sa : Nat → Nat} (F : gFr h n) (hS : StAt h st S sa) (hw : WF S) : ∃ h', f_X2_freeCopy st h n = some (n, h', n + 5) ∧ StAt h' n (owG S (-1) 0 S.c) sa ∧ gPas h n h' (n + 5) noD := by
  have hc := hw.1
  obtain ⟨h1, e1, hT, u⟩ := cCopy F hS hw
  have hS1 := u.st F hS
  obtain ⟨fs, o1⟩ := a_obj hS1
  obtain ⟨h2, e2, u2⟩ := cRel hT hw (a := 0) (e := S.c) (by omega) (Nat.le_refl _)
  have hT2 : StAt h2 n (owG S (-1) 0 S.c) sa := OwUp.st (g := (owG S (-1) 0 S.c).ow) hT u2
  refine ⟨h2, ?_, hT2, ?_⟩
  · unfold f_X2_freeCopy
    show gT2 (f_X2_init_2 n st _ (n + 1)) _ = _
    have e2' : f_X2_release n (0 : Int32) (iI (S.c : Int) - (1 : Int32)) h1 = some h2 := by rw [iI_1, iI_sub]; exact e2
    rw [e1, gT2_s, o1, gB_s, a_cells hS1, gB_s, (a_obj hT).choose_spec, gB_s, e2', gB_s]
  · refine u.tr (D2 := fun b => b = n + 4) ⟨Nat.le_refl _, fun b hb => ?_, fun b hb hD => u2.ne hD⟩ fun b hb q => by omega
    rw [u2.ne (by omega)]; exact u.2.1 b hb
end CH14
