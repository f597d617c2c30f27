/-! THE OUTPUT, 3: writeOwners -/
section WO2
variable {h : gH} {cd o n : Nat} {M M' : gMS} {st : Nat} {S S' : gS} {sa : Nat → Nat} {len hd : Nat} {hs : Nat → Nat} {HS : Nat → gS} {fv : Nat → Option Nat} {VS : Nat → gS} {h0 : gH} {n0 : Nat} {iL ec ep : Int32} {m : Nat → Int32}
theorem wo_loop {k0 : Nat → Int32} {e0 : List Value} {iT : Int32} (F0 : gFr h0 n0) (hc0 : h0 cd = some (.inr (3, e0))) (hc7 : h0 (cd + 11) = some (.inl (1, 240, .inl k0))) (hS : StAt h0 st S sa) (hw : WF S) (hB : BlkAt m 0 S) : ∀ (d i a k j : Nat) (h : gH) (n W : Nat) (kk aR : Nat → Int32), i + d = S.c + 1 → d < k → d < j → a < i → (d ≠ 0 → a < S.c) → wrP cd st iL ec ep h0 n0 h n W kk → eqW kk aR W → W ≤ 8 * a → ∃ (h' : gH) (n' W' : Nat) (kk' aR' : Nat → Int32), gL4 (f_X1_writeOwners_L9 cd) k (iI a) (iI i) h n = some (iI W', h', n') ∧ gL4 (f_X6_writeOwners_L14 m iT) j (iI a) (iI i) aR (iI W) = some (iI W', aR', iI W', iT) ∧ wrP cd st iL ec ep h0 n0 h' n' W' kk' ∧ eqW kk' aR' W' ∧ W' ≤ 240 := by
  have hc := hw.1
  have hn := hw.2.1
  intro d
  induction d with
  | zero =>
    intro i a k j h n W kk aR e hk hj ha ha2 p eq hW
    obtain ⟨k, rfl⟩ : ∃ k', k = k' + 1 := ⟨k - 1, by omega⟩
    obtain ⟨j, rfl⟩ : ∃ k', j = k' + 1 := ⟨j - 1, by omega⟩
    have hS1 := hS.kS hw fun b e hb he => p.1.ce F0 hb (DW_k hc0 hc7 hb he)
    obtain ⟨fs2, o3⟩ := a_obj hS1
    refine ⟨h, n, W, kk, aR, ?_, ?_, p, eq, by omega⟩
    · show f_X1_writeOwners_L9 cd (gL4 (f_X1_writeOwners_L9 cd) k) _ _ _ _ = _
      unfold f_X1_writeOwners_L9
      rw [fA_at p.2.1 rfl, gB_s, o3, gB_s, a_cells hS1, gB_s, if_pos (by rw [iI_lt (by omega) (by omega) (by omega) (by omega)]; omega), fI_at p.2.1 rfl, gB_s]
    · show f_X6_writeOwners_L14 m iT (gL4 (f_X6_writeOwners_L14 m iT) j) _ _ _ _ = _
      unfold f_X6_writeOwners_L14
      rw [show (0 : Int32) = iI 0 from rfl, b_c hB, gB_s, if_pos (by rw [iI_lt (by omega) (by omega) (by omega) (by omega)]; omega)]
  | succ d ih =>
    intro i a k j h n W kk aR e hk hj ha ha2 p eq hW
    obtain ⟨k, rfl⟩ : ∃ k', k = k' + 1 := ⟨k - 1, by omega⟩
    obtain ⟨j, rfl⟩ : ∃ k', j = k' + 1 := ⟨j - 1, by omega⟩
    have ha3 : a < S.c := ha2 (by omega)
    have hS1 := hS.kS hw fun b e hb he => p.1.ce F0 hb (DW_k hc0 hc7 hb he)
    obtain ⟨fs2, o3⟩ := a_obj hS1
    have hoa := hw.2.2.1 a ha3
    by_cases q : i < S.c ∧ S.ow i = S.ow a
    · obtain ⟨q1, q2⟩ := q
      obtain ⟨h', n', W', kk', aR', e1, e2, p2, eq2, hle⟩ := ih (i + 1) a k j h n W kk aR (by omega) (by omega) (by omega) (by omega) (fun _ => ha3) p eq hW
      refine ⟨h', n', W', kk', aR', ?_, ?_, p2, eq2, hle⟩
      · show f_X1_writeOwners_L9 cd (gL4 (f_X1_writeOwners_L9 cd) k) _ _ _ _ = _
        generalize gL4 (f_X1_writeOwners_L9 cd) k = r at e1 ⊢
        unfold f_X1_writeOwners_L9
        rw [Int.natCast_add, Int.natCast_one] at e1
        rw [fA_at p.2.1 rfl, gB_s, o3, gB_s, a_cells hS1, gB_s, if_neg (by rw [iI_lt (by omega) (by omega) (by omega) (by omega)]; omega), gB_s, o3, gB_s, a_cells hS1, gB_s, if_neg (by rw [iI_eq (by omega) (by omega) (by omega) (by omega)]; omega), gB_s, a_ow hS1, gB_s, a_own hS1 q1 hc.2, gB_s, gB_s, a_ow hS1, gB_s, a_own hS1 ha3 hc.2, gB_s, if_pos (by rw [q2]), iI_1, iI_add]
        exact e1
      · show f_X6_writeOwners_L14 m iT (gL4 (f_X6_writeOwners_L14 m iT) j) _ _ _ _ = _
        generalize gL4 (f_X6_writeOwners_L14 m iT) j = r at e2 ⊢
        unfold f_X6_writeOwners_L14
        rw [Int.natCast_add, Int.natCast_one] at e2
        rw [show (0 : Int32) = iI 0 from rfl, b_c hB, gB_s, if_neg (by rw [iI_lt (by omega) (by omega) (by omega) (by omega)]; omega), gB_s, if_neg (by rw [iI_le (by omega) (by omega) (by omega) (by omega)]; omega), b_own hB q1 hc.2, gB_s, b_own hB ha3 hc.2, gB_s, if_pos (by rw [q2]), iI_1, iI_add]
        exact e2
    · obtain ⟨h1, n1, W1, k1, aR1, e1, e2, p1, eq1, hle⟩ := run_ok (r := i - a) (ow := S.ow a) F0 hc0 hc7 hS hw hB p eq (by omega) ⟨by omega, by omega⟩ (by omega)
      have hW1 : W1 ≤ 8 * i := by
        split at hle <;> omega
      obtain ⟨h', n', W', kk', aR', e3, e4, p2, eq2, hle2⟩ := ih (i + 1) i k j h1 n1 W1 k1 aR1 (by omega) (by omega) (by omega) (by omega) (fun _ => by omega) p1 eq1 hW1
      have eia : iI (i : Int) - iI (a : Int) = iI ((i - a : Nat) : Int) := by rw [iI_sub]; congr 1; omega
      refine ⟨h', n', W', kk', aR', ?_, ?_, p2, eq2, hle2⟩
      · show f_X1_writeOwners_L9 cd (gL4 (f_X1_writeOwners_L9 cd) k) _ _ _ _ = _
        generalize gL4 (f_X1_writeOwners_L9 cd) k = r at e3 ⊢
        have hJ : f_X1_writeOwners_J52 r cd (iI a) (iI i) h n = some (iI W', h', n') := by
          unfold f_X1_writeOwners_J52
          rw [Int.natCast_add, Int.natCast_one] at e3
          rw [fA_at p.2.1 rfl, gB_s, a_ow hS1, gB_s, a_own hS1 ha3 hc.2, gB_s, g_obj_s p.2.1, gB_s, eia, e1, gT2_s, iI_1, iI_add]
          exact e3
        unfold f_X1_writeOwners_L9
        rw [fA_at p.2.1 rfl, gB_s, o3, gB_s, a_cells hS1, gB_s, if_neg (by rw [iI_lt (by omega) (by omega) (by omega) (by omega)]; omega), gB_s, o3, gB_s, a_cells hS1, gB_s]
        by_cases z : i = S.c
        · rw [if_pos (by rw [z])]; exact hJ
        · have q1 : i < S.c := by omega
          have q2 : S.ow i ≠ S.ow a := fun w => q ⟨q1, w⟩
          have hoi := hw.2.2.1 i q1
          rw [if_neg (by rw [iI_eq (by omega) (by omega) (by omega) (by omega)]; omega), gB_s, a_ow hS1, gB_s, a_own hS1 q1 hc.2, gB_s, gB_s, a_ow hS1, gB_s, a_own hS1 ha3 hc.2, gB_s, if_neg (by rw [iI_eq (by omega) (by omega) (by omega) (by omega)]; exact q2)]
          exact hJ
      · show f_X6_writeOwners_L14 m iT (gL4 (f_X6_writeOwners_L14 m iT) j) _ _ _ _ = _
        generalize gL4 (f_X6_writeOwners_L14 m iT) j = r at e4 ⊢
        have hJ : f_X6_writeOwners_J50 r (iI a) (iI i) m aR (iI W) iT = some (iI W', aR', iI W', iT) := by
          unfold f_X6_writeOwners_J50
          rw [Int.natCast_add, Int.natCast_one] at e4
          rw [b_own hB ha3 hc.2, gB_s, eia, e2, gT2_s, iI_1, iI_add]
          exact e4
        unfold f_X6_writeOwners_L14
        rw [show (0 : Int32) = iI 0 from rfl, b_c hB, gB_s, if_neg (by rw [iI_lt (by omega) (by omega) (by omega) (by omega)]; omega), gB_s]
        by_cases z : i = S.c
        · rw [if_pos (by rw [z]; exact Int32.le_refl _)]; exact hJ
        · have q1 : i < S.c := by omega
          have q2 : S.ow i ≠ S.ow a := fun w => q ⟨q1, w⟩
          have hoi := hw.2.2.1 i q1
          rw [if_neg (by rw [iI_le (by omega) (by omega) (by omega) (by omega)]; omega), b_own hB q1 hc.2, gB_s, b_own hB ha3 hc.2, gB_s, if_neg (by rw [iI_eq (by omega) (by omega) (by omega) (by omega)]; exact q2)]
          exact hJ
theorem p_writeOwners (w : gW cd o h n M st S sa len hd hs HS fv VS) (iT : Int32) : ∃ v h' n' aR' iW' t, f_X1_writeOwners cd h n = some (v, h', n') ∧ f_X6_writeOwners M.aM M.aR M.iW iT = some (v, aR', iW', t) ∧ mR h' o = some M ∧ gWx cd o (gMS.H (M.aM, M.aS, M.iU, M.aB, M.iL, M.iE, M.iP, aR', iW', t, M.aT, M.aC, M.aH, M.aE, M.aQ, M.iA, M.iY, M.iF, M.iV, M.aK) h' o) n' := by
  have w0 := w
  obtain ⟨F, w1, w2, w3, w4, ⟨w5, w6, w7⟩, ⟨w8, w9, w10⟩, ⟨w11, w12⟩, w13⟩ := w
  have w4' := w4
  have hc := w6.1
  obtain ⟨c1, ⟨f, L, c2, c3, c4, c5⟩, ⟨g, c6⟩, ⟨k, W, c7, c8, c9, c10⟩⟩ := w4
  have lc := F.lt c1
  have p0 : wrP cd st M.iL M.iE M.iP h n (g_up h cd (clO cd st M.iL M.iE M.iP (iI (0 : Nat)))) n 0 k := ⟨gPas.up F lc (.inl rfl), g_up_s, by rw [g_up_n (by omega)]; exact c7⟩
  obtain ⟨h', n', W', kk', aR', e1, e2, p, eq, hle⟩ := wo_loop (iT := 0) (aR := M.aR) F c1 c7 w5 w6 w7 S.c 1 0 25 gN _ n 0 k (by omega) (by omega) (by unfold gN; omega) (by omega) (fun _ => by omega) p0 (fun i hi => absurd hi (Nat.not_lt_zero i)) (by omega)
  have u : gPas h n h' n' (DC cd) := p.1.mo fun b hb q => q.elim .inl fun z => .inr (.inr (.inr z))
  refine ⟨iI W', h', n', aR', iI W', 0, ?_, e2, (w0.cl u).1, cl_W w0 u ⟨p.2.1, ⟨f, L, ?_, c3, c4, c5⟩, ⟨g, ?_⟩, ⟨kk', W', p.2.2, hle, rfl, eq⟩⟩ ⟨rfl, rfl, rfl⟩⟩
  · unfold f_X1_writeOwners
    rw [pf_at c1 (by show _ < 10; decide), gB_s]
    exact e1
  · exact p.1.ce F c2 (by unfold DW; omega)
  · exact p.1.ce F c6 (by unfold DW; omega)
end WO2
