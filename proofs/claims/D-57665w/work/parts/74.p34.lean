/-! THE OUTPUT, 2: runs, owners -/
section WO
variable {h : gH} {cd o n : Nat} {M M' : gMS} {st : Nat} {S S' : gS} {sa : Nat → Nat} {len hd : Nat} {hs : Nat → Nat} {HS : Nat → gS} {fv : Nat → Option Nat} {VS : Nat → gS} {h0 : gH} {n0 : Nat} {iL ec ep : Int32} {m : Nat → Int32}
theorem DW_k {k : Nat → Int32} {e0 : List Value} (c1 : h cd = some (.inr (3, e0))) (c7 : h (cd + 11) = some (.inl (1, 240, .inl k))) {b : Nat} {e : gE} (hb : h b = some e) (hk : kSt e) : ¬ DW cd b := by
  rintro (q | q)
  · rw [q, c1] at hb; cases hb; exact kS_noO ⟨by decide, by decide, by decide⟩ hk
  · rw [q, c7] at hb; cases hb; exact kS_no1 (by decide) hk
/-- both put one run -/
theorem run_ok {W r : Nat} {ow : Int} {k aR k0 : Nat → Int32} {e0 : List Value} (F0 : gFr h0 n0) (hc0 : h0 cd = some (.inr (3, e0))) (hc7 : h0 (cd + 11) = some (.inl (1, 240, .inl k0))) (hS : StAt h0 st S sa) (hw : WF S) (hB : BlkAt m 0 S) (p : wrP cd st iL ec ep h0 n0 h n W k) (eq : eqW k aR W) (hr : 1 ≤ r ∧ r < 25) (ho : -1 ≤ ow ∧ ow < S.n) (hW : W + 9 ≤ 240) : ∃ (h' : gH) (n' W' : Nat) (k' aR' : Nat → Int32), f_X1_writeRun cd (iI r) (iI ow) h n = some (h', n') ∧ f_X6_putRun (iI r) (iI ow) m aR (iI W) = some (aR', iI W') ∧ wrP cd st iL ec ep h0 n0 h' n' W' k' ∧ eqW k' aR' W' ∧ W' ≤ W + 8 + (if 10 ≤ r then 1 else 0) := by
  have hcn : cd + 11 < n0 := F0.lt hc7
  have hn := hw.2.1
  have hd := dv10 r hr.2
  have tail : ∀ (h : gH) (n W : Nat) (k aR : Nat → Int32), wrP cd st iL ec ep h0 n0 h n W k → eqW k aR W → W + 7 ≤ 240 → ∃ (h' : gH) (n' W' : Nat) (k' aR' : Nat → Int32), f_X1_writeRun_J42 cd (iI r) (iI ow) h n = some (h', n') ∧ f_X6_putRun_J30 (iI r) (iI ow) m aR (iI W) = some (aR', iI W') ∧ wrP cd st iL ec ep h0 n0 h' n' W' k' ∧ eqW k' aR' W' ∧ W' ≤ W + 7 := by
    intro h n W k aR p eq hW
    have ez : (48 : Int32) + (iI r - iI r / (10 : Int32) * (10 : Int32)) = iI ((48 + r % 10 : Nat) : Int) := by
      rw [hd.2, iI_48, iI_add, Int.natCast_add]; rfl
    obtain ⟨h1, p1, e1⟩ := wr_e (α := gH × Nat) ez p F0 hcn (by omega) (by omega)
    have eq1 := eq.sn (x := iI ((48 + r % 10 : Nat) : Int))
    unfold f_X1_writeRun_J42 f_X6_putRun_J30
    rw [e1, ez, mPut (by omega), gT2_s]
    by_cases q : ow = -1
    · obtain ⟨h2, p2, e2⟩ := wr_e (α := gH × Nat) (z := 45) (x := (45 : Int32)) rfl p1 F0 hcn (by omega) (by omega)
      refine ⟨h2, n + 1 + 1, W + 1 + 1, _, _, ?_, ?_, p2, eq1.sn, by omega⟩
      · rw [if_pos (by rw [q]; rfl)]
        exact e2 fun a b => some (a, b)
      · rw [if_pos (by rw [q]; rfl), show (45 : Int32) = iI ((45 : Nat) : Int) from rfl, mPut (by omega), gT2_s]
    · obtain ⟨s, rfl⟩ : ∃ s : Nat, ow = s := ⟨ow.toNat, by omega⟩
      have hs : s < S.n := by omega
      have hl := hw.2.2.2.2 s hs
      obtain ⟨na, x1, ⟨x2, x3, x4⟩, g, x5, x6⟩ := hS.2.2.2.2.2 s hs
      have ks : ∀ b e, h0 b = some e → kSt e → h1 b = some e := fun b e hb he => p1.1.ce F0 hb (DW_k hc0 hc7 hb he)
      have hS1 := hS.kS hw ks
      have hna : na ≠ cd ∧ na ≠ cd + 11 := by
        refine ⟨fun z => (by rw [z, hc0] at x5; cases x5), fun z => ?_⟩
        rw [z, hc7] at x5
        simp only [Option.some.injEq, Sum.inl.injEq, Prod.mk.injEq] at x5
        omega
      obtain ⟨y1, y2, -⟩ := hB.2.2.2 s hs
      rw [show 212 * 0 + 26 + 31 * s = 26 + 31 * s by omega] at y1 y2
      obtain ⟨h', n', kk', aR', e4, e5, p4, eq4⟩ := wrN_loop (m := m) (s := s) F0 hcn x5 x6 hna hl.1.2 hl.2 (by omega) y1 y2 (S.nm s).length 0 7 gN h1 (n + 1) (W + 1) _ _ (by omega) (by omega) (by unfold gN; omega) p1 eq1 (by omega)
      obtain ⟨fs2, o3⟩ := a_obj hS1
      refine ⟨h', n', W + 1 + (S.nm s).length, kk', aR', ?_, ?_, p4, eq4, by omega⟩
      · rw [if_neg (by rw [iI_n1, iI_eq (by omega) (by omega) (by omega) (by omega)]; omega), fA_at p1.2.1 rfl, gB_s, o3, gB_s, a_sib hS1 hs hn.2, gB_s, fA_at (ks _ _ x1 (.inr (.inl rfl))) rfl, gB_s]
        exact e4
      · rw [if_neg (by rw [iI_n1, iI_eq (by omega) (by omega) (by omega) (by omega)]; omega)]
        exact e5
  have mid : ∀ (h : gH) (n W : Nat) (k aR : Nat → Int32), wrP cd st iL ec ep h0 n0 h n W k → eqW k aR W → W + 8 ≤ 240 → ∃ (h' : gH) (n' W' : Nat) (k' aR' : Nat → Int32), f_X1_writeRun_J19 cd (iI r) (iI ow) h n = some (h', n') ∧ f_X6_putRun_J13 (iI r) (iI ow) m aR (iI W) = some (aR', iI W') ∧ wrP cd st iL ec ep h0 n0 h' n' W' k' ∧ eqW k' aR' W' ∧ W' ≤ W + 7 + (if 10 ≤ r then 1 else 0) := by
    intro h n W k aR p eq hW
    unfold f_X1_writeRun_J19 f_X6_putRun_J13
    by_cases q : 10 ≤ r
    · have ez : (48 : Int32) + iI r / (10 : Int32) = iI ((48 + r / 10 : Nat) : Int) := by
        rw [hd.1, iI_48, iI_add, Int.natCast_add]; rfl
      obtain ⟨h1, p1, e1⟩ := wr_e (α := gH × Nat) ez p F0 hcn (by omega) (by omega)
      obtain ⟨h', n', W', k', aR', e2, e3, p2, eq2, hle⟩ := tail h1 (n + 1) (W + 1) _ _ p1 (eq.sn (x := iI ((48 + r / 10 : Nat) : Int))) (by omega)
      refine ⟨h', n', W', k', aR', ?_, ?_, p2, eq2, by rw [if_pos q]; omega⟩
      · rw [if_neg (by rw [iI_9, iI_le (by omega) (by omega) (by omega) (by omega)]; omega), e1]
        exact e2
      · rw [if_neg (by rw [iI_10, iI_lt (by omega) (by omega) (by omega) (by omega)]; omega), ez, mPut (by omega), gT2_s]
        exact e3
    · obtain ⟨h', n', W', k', aR', e2, e3, p2, eq2, hle⟩ := tail h n W _ _ p eq (by omega)
      refine ⟨h', n', W', k', aR', ?_, ?_, p2, eq2, by rw [if_neg q]; omega⟩
      · rw [if_pos (by rw [iI_9, iI_le (by omega) (by omega) (by omega) (by omega)]; omega)]
        exact e2
      · rw [if_pos (by rw [iI_10, iI_lt (by omega) (by omega) (by omega) (by omega)]; omega)]
        exact e3
  unfold f_X1_writeRun f_X6_putRun
  rw [fI_at p.2.1 rfl, gB_s]
  by_cases q : W = 0
  · obtain ⟨h', n', W', k', aR', e2, e3, p2, eq2, hle⟩ := mid h n W _ _ p eq (by omega)
    refine ⟨h', n', W', k', aR', ?_, ?_, p2, eq2, by omega⟩
    · rw [if_pos (by rw [show (0 : Int32) = iI 0 from rfl, iI_le (by omega) (by omega) (by omega) (by omega)]; omega)]
      exact e2
    · rw [if_pos (by rw [show (0 : Int32) = iI 0 from rfl, iI_le (by omega) (by omega) (by omega) (by omega)]; omega)]
      exact e3
  · obtain ⟨h1, p1, e1⟩ := wr_e (α := gH × Nat) (z := 32) (x := (32 : Int32)) rfl p F0 hcn (by omega) (by omega)
    obtain ⟨h', n', W', k', aR', e2, e3, p2, eq2, hle⟩ := mid h1 (n + 1) (W + 1) _ _ p1 (eq.sn (x := iI ((32 : Nat) : Int))) (by omega)
    refine ⟨h', n', W', k', aR', ?_, ?_, p2, eq2, by omega⟩
    · rw [if_neg (by rw [show (0 : Int32) = iI 0 from rfl, iI_le (by omega) (by omega) (by omega) (by omega)]; omega), e1]
      exact e2
    · rw [if_neg (by rw [show (0 : Int32) = iI 0 from rfl, iI_le (by omega) (by omega) (by omega) (by omega)]; omega), show (32 : Int32) = iI ((32 : Nat) : Int) from rfl, mPut (by omega), gT2_s]
      exact e3
end WO
