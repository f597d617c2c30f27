/-! CONTIGUOUS SHARES: the reference's least -/
theorem sfx_mem {p : Nat → Nat} : ∀ d k i, i < d → p (k + i) ∈ sfx p d k := by
  intro d
  induction d with
  | zero => intro k i hi; omega
  | succ d ih =>
    intro k i hi
    by_cases z : i = 0
    · subst z; exact List.mem_cons_self
    · have := ih (k + 1) (i - 1) (by omega)
      rw [show k + 1 + (i - 1) = k + i by omega] at this
      exact List.mem_cons_of_mem _ this
theorem okl_lt {n : Nat} : ∀ (l : List Nat) (s : Nat), okl n s l = true → ∀ x, x ∈ l → x < n := by
  intro l
  induction l with
  | nil => intro s _ x hx; exact absurd hx List.not_mem_nil
  | cons a l ih =>
    intro s h x hx
    simp only [okl, Bool.and_eq_true, decide_eq_true_eq] at h
    rcases List.mem_cons.mp hx with z | z
    · rw [z]; exact h.1.1
    · exact ih _ h.2 x z
theorem fA_b {p : Nat → Nat} : ∀ d i, fA p d = some i → i < d ∧ p i ≤ p (i + 1) := by
  intro d
  induction d with
  | zero => intro i h; cases h
  | succ d ih =>
    intro i h
    simp only [fA] at h
    by_cases q : p d ≤ p (d + 1)
    · rw [if_pos q] at h; cases h; exact ⟨by omega, q⟩
    · rw [if_neg q] at h
      have := ih i h
      exact ⟨by omega, this.2⟩
section LS
variable {S : gS} {m aQ : Nat → Int32} {n : Nat} {p : Nat → Nat}
theorem sq_sw (hn : n ≤ 6) (hq : ∀ k, k < n → aQ k = iI (p k : Nat)) {a b : Nat} (ha : a < n) (hb : b < n) : ∃ aQ', f_X6_swapSequence (iI a) (iI b) aQ = some aQ' ∧ ∀ k, k < n → aQ' k = iI (swp p a b k : Nat) := by
  refine ⟨upd (upd aQ a (aQ b)) b (aQ a), ?_, fun k hk => ?_⟩
  · unfold f_X6_swapSequence
    rw [ra_at (j := a) rfl (by omega) (by decide) rfl, gB_s, ra_at (j := b) rfl (by omega) (by decide) rfl, gB_s, wa_at (j := a) rfl (by omega) (by decide), gB_s, wa_at (j := b) rfl (by omega) (by decide), gB_s]
  · unfold upd swp
    by_cases z : k = b
    · rw [if_pos z, if_pos z]; exact hq a ha
    · rw [if_neg z, if_neg z]
      by_cases y : k = a
      · rw [if_pos y, if_pos y]; exact hq b hb
      · rw [if_neg y, if_neg y]; exact hq k hk
theorem sq_rv (hn : n ≤ 6) : ∀ (f lo hi fu : Nat) (p : Nat → Nat) (aQ : Nat → Int32), hi ≤ lo + 2 * f → f < fu → hi < n → lo ≤ 6 → (∀ k, k < n → aQ k = iI (p k : Nat)) → ∃ aQ', gL3 (f_X6_advanceSequence_L92 m) fu (iI lo) (iI hi) aQ = some ((1 : Int32), aQ') ∧ ∀ k, k < n → aQ' k = iI (rv f p lo hi k : Nat) := by
  intro f
  induction f with
  | zero =>
    intro lo hi fu p aQ h1 h2 h3 h4 hq
    obtain ⟨fu, rfl⟩ : ∃ k', fu = k' + 1 := ⟨fu - 1, by omega⟩
    refine ⟨aQ, ?_, hq⟩
    show f_X6_advanceSequence_L92 m (gL3 (f_X6_advanceSequence_L92 m) fu) _ _ _ = _
    unfold f_X6_advanceSequence_L92
    rw [if_pos (by rw [iI_le (by omega) (by omega) (by omega) (by omega)]; omega)]
  | succ f ih =>
    intro lo hi fu p aQ h1 h2 h3 h4 hq
    obtain ⟨fu, rfl⟩ : ∃ k', fu = k' + 1 := ⟨fu - 1, by omega⟩
    show ∃ aQ' : Nat → Int32, f_X6_advanceSequence_L92 m (gL3 (f_X6_advanceSequence_L92 m) fu) (iI lo) (iI hi) aQ = _ ∧ ∀ k, k < n → aQ' k = iI ((if hi ≤ lo then p else rv f (swp p lo hi) (lo + 1) (hi - 1)) k : Nat)
    unfold f_X6_advanceSequence_L92
    by_cases q : hi ≤ lo
    · rw [if_pos (by rw [iI_le (by omega) (by omega) (by omega) (by omega)]; omega)]
      refine ⟨aQ, rfl, fun k hk => by rw [if_pos q]; exact hq k hk⟩
    · obtain ⟨aQ1, e1, hq1⟩ := sq_sw hn hq (a := lo) (b := hi) (by omega) h3
      obtain ⟨aQ2, e2, hq2⟩ := ih (lo + 1) (hi - 1) fu (swp p lo hi) aQ1 (by omega) (by omega) (by omega) (by omega) hq1
      refine ⟨aQ2, ?_, fun k hk => by rw [if_neg q]; exact hq2 k hk⟩
      have e3 : iI (hi : Int) + (-1 : Int32) = iI ((hi - 1 : Nat) : Int) := by rw [iI_n1, iI_add]; congr 1; omega
      rw [if_neg (by rw [iI_le (by omega) (by omega) (by omega) (by omega)]; omega), e1, gB_s, e3, iI_1, iI_add]
      exact e2
theorem mAdv (hB : BlkAt m 0 S) (hw : WF S) (hq : ∀ k, k < S.n → aQ k = iI (p k : Nat)) (hp : ∀ k, k < S.n → p k < 8) : (nx S.n p = none → f_X6_advanceSequence m aQ = some ((0 : Int32), aQ)) ∧ ∀ p', nx S.n p = some p' → ∃ aQ' : Nat → Int32, f_X6_advanceSequence m aQ = some ((1 : Int32), aQ') ∧ ∀ k, k < S.n → aQ' k = iI (p' k : Nat) := by
  have hn := hw.2.1
  have hN : g_ra 2120 m (1 : Int32) = some (iI S.n) := b_n hB
  have l9 : ∀ d fu : Nat, d + 1 ≤ S.n → d < fu → gL1 (f_X6_advanceSequence_L9 m aQ) fu (iI ((d : Int) - 1)) = f_X6_advanceSequence_J36 (match fA p d with | none => iI (-1) | some i => iI i) m aQ := by
    intro d
    induction d with
    | zero =>
      intro fu hd hfu
      obtain ⟨fu, rfl⟩ : ∃ k', fu = k' + 1 := ⟨fu - 1, by omega⟩
      show f_X6_advanceSequence_L9 m aQ (gL1 (f_X6_advanceSequence_L9 m aQ) fu) _ = _
      unfold f_X6_advanceSequence_L9
      rw [if_pos (by decide)]
      rfl
    | succ d ih =>
      intro fu hd hfu
      obtain ⟨fu, rfl⟩ : ∃ k', fu = k' + 1 := ⟨fu - 1, by omega⟩
      have ih := ih fu (by omega) (by omega)
      have p1 := hp d (by omega)
      have p2 := hp (d + 1) (by omega)
      show f_X6_advanceSequence_L9 m aQ (gL1 (f_X6_advanceSequence_L9 m aQ) fu) _ = _
      rw [show ((d + 1 : Nat) : Int) - 1 = (d : Int) by omega]
      generalize gL1 (f_X6_advanceSequence_L9 m aQ) fu = r at ih ⊢
      unfold f_X6_advanceSequence_L9
      have e1 : iI (d : Int) + (1 : Int32) = iI ((d + 1 : Nat) : Int) := by rw [iI_1, iI_add]; rfl
      have e2 : iI (d : Int) + (-1 : Int32) = iI ((d : Int) - 1) := by rw [iI_n1, iI_add]; congr 1
      rw [if_neg (by rw [show (0 : Int32) = iI 0 from rfl, iI_lt (by omega) (by omega) (by omega) (by omega)]; omega), ra_at (j := d) rfl (by omega) (by decide) (hq d (by omega)), gB_s, e1, ra_at (j := d + 1) rfl (by omega) (by decide) (hq (d + 1) (by omega)), gB_s, e2, ih]
      simp only [fA]
      by_cases q : p d ≤ p (d + 1)
      · rw [if_pos q, if_pos (by rw [iI_le (by omega) (by omega) (by omega) (by omega)]; omega)]
      · rw [if_neg q, if_neg (by rw [iI_le (by omega) (by omega) (by omega) (by omega)]; omega)]
  have start : f_X6_advanceSequence m aQ = f_X6_advanceSequence_J36 (match fA p (S.n - 1) with | none => iI (-1) | some i => iI i) m aQ := by
    unfold f_X6_advanceSequence
    have e2 : iI (S.n : Int) - (2 : Int32) = iI (((S.n - 1 : Nat) : Int) - 1) := by rw [show (2 : Int32) = iI 2 from rfl, iI_sub]; congr 1; omega
    rw [hN, gB_s, e2]
    exact l9 (S.n - 1) gN (by omega) (by unfold gN; omega)
  rw [start]
  cases hA : fA p (S.n - 1) with
  | none =>
    refine ⟨fun _ => ?_, fun p' h => ?_⟩
    · show f_X6_advanceSequence_J36 (iI (-1)) m aQ = _
      unfold f_X6_advanceSequence_J36
      rw [if_neg (by decide)]
    · unfold nx at h; rw [hA] at h; cases h
  | some i =>
    obtain ⟨i1, i2⟩ := fA_b _ _ hA
    refine ⟨fun h => (by unfold nx at h; rw [hA] at h; cases h), fun p' h => ?_⟩
    unfold nx at h
    rw [hA] at h
    cases h
    have l51 : ∀ j fu : Nat, i + 1 ≤ j → j < S.n → j < fu → fB p i (j + 1) < S.n ∧ gL1 (f_X6_advanceSequence_L51 (iI i) m aQ) fu (iI j) = f_X6_advanceSequence_J72 (iI i) (iI (fB p i (j + 1) : Nat)) m aQ := by
      intro j
      induction j with
      | zero => intro fu h1 h2 hfu; omega
      | succ j ih =>
        intro fu h1 h2 hfu
        obtain ⟨fu, rfl⟩ : ∃ k', fu = k' + 1 := ⟨fu - 1, by omega⟩
        have p1 := hp i (by omega)
        have p2 := hp (j + 1) (by omega)
        show _ ∧ f_X6_advanceSequence_L51 (iI i) m aQ (gL1 (f_X6_advanceSequence_L51 (iI i) m aQ) fu) _ = _
        rw [show fB p i (j + 1 + 1) = if p i ≤ p (j + 1) then j + 1 else fB p i (j + 1) from rfl]
        have e2 : iI ((j + 1 : Nat) : Int) + (-1 : Int32) = iI (j : Int) := by rw [iI_n1, iI_add]; congr 1; omega
        by_cases q : p i ≤ p (j + 1)
        · rw [if_pos q]
          refine ⟨h2, ?_⟩
          unfold f_X6_advanceSequence_L51
          rw [ra_at (j := j + 1) rfl (by omega) (by decide) (hq (j + 1) (by omega)), gB_s, ra_at (j := i) rfl (by omega) (by decide) (hq i (by omega)), gB_s, if_pos (by rw [iI_le (by omega) (by omega) (by omega) (by omega)]; omega)]
        · rw [if_neg q]
          have hne : j ≠ i := fun z => by rw [z] at q; exact q i2
          obtain ⟨x1, x2⟩ := ih fu (by omega) (by omega) (by omega)
          refine ⟨x1, ?_⟩
          rw [← x2]
          generalize gL1 (f_X6_advanceSequence_L51 (iI i) m aQ) fu = r
          unfold f_X6_advanceSequence_L51
          rw [ra_at (j := j + 1) rfl (by omega) (by decide) (hq (j + 1) (by omega)), gB_s, ra_at (j := i) rfl (by omega) (by decide) (hq i (by omega)), gB_s, if_neg (by rw [iI_le (by omega) (by omega) (by omega) (by omega)]; omega), e2]
    obtain ⟨b1, b2⟩ := l51 (S.n - 1) gN (by omega) (by omega) (by unfold gN; omega)
    rw [show S.n - 1 + 1 = S.n by omega] at b1 b2
    obtain ⟨aQ1, y1, y2⟩ := sq_sw hn.2 hq (a := i) (b := fB p i S.n) (by omega) b1
    obtain ⟨aQ2, z1, z2⟩ := sq_rv (m := m) hn.2 6 (i + 1) (S.n - 1) gN (swp p i (fB p i S.n)) aQ1 (by omega) (by unfold gN; omega) (by omega) (by omega) y2
    refine ⟨aQ2, ?_, z2⟩
    show f_X6_advanceSequence_J36 (iI i) m aQ = _
    unfold f_X6_advanceSequence_J36
    have e1 : iI (S.n : Int) - (1 : Int32) = iI ((S.n - 1 : Nat) : Int) := by rw [iI_1, iI_sub]; congr 1; omega
    rw [if_pos (by rw [show (0 : Int32) = iI 0 from rfl, iI_le (by omega) (by omega) (by omega) (by omega)]; omega), hN, gB_s, e1, b2]
    unfold f_X6_advanceSequence_J72
    rw [y1, gB_s, hN, gB_s, e1, iI_1, iI_add]
    exact z1
theorem mRe (hB : BlkAt m 0 S) (hw : WF S) (hq : ∀ k, k < S.n → aQ k = iI (p k : Nat)) (hp : ∀ k, k < S.n → p k < S.n) {v : Int} (hv : 0 ≤ v ∧ v ≤ 1000) : f_X6_reaches (iI v) m aQ = some (if (gl S v (sfx p S.n 0) 0).isSome = true then (1 : Int32) else 0) := by
  have hn := hw.2.1
  have hc := hw.1
  have hN : g_ra 2120 m (1 : Int32) = some (iI S.n) := b_n hB
  have hC : g_ra 2120 m (0 : Int32) = some (iI S.c) := b_c hB
  have l17 : ∀ k, k < S.n → ∀ (r4 : Int32 → Int32 → Option Int32) (d fu : Nat) (x : Int), d ≤ S.c → d < fu → 0 ≤ x ∧ x ≤ ((S.c : Int) - d) * 9 → gL2 (f_X6_reaches_L17 r4 (iI v) (iI k) m aQ) fu (iI (S.c - d : Nat)) (iI x) = match gq S v (p k) d x with | none => some (0 : Int32) | some e => r4 (iI e) (iI ((k : Int) + 1)) := by
    intro k hk r4 d
    have hpk := hp k hk
    induction d with
    | zero =>
      intro fu x hd hfu hx
      obtain ⟨fu, rfl⟩ : ∃ k', fu = k' + 1 := ⟨fu - 1, by omega⟩
      show f_X6_reaches_L17 r4 (iI v) (iI k) m aQ (gL2 (f_X6_reaches_L17 r4 (iI v) (iI k) m aQ) fu) _ _ = match (if v ≤ x then some S.c else none) with | none => some (0 : Int32) | some e => r4 (iI e) (iI ((k : Int) + 1))
      unfold f_X6_reaches_L17
      by_cases q : v ≤ x
      · have hle : iI v ≤ iI x := by rw [iI_le (by omega) (by omega) (by omega) (by omega)]; exact q
        rw [if_pos hle, if_pos hle, if_pos q, iI_1, iI_add]
        rfl
      · have hle : ¬ iI v ≤ iI x := by rw [iI_le (by omega) (by omega) (by omega) (by omega)]; exact q
        rw [if_neg hle, hC, gB_s, if_pos (by rw [iI_le (by omega) (by omega) (by omega) (by omega)]; omega), if_neg hle, if_neg q]
    | succ d ih =>
      intro fu x hd hfu hx
      obtain ⟨fu, rfl⟩ : ∃ k', fu = k' + 1 := ⟨fu - 1, by omega⟩
      have hpos : S.c - (d + 1) < S.c := by omega
      have hb := hw.2.2.2.1 (p k) hpk (S.c - (d + 1)) hpos
      have ih := ih fu (x + S.v (p k) (S.c - (d + 1))) (by omega) (by omega) (by omega)
      show f_X6_reaches_L17 r4 (iI v) (iI k) m aQ (gL2 (f_X6_reaches_L17 r4 (iI v) (iI k) m aQ) fu) _ _ = match (if v ≤ x then some (S.c - (d + 1)) else gq S v (p k) d (x + S.v (p k) (S.c - (d + 1)))) with | none => some (0 : Int32) | some e => r4 (iI e) (iI ((k : Int) + 1))
      generalize gL2 (f_X6_reaches_L17 r4 (iI v) (iI k) m aQ) fu = r at ih ⊢
      unfold f_X6_reaches_L17
      by_cases q : v ≤ x
      · have hle : iI v ≤ iI x := by rw [iI_le (by omega) (by omega) (by omega) (by omega)]; exact q
        rw [if_pos hle, if_pos hle, if_pos q, iI_1, iI_add]
      · have hle : ¬ iI v ≤ iI x := by rw [iI_le (by omega) (by omega) (by omega) (by omega)]; exact q
        have e1 : iI ((S.c - (d + 1) : Nat) : Int) + (1 : Int32) = iI ((S.c - d : Nat) : Int) := by rw [iI_1, iI_add]; congr 1; omega
        rw [if_neg hle, hC, gB_s, if_neg (by rw [iI_le (by omega) (by omega) (by omega) (by omega)]; omega), ra_at (j := k) rfl (by omega) (by decide) (hq k hk), gB_s, b_val hB hpk hn.2 hpos hc.2, gB_s, iI_add, e1, if_neg q]
        exact ih
  have l4 : ∀ d k pos fu : Nat, k + d = S.n → pos ≤ S.c → d < fu → gL2 (f_X6_reaches_L4 (iI v) m aQ) fu (iI pos) (iI k) = some (if (gl S v (sfx p d k) pos).isSome = true then (1 : Int32) else 0) := by
    intro d
    induction d with
    | zero =>
      intro k pos fu hk hpos hfu
      obtain ⟨fu, rfl⟩ : ∃ k', fu = k' + 1 := ⟨fu - 1, by omega⟩
      show f_X6_reaches_L4 (iI v) m aQ (gL2 (f_X6_reaches_L4 (iI v) m aQ) fu) _ _ = _
      unfold f_X6_reaches_L4
      rw [hN, gB_s, if_pos (by rw [iI_le (by omega) (by omega) (by omega) (by omega)]; omega)]
      rfl
    | succ d ih =>
      intro k pos fu hk hpos hfu
      obtain ⟨fu, rfl⟩ : ∃ k', fu = k' + 1 := ⟨fu - 1, by omega⟩
      have := l17 k (by omega) (gL2 (f_X6_reaches_L4 (iI v) m aQ) fu) (S.c - pos) gN 0 (by omega) (by unfold gN; omega) ⟨by omega, by omega⟩
      rw [show S.c - (S.c - pos) = pos by omega] at this
      show f_X6_reaches_L4 (iI v) m aQ (gL2 (f_X6_reaches_L4 (iI v) m aQ) fu) (iI pos) (iI k) = some (if (Option.bind (gq S v (p k) (S.c - pos) 0) (gl S v (sfx p d (k + 1)))).isSome = true then (1 : Int32) else 0)
      have head : f_X6_reaches_L4 (iI v) m aQ (gL2 (f_X6_reaches_L4 (iI v) m aQ) fu) (iI pos) (iI k) = gL2 (f_X6_reaches_L17 (gL2 (f_X6_reaches_L4 (iI v) m aQ) fu) (iI v) (iI k) m aQ) gN (iI pos) (iI 0) := by
        rw [show f_X6_reaches_L4 (iI v) m aQ (gL2 (f_X6_reaches_L4 (iI v) m aQ) fu) (iI pos) (iI k) = Option.bind (g_ra 2120 m (1 : Int32)) fun v1 => (if v1 ≤ iI k then some (1 : Int32) else gL2 (f_X6_reaches_L17 (gL2 (f_X6_reaches_L4 (iI v) m aQ) fu) (iI v) (iI k) m aQ) gN (iI pos) (0 : Int32)) from rfl, hN, gB_s, if_neg (by rw [iI_le (by omega) (by omega) (by omega) (by omega)]; omega)]
        rfl
      rw [head, this]
      cases hg : gq S v (p k) (S.c - pos) 0 with
      | none => rfl
      | some e =>
        have hle := gq_le (S := S) (v := v) (a := p k) (S.c - pos) 0 e (by omega) hg
        exact ih (k + 1) e fu (by omega) hle.2.1 (by omega)
  exact l4 S.n 0 0 gN (by omega) (by omega) (by unfold gN; omega)
theorem mL33 (hB : BlkAt m 0 S) (hw : WF S) (hq : ∀ k, k < S.n → aQ k = iI (p k : Nat)) (hok : okl S.n 0 (sfx p S.n 0) = true) (r29 : Int32 → Int32 → (Nat → Int32) → Option (Int32 × (Nat → Int32))) : ∀ (d fu : Nat) (v : Int), 0 ≤ v → v + d = Tz S false (2 ^ S.n - 1) S.c → d < fu → ∃ v', v ≤ v' ∧ v' ≤ Tz S false (2 ^ S.n - 1) S.c ∧ gl S (v' + 1) (sfx p S.n 0) 0 = none ∧ gL1 (f_X6_contiguousLeast_L33 r29 m aQ) fu (iI v) = gT2 (f_X6_advanceSequence m aQ) fun v5 aQ_6 => r29 (iI v') v5 aQ_6 := by
  have hn := hw.2.1
  have hc := hw.1
  have h64 := two_n hn.2
  have hpos : 2 ≤ 2 ^ S.n := by
    have : 2 ^ 1 ≤ 2 ^ S.n := Nat.pow_le_pow_right (by decide) hn.1
    exact this
  have hb := Tz_b (b := false) hw (2 ^ S.n - 1) (by omega) (by omega) S.c (Nat.le_refl _)
  have hp : ∀ k, k < S.n → p k < S.n := fun k hk => by
    have := sfx_mem (p := p) S.n 0 k hk
    rw [Nat.zero_add] at this
    exact okl_lt _ _ hok _ this
  intro d
  induction d with
  | zero =>
    intro fu v h0 hd hfu
    obtain ⟨fu, rfl⟩ : ∃ k', fu = k' + 1 := ⟨fu - 1, by omega⟩
    have hre := mRe hB hw hq hp (v := v + 1) (by omega)
    have hno : gl S (v + 1) (sfx p S.n 0) 0 = none := by
      cases hg : gl S (v + 1) (sfx p S.n 0) 0 with
      | none => rfl
      | some e =>
        have := clA' hw (by omega) (by omega) hok hg
        omega
    refine ⟨v, by omega, by omega, hno, ?_⟩
    show f_X6_contiguousLeast_L33 r29 m aQ (gL1 (f_X6_contiguousLeast_L33 r29 m aQ) fu) _ = _
    unfold f_X6_contiguousLeast_L33
    rw [iI_1, iI_add, hre, gB_s, hno]
    exact if_pos rfl
  | succ d ih =>
    intro fu v h0 hd hfu
    obtain ⟨fu, rfl⟩ : ∃ k', fu = k' + 1 := ⟨fu - 1, by omega⟩
    have hre := mRe hB hw hq hp (v := v + 1) (by omega)
    show ∃ v', v ≤ v' ∧ v' ≤ Tz S false (2 ^ S.n - 1) S.c ∧ gl S (v' + 1) (sfx p S.n 0) 0 = none ∧ f_X6_contiguousLeast_L33 r29 m aQ (gL1 (f_X6_contiguousLeast_L33 r29 m aQ) fu) (iI v) = _
    cases hg : gl S (v + 1) (sfx p S.n 0) 0 with
    | none =>
      refine ⟨v, by omega, by omega, hg, ?_⟩
      unfold f_X6_contiguousLeast_L33
      rw [iI_1, iI_add, hre, gB_s, hg]
      exact if_pos rfl
    | some e =>
      obtain ⟨v', v1, v2, v3, v4⟩ := ih fu (v + 1) (by omega) (by omega) (by omega)
      refine ⟨v', by omega, v2, v3, ?_⟩
      rw [← v4]
      generalize gL1 (f_X6_contiguousLeast_L33 r29 m aQ) fu = r
      unfold f_X6_contiguousLeast_L33
      rw [iI_1, iI_add, hre, gB_s, hg, show (if (some e).isSome = true then (1 : Int32) else 0) = 1 from rfl]
      exact if_neg (by decide)
theorem gL3_su {A B C D : Type} {f : (A → B → C → Option D) → A → B → C → Option D} {k : Nat} {a : A} {b : B} {c : C} : gL3 f (k + 1) a b c = f (gL3 f k) a b c := rfl
theorem mL29 (hB : BlkAt m 0 S) (hw : WF S) : ∀ (r : List Nat) (a fu : Nat) (v : Int) (aQ : Nat → Int32), chk S.n a r = true → (∀ k, k ∈ a :: r → okl S.n 0 (dgl S.n k) = true) → (∀ k, k < S.n → aQ k = iI (dg a k : Nat)) → 0 ≤ v → v ≤ Tz S false (2 ^ S.n - 1) S.c → r.length + 1 < fu → ∃ v' aQ', v ≤ v' ∧ v' ≤ Tz S false (2 ^ S.n - 1) S.c ∧ (∀ k, k ∈ a :: r → ∃ w, w ≤ v' ∧ gl S (w + 1) (dgl S.n k) 0 = none) ∧ gL3 (f_X6_contiguousLeast_L29 m) fu (iI v) (1 : Int32) aQ = some (iI v', aQ') := by
  have hn := hw.2.1
  have hc := hw.1
  have h64 := two_n hn.2
  have hpos : 2 ≤ 2 ^ S.n := by
    have : 2 ^ 1 ≤ 2 ^ S.n := Nat.pow_le_pow_right (by decide) hn.1
    exact this
  have hb := Tz_b (b := false) hw (2 ^ S.n - 1) (by omega) (by omega) S.c (Nat.le_refl _)
  have d8 : ∀ a k, dg a k < 8 := fun a k => by unfold dg; exact Nat.mod_lt _ (by decide)
  intro r
  induction r with
  | nil =>
    intro a fu v aQ hch hok hq h0 hv hfu
    obtain ⟨fu, rfl⟩ : ∃ k', fu = k' + 1 := ⟨fu - 1, by omega⟩
    obtain ⟨fu, rfl⟩ : ∃ k', fu = k' + 1 := ⟨fu - 1, by simp only [List.length_nil] at hfu; omega⟩
    obtain ⟨v', v1, v2, v3, v4⟩ := mL33 hB hw hq (hok a List.mem_cons_self) (gL3 (f_X6_contiguousLeast_L29 m) (fu + 1)) (Tz S false (2 ^ S.n - 1) S.c - v).toNat gN v h0 (by omega) (by unfold gN; omega)
    have hnx : nxl S.n a = none := of_decide_eq_true hch
    have hnone : nx S.n (dg a) = none := by
      unfold nxl at hnx
      cases hx : nx S.n (dg a) with
      | none => rfl
      | some p' => rw [hx] at hnx; cases hnx
    have had := (mAdv hB hw hq (fun k _ => d8 a k)).1 hnone
    refine ⟨v', aQ, v1, v2, fun k hk => ?_, ?_⟩
    · have := List.mem_singleton.mp hk
      subst this
      exact ⟨v', Int.le_refl _, v3⟩
    · have hz : gL3 (f_X6_contiguousLeast_L29 m) (fu + 1) (iI v') (0 : Int32) aQ = some (iI v', aQ) := by
        rw [gL3_su]
        generalize gL3 (f_X6_contiguousLeast_L29 m) fu = r
        unfold f_X6_contiguousLeast_L29
        rw [if_pos rfl]
      rw [gL3_su]
      generalize gL3 (f_X6_contiguousLeast_L29 m) (fu + 1) = r at v4 hz ⊢
      unfold f_X6_contiguousLeast_L29
      rw [if_neg (by decide), v4, had, gT2_s]
      exact hz
  | cons b r ih =>
    intro a fu v aQ hch hok hq h0 hv hfu
    obtain ⟨fu, rfl⟩ : ∃ k', fu = k' + 1 := ⟨fu - 1, by omega⟩
    obtain ⟨v', v1, v2, v3, v4⟩ := mL33 hB hw hq (hok a List.mem_cons_self) (gL3 (f_X6_contiguousLeast_L29 m) fu) (Tz S false (2 ^ S.n - 1) S.c - v).toNat gN v h0 (by omega) (by unfold gN; omega)
    simp only [chk, Bool.and_eq_true, decide_eq_true_eq] at hch
    obtain ⟨hnx, hch2⟩ := hch
    obtain ⟨p', hsome, hdg⟩ : ∃ p', nx S.n (dg a) = some p' ∧ sfx p' S.n 0 = dgl S.n b := by
      unfold nxl at hnx
      cases hx : nx S.n (dg a) with
      | none => rw [hx] at hnx; cases hnx
      | some p' =>
        rw [hx] at hnx
        exact ⟨p', rfl, Option.some.inj hnx⟩
    obtain ⟨aQ1, had, hq1⟩ := (mAdv hB hw hq (fun k _ => d8 a k)).2 p' hsome
    have hq2 : ∀ k, k < S.n → aQ1 k = iI (dg b k : Nat) := fun k hk => by
      have := sfx_inj S.n 0 hdg k hk
      rw [Nat.zero_add] at this
      rw [hq1 k hk, this]
    obtain ⟨v'', aQ', w1, w2, w3, w4⟩ := ih b fu v' aQ1 hch2 (fun k hk => hok k (List.mem_cons_of_mem a hk)) hq2 (by omega) v2 (by simp only [List.length_cons] at hfu; omega)
    refine ⟨v'', aQ', by omega, w2, fun k hk => ?_, ?_⟩
    · rcases List.mem_cons.mp hk with z | z
      · subst z
        exact ⟨v', w1, v3⟩
      · exact w3 k z
    · rw [gL3_su]
      generalize gL3 (f_X6_contiguousLeast_L29 m) fu = r at v4 w4 ⊢
      unfold f_X6_contiguousLeast_L29
      rw [if_neg (by decide), v4, had, gT2_s]
      exact w4
theorem sLs_len : ∀ n, n < 7 → (sLs n).length ≤ 720 := by decide +kernel
theorem mCl (hB : BlkAt m 0 S) (hw : WF S) (aQ : Nat → Int32) : ∃ aQ', f_X6_contiguousLeast m aQ = some (iI (Tz S false (2 ^ S.n - 1) S.c), aQ') := by
  have hn := hw.2.1
  have hc := hw.1
  have h64 := two_n hn.2
  have hN : g_ra 2120 m (1 : Int32) = some (iI S.n) := b_n hB
  have hpos : 2 ≤ 2 ^ S.n := by
    have : 2 ^ 1 ≤ 2 ^ S.n := Nat.pow_le_pow_right (by decide) hn.1
    exact this
  have hb := Tz_b (b := false) hw (2 ^ S.n - 1) (by omega) (by omega) S.c (Nat.le_refl _)
  have l2 : ∀ d k fu : Nat, ∀ aQ : Nat → Int32, k + d = S.n → d < fu → (∀ j, j < k → aQ j = iI (j : Nat)) → ∃ aQ1, (∀ j, j < S.n → aQ1 j = iI (j : Nat)) ∧ gL2 (f_X6_contiguousLeast_L2 m) fu (iI k) aQ = f_X6_contiguousLeast_J25 m aQ1 := by
    intro d
    induction d with
    | zero =>
      intro k fu aQ hk hfu hq
      obtain ⟨fu, rfl⟩ : ∃ k', fu = k' + 1 := ⟨fu - 1, by omega⟩
      refine ⟨aQ, fun j hj => hq j (by omega), ?_⟩
      show f_X6_contiguousLeast_L2 m (gL2 (f_X6_contiguousLeast_L2 m) fu) _ _ = _
      unfold f_X6_contiguousLeast_L2
      rw [hN, gB_s, if_pos (by rw [iI_le (by omega) (by omega) (by omega) (by omega)]; omega)]
    | succ d ih =>
      intro k fu aQ hk hfu hq
      obtain ⟨fu, rfl⟩ : ∃ k', fu = k' + 1 := ⟨fu - 1, by omega⟩
      obtain ⟨aQ1, y1, y2⟩ := ih (k + 1) fu (upd aQ k (iI k)) (by omega) (by omega) (fun j hj => by
        unfold upd
        by_cases z : j = k
        · rw [if_pos z, z]
        · rw [if_neg z]; exact hq j (by omega))
      refine ⟨aQ1, y1, ?_⟩
      rw [← y2]
      show f_X6_contiguousLeast_L2 m (gL2 (f_X6_contiguousLeast_L2 m) fu) _ _ = _
      generalize gL2 (f_X6_contiguousLeast_L2 m) fu = r
      unfold f_X6_contiguousLeast_L2
      rw [hN, gB_s, if_neg (by rw [iI_le (by omega) (by omega) (by omega) (by omega)]; omega), wa_at (j := k) rfl (by omega) (by decide), gB_s, iI_1, iI_add]
      rfl
  obtain ⟨aQ1, hq1, e1⟩ := l2 S.n 0 gN aQ (by omega) (by unfold gN; omega) (fun j hj => absurd hj (Nat.not_lt_zero j))
  have hso := sOk_n hn.1 hn.2
  unfold sOk at hso
  simp only [Bool.and_eq_true, decide_eq_true_eq] at hso
  obtain ⟨⟨hs1, hs2⟩, -⟩ := hso
  have hlen := sLs_len S.n (by omega)
  obtain ⟨k, hk1, hk2⟩ := clB' hw
  cases hL : sLs S.n with
  | nil => rw [hL] at hk1; exact absurd hk1 List.not_mem_nil
  | cons a r =>
    rw [hL] at hs1 hs2 hlen hk1
    simp only [Bool.and_eq_true, decide_eq_true_eq] at hs1
    obtain ⟨hs1, hs3⟩ := hs1
    obtain ⟨v', aQ', w1, w2, w3, w4⟩ := mL29 hB hw r a gN 0 aQ1 hs3 (fun k hk => List.all_eq_true.mp hs2 k hk) (fun j hj => by
      have := sfx_inj S.n 0 hs1 j hj
      rw [Nat.zero_add] at this
      rw [hq1 j hj, this]) (Int.le_refl _) hb.1 (by unfold gN; simp only [List.length_cons] at hlen; omega)
    have hfin : v' = Tz S false (2 ^ S.n - 1) S.c := by
      by_cases z : v' = Tz S false (2 ^ S.n - 1) S.c
      · exact z
      · obtain ⟨w, x1, x2⟩ := w3 k hk1
        obtain ⟨p, hp⟩ := hk2 (w + 1) (by omega)
        rw [hp] at x2; cases x2
    rw [hfin] at w4
    refine ⟨aQ', ?_⟩
    unfold f_X6_contiguousLeast
    show gL2 (f_X6_contiguousLeast_L2 m) gN (iI (0 : Nat)) aQ = _
    rw [e1]
    exact w4
end LS
section PL
variable {h : gH} {cd o n : Nat} {M M' : gMS} {st : Nat} {S : gS} {sa : Nat → Nat} {len hd : Nat} {hs : Nat → Nat} {HS : Nat → gS} {fv : Nat → Option Nat} {VS : Nat → gS}
theorem p_bestLeastWelfare (w : gW cd o h n M st S sa len hd hs HS fv VS) (iT : Int32) (aQ : Nat → Int32) : ∃ v h' n' t aQ', gPas h n h' n' noD ∧ f_X1_bestLeastWelfare cd h n = some (v, h', n') ∧ f_X6_bestLeastWelfare M.aM iT aQ = some (v, t, aQ') := by
  obtain ⟨F, w1, w2, w3, w4, ⟨w5, w6, w7⟩, -⟩ := w
  obtain ⟨h', n', u, e⟩ := cDvd (b := false) F w4.cur w5 w6
  obtain ⟨aQ', e2⟩ := mCl w7 w6 aQ
  refine ⟨_, h', n', 0, aQ', u, e, ?_⟩
  unfold f_X6_bestLeastWelfare f_X6_plain
  rw [e2, gT2_s, gT2_s]
end PL
