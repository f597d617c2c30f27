/-! THE SETUP: the reference's parser, 3 -/
section PM3
variable {B : Nat → Int} {L : Nat} {fc g : Nat → Int32} {x : gV}
theorem wdIs_k {t : gTk} {i : Nat} (h : wdIs B t i = true) : t.k = 1 := by
  unfold wdIs at h
  simp only [Bool.and_eq_true, decide_eq_true_eq] at h
  exact h.1.1
theorem mSibs (hd : ∀ i j, i < g_tN → j < g_tN → x.2.2.1 i = x.2.2.1 j → i = j) (hB : byR fc g B L) (hL : L ≤ 600) : ∀ (d fu : Nat) (S : gS) (t : gTk) (m : Nat → Int32) (iE iP iA iY iF iV : Int32), 7 ≤ d + S.n → d + 1 < fu → WFp S → tkG B L t → tkR B t iA iY iF iV → BlkAt m 0 S → wdIs B t 2 = true → match pSibs B L d t S with
    | .inl (c, p) => ∃ m' a1 a2 a3 a4, gL7 (f_X6_parseSetup_L80 x g (iI L)) fu m iE iP iA iY iF iV = some ((0 : Int32), m', iI c, iI p, a1, a2, a3, a4) ∧ ∀ j, 212 ≤ j → m' j = m j
    | .inr S' => ∃ m' a1 a2 a3 a4, gL7 (f_X6_parseSetup_L80 x g (iI L)) fu m iE iP iA iY iF iV = some ((1 : Int32), m', iE, iP, a1, a2, a3, a4) ∧ WF S' ∧ BlkAt m' 0 S' ∧ ∀ j, 212 ≤ j → m' j = m j := by
  intro d
  induction d with
  | zero =>
    intro fu S t m iE iP iA iY iF iV hd7 hfu hw
    have := hw.2.1
    omega
  | succ d ih =>
    intro fu S t m iE iP iA iY iF iV hd7 hfu hw ht hr hM hwd
    obtain ⟨fu, rfl⟩ : ∃ k', fu = k' + 1 := ⟨fu - 1, by omega⟩
    obtain ⟨r1, r2, r3, r4⟩ := hr
    have hsib := mSib (iE := iE) (iP := iP) hB hL hw ht ⟨r1, r2, r3, r4⟩ hM
    have hi2 := mIsW (x := x) hd hB hL ht (i := 2) (by decide) (by decide)
    rw [hwd, if_pos rfl] at hi2
    have head : ∀ r, f_X6_parseSetup_L80 x g (iI L) r m iE iP iA iY iF iV = gT8 (f_X6_parseNewSibling m g (iI L) iE iP iA iY iF iV) fun v36 aM_37 iE_38 iP_39 iA_40 iY_41 iF_42 iV_43 => (if v36 = 0 then some ((0 : Int32), aM_37, iE_38, iP_39, iA_40, iY_41, iF_42, iV_43) else r aM_37 iE_38 iP_39 iA_40 iY_41 iF_42 iV_43) := fun r => by
      unfold f_X6_parseSetup_L80
      rw [r1, r2, r3, hi2, gB_s, if_neg (by decide)]
    simp only [pSibs]
    rw [if_pos hwd]
    cases hp : pSib B L S t with
    | inl er =>
      obtain ⟨c, p⟩ := er
      rw [hp] at hsib
      obtain ⟨m', a1, a2, a3, a4, e1, e2⟩ := hsib
      refine ⟨m', a1, a2, a3, a4, ?_, e2⟩
      show f_X6_parseSetup_L80 x g (iI L) (gL7 (f_X6_parseSetup_L80 x g (iI L)) fu) m iE iP iA iY iF iV = _
      rw [head, e1, gT8_s, if_pos rfl]
    | inr rr =>
      obtain ⟨t', S'⟩ := rr
      rw [hp] at hsib
      obtain ⟨m', a1, a2, a3, a4, e1, e2, e3, e4, e5, e6, e7⟩ := hsib
      have step : gL7 (f_X6_parseSetup_L80 x g (iI L)) (fu + 1) m iE iP iA iY iF iV = gL7 (f_X6_parseSetup_L80 x g (iI L)) fu m' iE iP a1 a2 a3 a4 := by
        show f_X6_parseSetup_L80 x g (iI L) (gL7 (f_X6_parseSetup_L80 x g (iI L)) fu) m iE iP iA iY iF iV = _
        rw [head, e1, gT8_s, if_neg (by decide)]
      rw [step]
      show match (if t'.k = 0 then .inr S' else pSibs B L d t' S' : gEr gS) with | .inl (c, p) => _ | .inr S' => _
      obtain ⟨q1, q2, q3, q4⟩ := e2
      have hk4 := e3.2.2.1
      have hi3 := mIsW (x := x) hd hB hL e3 (i := 2) (by decide) (by decide)
      by_cases hw2 : wdIs B t' 2 = true
      · have k1 := wdIs_k hw2
        rw [if_neg (by omega)]
        have := ih fu S' t' m' iE iP a1 a2 a3 a4 (by omega) (by omega) e4 e3 ⟨q1, q2, q3, q4⟩ e6 hw2
        cases hq : pSibs B L d t' S' with
        | inl er =>
          obtain ⟨c, p⟩ := er
          rw [hq] at this
          obtain ⟨m2, b1, b2, b3, b4, f1, f2⟩ := this
          exact ⟨m2, b1, b2, b3, b4, f1, fun j hj => (f2 j hj).trans (e7 j hj)⟩
        | inr S2 =>
          rw [hq] at this
          obtain ⟨m2, b1, b2, b3, b4, f1, f2, f3, f4⟩ := this
          exact ⟨m2, b1, b2, b3, b4, f1, f2, f3, fun j hj => (f4 j hj).trans (e7 j hj)⟩
      · obtain ⟨fu, rfl⟩ : ∃ k', fu = k' + 1 := ⟨fu - 1, by omega⟩
        rw [if_neg hw2] at hi3
        have last : gL7 (f_X6_parseSetup_L80 x g (iI L)) (fu + 1) m' iE iP a1 a2 a3 a4 = f_X6_parseSetup_J98 x m' g (iI L) iE iP a1 a2 a3 a4 := by
          show f_X6_parseSetup_L80 x g (iI L) (gL7 (f_X6_parseSetup_L80 x g (iI L)) fu) m' iE iP a1 a2 a3 a4 = _
          unfold f_X6_parseSetup_L80
          rw [q1, q2, q3, hi3, gB_s, if_pos rfl]
        rw [last]
        unfold f_X6_parseSetup_J98 f_X6_wrong
        by_cases k0 : t'.k = 0
        · rw [if_pos k0]
          refine ⟨m', a1, a2, a3, a4, ?_, e4.wf (by omega), e6, e7⟩
          rw [if_pos (by rw [q2]; exact (kM_0 hk4).mpr k0)]
        · rw [if_neg k0]
          have hps : pSibs B L d t' S' = .inl (1, t'.s) := by
            cases d with
            | zero => rfl
            | succ d => simp only [pSibs]; rw [if_neg hw2]
          rw [hps]
          refine ⟨m', a1, a2, a3, a4, ?_, e7⟩
          rw [if_neg (by rw [q2]; exact fun w => k0 ((kM_0 hk4).mp w)), gT3_s, if_pos rfl, q3]
          rfl
theorem zr_loop {iE iP iA iY iF iV iL : Int32} : ∀ (d i fu : Nat) (m : Nat → Int32), i + d = 212 → d < fu → (∀ j, j < i → m j = 0) → ∃ m', gL2 (f_X6_parseSetup_L2 x g iL iE iP iA iY iF iV) fu (iI i) m = f_X6_parseSetup_J22 x m' g iL iE iP iA iY iF iV ∧ (∀ j, j < 212 → m' j = 0) ∧ ∀ j, 212 ≤ j → m' j = m j := by
  intro d
  induction d with
  | zero =>
    intro i fu m e hfu hm
    obtain ⟨fu, rfl⟩ : ∃ k', fu = k' + 1 := ⟨fu - 1, by omega⟩
    refine ⟨m, ?_, fun j hj => hm j (by omega), fun _ _ => rfl⟩
    show f_X6_parseSetup_L2 x g iL iE iP iA iY iF iV (gL2 (f_X6_parseSetup_L2 x g iL iE iP iA iY iF iV) fu) _ _ = _
    unfold f_X6_parseSetup_L2
    rw [iI_212, if_pos (by rw [iI_le (by omega) (by omega) (by omega) (by omega)]; omega)]
  | succ d ih =>
    intro i fu m e hfu hm
    obtain ⟨fu, rfl⟩ : ∃ k', fu = k' + 1 := ⟨fu - 1, by omega⟩
    obtain ⟨m', e1, e2, e3⟩ := ih (i + 1) fu (upd m i 0) (by omega) (by omega) (fun j hj => by
      unfold upd
      by_cases z : j = i
      · rw [if_pos z]
      · rw [if_neg z]; exact hm j (by omega))
    refine ⟨m', ?_, e2, fun j hj => by rw [e3 j hj]; unfold upd; rw [if_neg (by omega)]⟩
    show f_X6_parseSetup_L2 x g iL iE iP iA iY iF iV (gL2 (f_X6_parseSetup_L2 x g iL iE iP iA iY iF iV) fu) _ _ = _
    generalize gL2 (f_X6_parseSetup_L2 x g iL iE iP iA iY iF iV) fu = r at e1 ⊢
    unfold f_X6_parseSetup_L2
    rw [Int.natCast_add, Int.natCast_one] at e1
    rw [iI_212, if_neg (by rw [iI_le (by omega) (by omega) (by omega) (by omega)]; omega), wa_at (j := i) rfl (by omega) (by decide), gB_s, iI_1, iI_add]
    exact e1
theorem mSet (hd : ∀ i j, i < g_tN → j < g_tN → x.2.2.1 i = x.2.2.1 j → i = j) (hB : byR fc g B L) (hL : L ≤ 600) {m : Nat → Int32} {iE iP iA iY iF iV : Int32} (hr : tkR B (tkZ B L 0) iA iY iF iV) : match pSet B L with
    | .inl (c, p) => ∃ m' a1 a2 a3 a4, f_X6_parseSetup x m g (iI L) iE iP iA iY iF iV = some ((0 : Int32), m', iI c, iI p, a1, a2, a3, a4) ∧ ∀ j, 212 ≤ j → m' j = m j
    | .inr S' => ∃ m' a1 a2 a3 a4, f_X6_parseSetup x m g (iI L) iE iP iA iY iF iV = some ((1 : Int32), m', iE, iP, a1, a2, a3, a4) ∧ WF S' ∧ BlkAt m' 0 S' ∧ ∀ j, 212 ≤ j → m' j = m j := by
  obtain ⟨m1, z1, z2, z3⟩ := zr_loop (x := x) (g := g) (iE := iE) (iP := iP) (iA := iA) (iY := iY) (iF := iF) (iV := iV) (iL := iI L) 212 0 gN m (by omega) (by unfold gN; omega) (fun j hj => absurd hj (Nat.not_lt_zero j))
  have z1' : f_X6_parseSetup x m g (iI L) iE iP iA iY iF iV = f_X6_parseSetup_J22 x m1 g (iI L) iE iP iA iY iF iV := z1
  rw [z1']
  have hg0 : tkG B L (tkZ B L 0) := tkG_z (Nat.zero_le _)
  obtain ⟨r1, r2, r3, r4⟩ := hr
  have hi1 := mIsW (x := x) hd hB hL hg0 (i := 1) (by decide) (by decide)
  unfold f_X6_parseSetup_J22 pSet
  generalize tkZ B L 0 = t0 at *
  by_cases hw1 : wdIs B t0 1 = true
  · rw [if_pos hw1] at hi1
    obtain ⟨a1, a2, a3, a4, e1, e2⟩ := mTkR hB hL hg0 (iY := iY) (iF := iF) (iV := iV)
    have hg1 : tkG B L (tkZ B L t0.e) := tkG_z hg0.2.1
    have hnum := mNum (iE := iE) (iP := iP) (m := m1) hB hL hg1 e2 (to_ := 0) (by omega) (lo := 1) (hi := 24) (by omega) (by omega)
    rw [if_pos hw1]
    have hi1' : f_X6_isWord x (x.2.2.1 1) g iA iY iF = some 1 := by rw [r1, r2, r3]; exact hi1
    rw [hi1', gB_s, if_neg (by decide)]
    rw [show f_X6_token g (iI L) iA iY iF iV = some (a1, a2, a3, a4) by rw [r1]; exact e1, gT4_s]
    cases hp : pNum B L (tkZ B L t0.e) 1 24 with
    | inl er =>
      obtain ⟨c, p⟩ := er
      rw [hp] at hnum
      have hnum' : f_X6_parseRanged (0 : Int32) (1 : Int32) (24 : Int32) m1 g (iI L) iE iP a1 a2 a3 a4 = some ((0 : Int32), m1, iI c, iI p, a1, a2, a3, a4) := hnum
      refine ⟨m1, a1, a2, a3, a4, ?_, z3⟩
      rw [hnum', gT8_s, if_pos rfl]
    | inr rr =>
      obtain ⟨v, t2⟩ := rr
      rw [hp] at hnum
      obtain ⟨b1, b2, b3, b4, f1, f2⟩ := hnum
      obtain ⟨p1, p2, p3, p4, p5⟩ := pNum_ok hp
      have f1' : f_X6_parseRanged (0 : Int32) (1 : Int32) (24 : Int32) m1 g (iI L) iE iP a1 a2 a3 a4 = some ((1 : Int32), upd m1 0 (iI v), iE, iP, b1, b2, b3, b4) := f1
      have hg2 : tkG B L t2 := by rw [p5]; exact tkG_z hg1.2.1
      have hse := mSem (iE := iE) (iP := iP) hB hL hg2 f2
      show match bE (pSem B L t2) (fun t3 => pSibs B L 8 t3 (v.toNat, 0, (fun _ => -1), (fun _ _ => 0), fun _ => [])) with | .inl (c, p) => _ | .inr S' => _
      rw [f1', gT8_s, if_neg (by decide)]
      cases hq : pSem B L t2 with
      | inl er =>
        obtain ⟨c, p⟩ := er
        rw [hq] at hse
        have hse' : f_X6_semicolon g (iI L) iE iP b1 b2 b3 b4 = some ((0 : Int32), iI c, iI p, b1, b2, b3, b4) := hse
        refine ⟨upd m1 0 (iI v), b1, b2, b3, b4, ?_, fun j hj => by unfold upd; rw [if_neg (by omega)]; exact z3 j hj⟩
        rw [hse', gT7_s, if_pos rfl]
      | inr t3 =>
        rw [hq] at hse
        obtain ⟨c1, c2, c3, c4, h1, h2⟩ := hse
        have et3 : t3 = tkZ B L t2.e := by
          unfold pSem at hq
          split at hq
          · cases hq; rfl
          · cases hq
        have hg3 : tkG B L t3 := by rw [et3]; exact tkG_z hg2.2.1
        obtain ⟨cN, hcN⟩ : ∃ cN : Nat, v = cN := ⟨v.toNat, by omega⟩
        rw [h1, gT7_s, if_neg (by decide)]
        have hcl := clM_loop (S := (cN, 0, (fun _ => -1), (fun _ _ => 0), fun _ => [])) cN 0 gN (upd m1 0 (iI v)) (by show 0 + cN = cN; omega) (by unfold gN; omega) (by show cN ≤ 24; omega) (by show upd m1 0 (iI v) 0 = iI cN; unfold upd; rw [if_pos rfl, hcN])
        generalize em4 : (fun j => if 2 + 0 ≤ j ∧ j < 2 + gS.c (cN, 0, (fun _ => -1), (fun _ _ => 0), fun _ => []) then iI (-1) else upd m1 0 (iI v) j) = m4 at hcl
        have hcl' : f_X6_clear (upd m1 0 (iI v)) = some m4 := hcl
        have hM4 : BlkAt m4 0 (cN, 0, (fun _ => -1), (fun _ _ => 0), fun _ => []) := by
          rw [← em4]
          refine ⟨?_, ?_, fun k hk => ?_, fun s hs => absurd hs (Nat.not_lt_zero s)⟩
          · show (if 2 + 0 ≤ 212 * 0 ∧ 212 * 0 < 2 + cN then iI (-1) else upd m1 0 (iI v) (212 * 0)) = iI cN
            rw [if_neg (by omega)]; unfold upd; rw [if_pos (by omega), hcN]
          · show (if 2 + 0 ≤ 212 * 0 + 1 ∧ 212 * 0 + 1 < 2 + cN then iI (-1) else upd m1 0 (iI v) (212 * 0 + 1)) = iI (0 : Nat)
            rw [if_neg (by omega)]; unfold upd; rw [if_neg (by omega), z2 _ (by omega)]; rfl
          · have hk : k < cN := hk
            show (if 2 + 0 ≤ 212 * 0 + 2 + k ∧ 212 * 0 + 2 + k < 2 + cN then iI (-1) else upd m1 0 (iI v) (212 * 0 + 2 + k)) = iI (-1)
            rw [if_pos (by omega)]
        have o4 : ∀ j, 212 ≤ j → m4 j = m j := fun j hj => by
          rw [← em4]
          show (if 2 + 0 ≤ j ∧ j < 2 + cN then iI (-1) else upd m1 0 (iI v) j) = m j
          rw [if_neg (by omega)]; unfold upd; rw [if_neg (by omega)]; exact z3 j hj
        have hw0 : WFp (cN, 0, (fun _ => -1), (fun _ _ => 0), fun _ => []) := ⟨⟨by show 1 ≤ cN; omega, by show cN ≤ 24; omega⟩, by show 0 ≤ 6; omega, fun k _ => rfl, fun s hs => absurd hs (Nat.not_lt_zero s), fun s hs => absurd hs (Nat.not_lt_zero s)⟩
        have hi2 := mIsW (x := x) hd hB hL hg3 (i := 2) (by decide) (by decide)
        obtain ⟨q1, q2, q3, q4⟩ := h2
        have hi2' : f_X6_isWord x (x.2.2.1 2) g c1 c2 c3 = some (if wdIs B t3 2 = true then (1 : Int32) else 0) := by rw [q1, q2, q3]; exact hi2
        rw [hcl', gB_s, hi2', gB_s]
        show match pSibs B L 8 t3 (v.toNat, 0, (fun _ => -1), (fun _ _ => 0), fun _ => []) with | .inl (c, p) => _ | .inr S' => _
        rw [show v.toNat = cN by omega]
        by_cases hw2 : wdIs B t3 2 = true
        · rw [if_pos hw2, if_neg (by decide)]
          have := mSibs (x := x) hd hB hL 8 gN (cN, 0, (fun _ => -1), (fun _ _ => 0), fun _ => []) t3 m4 iE iP c1 c2 c3 c4 (by show 7 ≤ 8 + 0; omega) (by unfold gN; omega) hw0 hg3 ⟨q1, q2, q3, q4⟩ hM4 hw2
          cases hs : pSibs B L 8 t3 (cN, 0, (fun _ => -1), (fun _ _ => 0), fun _ => []) with
          | inl er =>
            obtain ⟨c, p⟩ := er
            rw [hs] at this
            obtain ⟨m2, d1, d2, d3, d4, y1, y2⟩ := this
            exact ⟨m2, d1, d2, d3, d4, y1, fun j hj => (y2 j hj).trans (o4 j hj)⟩
          | inr S2 =>
            rw [hs] at this
            obtain ⟨m2, d1, d2, d3, d4, y1, y2, y3, y4⟩ := this
            exact ⟨m2, d1, d2, d3, d4, y1, y2, y3, fun j hj => (y4 j hj).trans (o4 j hj)⟩
        · have hps : pSibs B L 8 t3 (cN, 0, (fun _ => -1), (fun _ _ => 0), fun _ => []) = .inl (1, t3.s) := by
            simp only [pSibs]; rw [if_neg hw2]
          rw [hps]
          refine ⟨m4, c1, c2, c3, c4, ?_, o4⟩
          unfold f_X6_wrong
          rw [if_neg hw2, if_pos rfl, gT3_s, if_pos (.inl rfl), q3]
          rfl
  · rw [if_neg hw1] at hi1 ⊢
    refine ⟨m1, iA, iY, iF, iV, ?_, z3⟩
    have hi1' : f_X6_isWord x (x.2.2.1 1) g iA iY iF = some 0 := by rw [r1, r2, r3]; exact hi1
    unfold f_X6_wrong
    rw [hi1', gB_s, if_pos rfl, gT3_s, if_pos (.inl rfl), r3]
    rfl
end PM3
