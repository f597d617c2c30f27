/-! ENVY CYCLES: the turn of the class; the calls -/
section ES
variable {h : gH} {cd o n : Nat} {M M' : gMS} {st : Nat} {S S' : gS} {sa : Nat → Nat} {len hd : Nat} {hs : Nat → Nat} {HS : Nat → gS} {fv : Nat → Option Nat} {VS : Nat → gS} {g : Nat} {m : Nat → Int32}
theorem rtC_loop {q da sh nx : Nat} {f : Nat → Int32} (hw : WF S) (hg : g < S.n) (h1 : 1 ≤ lenE S g) (hf : ∀ v, v < S.n → f v = iI (shK S g v (lenE S g).toNat : Nat)) (hsh : sh ≠ st + 3 ∧ sh ≠ st + 4) : ∀ (d c fu : Nat) (h : gH), c + d = S.c → d < fu → CurAt h cd st → StAt h st (setOw S (roI S g c)) sa → h q = some (.inr (5, [.ref st, .int (iI g), .ref da, .int (iI (lenE S g))])) → h sh = some (.inl (0, 6, .inl f)) → ∃ h', gL2 (f_X1_doRotate_L123 cd q sh nx) fu (iI c) h = some (.inl (iI (lenE S g)), h', nx) ∧ StAt h' st (roS S g) sa ∧ FrO h h' st := by
  have hc := hw.1
  have hn := hw.2.1
  intro d
  induction d with
  | zero =>
    intro c fu h e hfu hO hS hq hs
    obtain ⟨fu, rfl⟩ : ∃ k', fu = k' + 1 := ⟨fu - 1, by omega⟩
    have e1 : c = S.c := by omega
    subst e1
    obtain ⟨fs, o1, o2⟩ := hO
    obtain ⟨fs2, o3⟩ := a_obj hS
    have hS2 : StAt h st (roS S g) sa := by
      have hS0 := hS
      obtain ⟨-, -, -, -, ⟨f5, h5, h5'⟩, -⟩ := hS0
      have := StAt_ow (S := setOw S (roI S g S.c)) (f := f5) (g := roF S g) hS (fun k hk => by
        have hk : k < S.c := hk
        rw [h5' k hk]
        show iI (roI S g S.c k) = _
        unfold roI; rw [if_pos hk])
      rw [g_up_id h5] at this
      exact this
    refine ⟨h, ?_, hS2, FrO.rf⟩
    show f_X1_doRotate_L123 cd q sh nx (gL2 (f_X1_doRotate_L123 cd q sh nx) fu) _ _ = _
    unfold f_X1_doRotate_L123
    rw [fA_at o1 o2, gB_s, o3, gB_s, a_cells hS, gB_s]
    show (if iI (S.c : Int) ≤ iI (S.c : Int) then _ else _) = _
    rw [if_pos (Int32.le_refl _), fI_at hq rfl, gB_s]
  | succ d ih =>
    intro c fu h e hfu hO hS hq hs
    obtain ⟨fu, rfl⟩ : ∃ k', fu = k' + 1 := ⟨fu - 1, by omega⟩
    have hcc : c < S.c := by omega
    have hO0 := hO
    obtain ⟨fs, o1, o2⟩ := hO
    obtain ⟨fs2, o3⟩ := a_obj hS
    have hS0 := hS
    obtain ⟨-, -, -, -, ⟨f5, h5, h5'⟩, -⟩ := hS0
    have ho := hw.2.2.1 c hcc
    have hk5 : f5 c = iI (S.ow c) := by
      rw [h5' c (by show c < S.c; omega)]
      show iI (roI S g c c) = _
      unfold roI; rw [if_neg (by omega)]
    have hnext : StAt (g_up h (st + 4) (.inl (0, S.c, .inl (upd f5 c (iI (roF S g c)))))) st (setOw S (roI S g (c + 1))) sa := StAt_ow (S := setOw S (roI S g c)) hS fun k hk => by
      have hk : k < S.c := hk
      by_cases z : k = c
      · subst z; unfold upd; rw [if_pos rfl, roI_s, if_pos rfl]
      · unfold upd
        rw [if_neg z, h5' k hk, roI_s, if_neg z]
        rfl
    have fr : FrO h (g_up h (st + 4) (.inl (0, S.c, .inl (upd f5 c (iI (roF S g c)))))) st := fun b _ z => g_up_n z
    obtain ⟨h', e2, e3, e4⟩ := ih (c + 1) fu _ (by omega) (by omega) (fr.cur hS hO0) hnext (fr.ob hS hq) (by rw [fr _ hsh.1 hsh.2]; exact hs)
    refine ⟨h', ?_, e3, fr.trans e4⟩
    show f_X1_doRotate_L123 cd q sh nx (gL2 (f_X1_doRotate_L123 cd q sh nx) fu) _ _ = _
    generalize gL2 (f_X1_doRotate_L123 cd q sh nx) fu = r at e2 ⊢
    unfold f_X1_doRotate_L123
    rw [Int.natCast_add, Int.natCast_one] at e2
    rw [fA_at o1 o2, gB_s, o3, gB_s, a_cells hS, gB_s]
    show (if iI (S.c : Int) ≤ iI (c : Int) then _ else _) = _
    rw [if_neg (by rw [iI_le (by omega) (by omega) (by omega) (by omega)]; omega), gB_s, a_ow hS, gB_s, aI_at h5 rfl (by show c < S.c; omega) (by show ((S.c : Nat) : Int) < _; omega) hk5, gB_s, gB_s, a_ow hS, gB_s]
    rcases roF_b hw hg h1 hcc with ⟨r1, r2⟩ | ⟨v, r1, r2, r3, r4⟩
    · rw [if_pos (by rw [r1]; rfl), show (-1 : Int32) = iI (-1) from rfl, sI_at (j := c) h5 rfl (by show c < S.c; omega) (by show ((S.c : Nat) : Int) < _; omega), gB_s, iI_1, iI_add]
      rw [r2] at e2
      exact e2
    · rw [if_neg (by rw [iI_n1, iI_eq (by omega) (by omega) (by omega) (by omega)]; omega), r1, aI_at (j := v) hs rfl (by omega) (by decide) (hf v r2), gB_s, sI_at (j := c) h5 rfl (by show c < S.c; omega) (by show ((S.c : Nat) : Int) < _; omega), gB_s, iI_1, iI_add]
      rw [r3] at e2
      exact e2
theorem rtM_loop {q da sh nx : Nat} {hb : gH} (hw : WF S) (hg : g < S.n) (h1 : 1 ≤ lenE S g) (hE : ∀ f, EcAt (ecH hb sh f) q st g da S) (hS : ∀ f, StAt (ecH hb sh f) st S sa) : ∀ (d i fu : Nat) (f : Nat → Int32), (i : Int) + d = lenE S g → d < fu → (∀ v, v < 6 → f v = iI (shK S g v i : Nat)) → ∃ f', gL2 (f_X1_doRotate_L70 cd (iI g) q sh nx) fu (iI i) (ecH hb sh f) = f_X1_doRotate_J120 cd q sh (ecH hb sh f') nx ∧ ∀ v, v < 6 → f' v = iI (shK S g v (lenE S g).toNat : Nat) := by
  have hn := hw.2.1
  have hl := lenE_b hg
  intro d
  induction d with
  | zero =>
    intro i fu f e hfu hf
    obtain ⟨fu, rfl⟩ : ∃ k', fu = k' + 1 := ⟨fu - 1, by omega⟩
    refine ⟨f, ?_, fun v hv => by rw [hf v hv, show i = (lenE S g).toNat by omega]⟩
    show f_X1_doRotate_L70 cd (iI g) q sh nx (gL2 (f_X1_doRotate_L70 cd (iI g) q sh nx) fu) _ _ = _
    unfold f_X1_doRotate_L70
    rw [cLen (hE f), gB_s, if_pos (by rw [iI_le (by omega) (by omega) (by omega) (by omega)]; omega)]
  | succ d ih =>
    intro i fu f e hfu hf
    obtain ⟨fu, rfl⟩ : ∃ k', fu = k' + 1 := ⟨fu - 1, by omega⟩
    have hsh : ecH hb sh f sh = some (.inl (0, 6, .inl f)) := g_up_s
    obtain ⟨mi, -⟩ := mbE_ok hg i (by omega)
    have go : ∀ t : Nat, t < 6 → t = (if (i + 1 : Nat) < (lenE S g).toNat then mbE S g (i + 1) else g) → ∃ f', f_X1_doRotate_J102 (gL2 (f_X1_doRotate_L70 cd (iI g) q sh nx) fu) cd (iI g) q sh (iI i) (iI t) (ecH hb sh f) nx = f_X1_doRotate_J120 cd q sh (ecH hb sh f') nx ∧ ∀ v, v < 6 → f' v = iI (shK S g v (lenE S g).toNat : Nat) := fun t ht et => by
      obtain ⟨f', e2, hf'⟩ := ih (i + 1) fu (upd f t (iI (mbE S g i : Nat))) (by omega) (by omega) (fun v hv => by
        simp only [shK]
        unfold upd
        by_cases z : v = t
        · rw [if_pos z, if_pos (by rw [z, et])]
        · rw [if_neg z, if_neg (by rw [← et]; exact z)]; exact hf v hv)
      refine ⟨f', ?_, hf'⟩
      unfold f_X1_doRotate_J102
      rw [Int.natCast_add, Int.natCast_one] at e2
      rw [g_obj_s (hE f).1, gB_s, cMem (hE f) (hS f) hw hg (by omega), gB_s, sI_at (j := t) hsh rfl ht (by decide), gB_s, ecH_up, iI_1, iI_add]
      exact e2
    show ∃ f', f_X1_doRotate_L70 cd (iI g) q sh nx (gL2 (f_X1_doRotate_L70 cd (iI g) q sh nx) fu) _ _ = _ ∧ _
    generalize gL2 (f_X1_doRotate_L70 cd (iI g) q sh nx) fu = r at go ⊢
    unfold f_X1_doRotate_L70
    rw [cLen (hE f), gB_s, if_neg (by rw [iI_le (by omega) (by omega) (by omega) (by omega)]; omega), gB_s]
    by_cases z : (i + 1 : Nat) < (lenE S g).toNat
    · obtain ⟨mj, -⟩ := mbE_ok hg (i + 1) (by omega)
      rw [if_neg (by rw [iI_1, iI_add, iI_le (by omega) (by omega) (by omega) (by omega)]; omega), g_obj_s (hE f).1, gB_s]
      have hm := cMem (hE f) (hS f) hw hg (p := i + 1) (by omega)
      rw [Int.natCast_add, Int.natCast_one] at hm
      rw [iI_1, iI_add, hm, gB_s]
      exact go _ (by omega) (by rw [if_pos z])
    · rw [if_pos (by rw [iI_1, iI_add, iI_le (by omega) (by omega) (by omega) (by omega)]; omega)]
      exact go g (by omega) (by rw [if_neg z])
theorem rtF_loop {q sh nx : Nat} {hb : gH} : ∀ (d i fu : Nat) (f : Nat → Int32), i + d = 6 → d < fu → (∀ v, v < i → f v = iI (v : Nat)) → ∃ f', gL2 (f_X1_doRotate_L48 cd (iI g) q sh nx) fu (iI i) (ecH hb sh f) = f_X1_doRotate_J67 cd (iI g) q sh (ecH hb sh f') nx ∧ ∀ v, v < 6 → f' v = iI (v : Nat) := by
  intro d
  induction d with
  | zero =>
    intro i fu f e hfu hf
    obtain ⟨fu, rfl⟩ : ∃ k', fu = k' + 1 := ⟨fu - 1, by omega⟩
    refine ⟨f, ?_, fun v hv => hf v (by omega)⟩
    show f_X1_doRotate_L48 cd (iI g) q sh nx (gL2 (f_X1_doRotate_L48 cd (iI g) q sh nx) fu) _ _ = _
    unfold f_X1_doRotate_L48
    rw [iI_6, if_pos (by rw [iI_le (by omega) (by omega) (by omega) (by omega)]; omega)]
  | succ d ih =>
    intro i fu f e hfu hf
    obtain ⟨fu, rfl⟩ : ∃ k', fu = k' + 1 := ⟨fu - 1, by omega⟩
    have hsh : ecH hb sh f sh = some (.inl (0, 6, .inl f)) := g_up_s
    obtain ⟨f', e2, hf'⟩ := ih (i + 1) fu (upd f i (iI i)) (by omega) (by omega) (fun v hv => by
      unfold upd
      by_cases z : v = i
      · rw [if_pos z, z]
      · rw [if_neg z]; exact hf v (by omega))
    refine ⟨f', ?_, hf'⟩
    show f_X1_doRotate_L48 cd (iI g) q sh nx (gL2 (f_X1_doRotate_L48 cd (iI g) q sh nx) fu) _ _ = _
    generalize gL2 (f_X1_doRotate_L48 cd (iI g) q sh nx) fu = r at e2 ⊢
    unfold f_X1_doRotate_L48
    rw [Int.natCast_add, Int.natCast_one] at e2
    rw [iI_6, if_neg (by rw [iI_le (by omega) (by omega) (by omega) (by omega)]; omega), sI_at (j := i) hsh rfl (by omega) (by decide), gB_s, ecH_up, iI_1, iI_add]
    exact e2
theorem cDoRo_ok (F : gFr h n) (hO : CurAt h cd st) (hS : StAt h st S sa) (hw : WF S) (hg : g < S.n) (h1 : 1 ≤ lenE S g) : gRt (f_X1_doRotate cd (iI g) h n) (iI (lenE S g)) h n (DS st) fun h' _ => StAt h' st (roS S g) sa := by
  have hn := hw.2.1
  have hc := hw.1
  have hl := lenE_b hg
  have u := ar1_p F (iI g)
  have hO1 := u.cur F hO
  have hS1 := u.st F hS
  have hO1' := hO1
  obtain ⟨fs, o1, o2⟩ := hO1
  obtain ⟨h2, e2, E2, u2⟩ := cEc u.2.1 hS1 hw hg
  have v2 := u.tr' u2
  have hS2 := v2.st F hS
  have hO2 := v2.cur F hO
  have l4 : st + 4 < n := by
    obtain ⟨-, -, -, -, ⟨f5, h5, -⟩, -⟩ := hS
    exact F.lt h5
  have e0 : g_fA (g_up (ar1 h n (iI g)) (n + 1) (.inr (5, [.null, .int 0, .null, .int 0]))) cd 3 4 = some st := by
    obtain ⟨gs, p1, p2⟩ := (gPas.new (D := noD) u.2.1).cur u.2.1 hO1'
    exact fA_at p1 p2
  have gp : ∀ f, gPas h2 (n + 1 + 2) (ecH h2 (n + 3) f) (n + 4) noD := fun f => ⟨by omega, fun b hb => by unfold ecH; rw [g_up_n (by omega)]; exact v2.2.1 b (by omega), fun b hb _ => by unfold ecH; rw [g_up_n (by omega)]⟩
  have hEf : ∀ f, EcAt (ecH h2 (n + 3) f) (n + 1) st g (n + 1 + 1) S := fun f => by
    obtain ⟨a1, f2, a2, a3⟩ := E2
    exact ⟨(gp f).c0 v2.2.1 a1, f2, (gp f).c0 v2.2.1 a2, a3⟩
  have hSf : ∀ f, StAt (ecH h2 (n + 3) f) st S sa := fun f => (gp f).st v2.2.1 hS2
  obtain ⟨f1, x1, hf1⟩ := rtF_loop (cd := cd) (g := g) (q := n + 1) (sh := n + 3) (nx := n + 4) (hb := h2) 6 0 gN (fun _ => 0) (by omega) (by unfold gN; omega) (fun v hv => absurd hv (Nat.not_lt_zero v))
  obtain ⟨f2, x2, hf2⟩ := rtM_loop (cd := cd) (nx := n + 4) hw hg h1 hEf hSf (lenE S g).toNat 0 gN f1 (by omega) (by unfold gN; omega) (fun v hv => hf1 v hv)
  obtain ⟨h', x3, t3, fr⟩ := rtC_loop (cd := cd) (q := n + 1) (da := n + 1 + 1) (sh := n + 3) (nx := n + 4) hw hg h1 (fun v hv => hf2 v (by omega)) ⟨by omega, by omega⟩ S.c 0 gN (ecH h2 (n + 3) f2) (by omega) (by unfold gN; omega) ((gp f2).cur v2.2.1 hO2) (by rw [roI_0]; exact hSf f2) (hEf f2).1 g_up_s
  refine ⟨h', n + 4, ?_, (v2.tr' (gp f2)).no.tr' (fr.pas (gp f2).2.1 (hSf f2)), t3⟩
  unfold f_X1_doRotate
  rw [ar1_e, g_obj_s o1, gB_s, cS1a_ok (a := (g : Int)) ⟨fs, o1, o2⟩ hS1 hn.2 (by omega), gTX_l, new_e, e0, gB_s, e2, gT2_s, cLen E2, gB_s, if_neg (by rw [iI_n1, iI_eq (by omega) (by omega) (by omega) (by omega)]; omega)]
  unfold f_X1_doRotate_J37
  rw [cCt_ok, gTX_l, iI_6, nI_at (by decide) (by decide) (by decide), gT3_s]
  show gL2 (f_X1_doRotate_L48 cd (iI g) (n + 1) (n + 3) (n + 4)) gN (iI (0 : Nat)) (ecH h2 (n + 3) fun _ => 0) = _
  rw [x1]
  unfold f_X1_doRotate_J67
  show gL2 (f_X1_doRotate_L70 cd (iI g) (n + 1) (n + 3) (n + 4)) gN (iI (0 : Nat)) (ecH h2 (n + 3) f1) = _
  rw [x2]
  unfold f_X1_doRotate_J120
  exact x3
theorem cDoRo_n1 {a : Int} (F : gFr h n) (hO : CurAt h cd st) (hS : StAt h st S sa) (hw : WF S) (ha : -2147483648 ≤ a ∧ a < 2147483648) (h1 : ¬ (0 ≤ a ∧ a < S.n)) : gThr (f_X1_doRotate cd (iI a) h n) 12 h n := by
  have hn := hw.2.1
  have u := ar1_p F (iI a)
  have hO1 := u.cur F hO
  have hS1 := u.st F hS
  obtain ⟨fs, o1, o2⟩ := hO1
  unfold f_X1_doRotate
  rw [ar1_e, g_obj_s o1, gB_s]
  exact ((cS1_no u.2.1 ar1_at rfl ⟨fs, o1, o2⟩ hS1 hn.2 ha h1).X).pre u
theorem cDoRo_n2 (F : gFr h n) (hO : CurAt h cd st) (hS : StAt h st S sa) (hw : WF S) (hg : g < S.n) (h1 : lenE S g = -1) : gThr (f_X1_doRotate cd (iI g) h n) 10 h n := by
  have hn := hw.2.1
  have u := ar1_p F (iI g)
  have hO1 := u.cur F hO
  have hS1 := u.st F hS
  have hO1' := hO1
  obtain ⟨fs, o1, o2⟩ := hO1
  obtain ⟨h2, e2, E2, u2⟩ := cEc u.2.1 hS1 hw hg
  have e0 : g_fA (g_up (ar1 h n (iI g)) (n + 1) (.inr (5, [.null, .int 0, .null, .int 0]))) cd 3 4 = some st := by
    obtain ⟨gs, p1, p2⟩ := (gPas.new (D := noD) u.2.1).cur u.2.1 hO1'
    exact fA_at p1 p2
  unfold f_X1_doRotate
  rw [ar1_e, g_obj_s o1, gB_s, cS1a_ok (a := (g : Int)) ⟨fs, o1, o2⟩ hS1 hn.2 (by omega), gTX_l, new_e, e0, gB_s, e2, gT2_s, cLen E2, gB_s, if_pos (by rw [h1]; rfl)]
  unfold f_X1_doRotate_J37
  exact ((cCt_no u2.2.1).X).pre (u.tr' u2)
theorem p_rotate (w : gW cd o h n M st S sa len hd hs HS fv VS) (z1 iT : Int32) : ∃ c v aM' iU' aT' aC', gPr (f_X0_rotate cd z1 (o + 11) h n) cd o M (aM', M.aS, iU', M.aB, M.iL, M.iE, M.iP, M.aR, M.iW, c, aT', aC', M.aH, M.aE, M.aQ, M.iA, M.iY, M.iF, M.iV, M.aK) c v.toInt64 ∧ f_X6_rotate z1 M.aM M.iU iT M.aT M.aC = some (v, aM', iU', c, aT', aC') := by
  have w0 := w
  obtain ⟨F, w1, w2, w3, w4, ⟨w5, w6, w7⟩, ⟨w8, w9, w10⟩, -⟩ := w
  obtain ⟨fs0, ob⟩ := w4.ob
  have hn := w6.2.1
  obtain ⟨s, hs1, hs2, rfl⟩ := iI_of z1
  unfold f_X0_rotate f_X6_rotate f_X6_rotate_J16 f_X6_rotate_J33 f_X6_rotate_J34
  rw [ob, gB_s, show f_X1_rotate cd (iI s) h n = mutX cd (f_X1_doRotate cd (iI s)) h n from rfl]
  obtain ⟨m1, e1, b1, b2, b3⟩ := mRem w7 w6 w8.2.1 (fun j hj => ⟨(w10 j hj).2.1, (w10 j hj).2.2⟩)
  rw [← w9] at e1
  by_cases q : 0 ≤ s ∧ s < S.n
  · obtain ⟨s, rfl⟩ : ∃ k : Nat, s = k := ⟨s.toNat, by omega⟩
    have q1 : s < S.n := by omega
    have hl := lenE_b q1
    obtain ⟨aT1, aC1, x1, x2⟩ := mFc w7 w6 q1 M.aT M.aC
    rw [mSib_ok w7 w6 q1, gB_s, if_neg (by decide), if_neg (by decide), x1, gT3_s]
    by_cases r : lenE S s = -1
    · refine ⟨2, 0, M.aM, M.iU, aT1, aC1, rd_pr w0 (gRd_t (mutX_no w0 fun h1 n1 F1 hO1 hS1 => cDoRo_n2 F1 hO1 hS1 w6 q1 r) w3 F (fun _ _ _ => rfl) (by decide)) ⟨fun _ _ => rfl, rfl, rfl, rfl, rfl, rfl, rfl, rfl, rfl⟩, ?_⟩
      rw [if_pos (by rw [r]; rfl), mF2, gT2_s, if_neg (by decide)]
    · obtain ⟨m2, aT2, aC2, e2, u2⟩ := mTurn b1 w6 q1 (by omega) aT1 aC1
      refine ⟨0, iI (lenE S s), m2, iI (hL len), aT2, aC2, mut_pr w0 (roS_wf w6 q1 (by omega)) (fun h1 n1 F1 hO1 hS1 => rtE (cDoRo_ok F1 hO1 hS1 w6 q1 (by omega))) b2 b3 u2 ⟨rfl, rfl, rfl, rfl, rfl, rfl, rfl, rfl⟩, ?_⟩
      rw [if_neg (by rw [iI_n1, iI_eq (by omega) (by omega) (by omega) (by omega)]; exact r), mF0, gT2_s, if_pos rfl, e1, gT2_s, e2, gT4_s]
  · refine ⟨1, 0, M.aM, M.iU, M.aT, M.aC, rd_pr w0 (gRd_t (mutX_no w0 fun h1 n1 F1 hO1 hS1 => cDoRo_n1 F1 hO1 hS1 w6 ⟨hs1, hs2⟩ q) w3 F (fun _ _ _ => rfl) (by decide)) ⟨fun _ _ => rfl, rfl, rfl, rfl, rfl, rfl, rfl, rfl, rfl⟩, ?_⟩
    rw [mSib_no w7 w6 ⟨hs1, hs2⟩ q, gB_s, if_pos rfl, if_pos rfl, mF1, gT2_s, if_neg (by decide)]
theorem p_envyCycleLength (w : gW cd o h n M st S sa len hd hs HS fv VS) (z1 iT : Int32) (aT aC : Nat → Int32) : ∃ c v aT' aC', gRd (f_X0_envyCycleLength cd z1 (o + 11) h n) c v.toInt64 h n o ∧ f_X6_envyCycleLength z1 M.aM iT aT aC = some (v, c, aT', aC') := by
  obtain ⟨F, w1, w2, w3, w4, ⟨w5, w6, w7⟩, -⟩ := w
  obtain ⟨fs0, ob⟩ := w4.ob
  have hn := w6.2.1
  obtain ⟨s, hs1, hs2, rfl⟩ := iI_of z1
  have u := ar1_p F (iI s)
  have hO1 := u.cur F w4.cur
  have hS1 := u.st F w5
  have hO1' := hO1
  obtain ⟨fs, o1, o2⟩ := hO1
  unfold f_X0_envyCycleLength f_X6_envyCycleLength f_X6_envyCycleLength_J14 f_X1_envyCycleLength
  rw [ob, gB_s, ar1_e, g_obj_s o1, gB_s]
  by_cases q : 0 ≤ s ∧ s < S.n
  · obtain ⟨s, rfl⟩ : ∃ k : Nat, s = k := ⟨s.toNat, by omega⟩
    have q1 : s < S.n := by omega
    obtain ⟨h2, e2, E2, u2⟩ := cEc u.2.1 hS1 w6 q1
    have e0 : g_fA (g_up (ar1 h n (iI s)) (n + 1) (.inr (5, [.null, .int 0, .null, .int 0]))) cd 3 4 = some st := by
      obtain ⟨gs, p1, p2⟩ := (gPas.new (D := noD) u.2.1).cur u.2.1 hO1'
      exact fA_at p1 p2
    obtain ⟨aT1, aC1, x1, x2⟩ := mFc w7 w6 q1 aT aC
    rw [cS1a_ok (a := (s : Int)) ⟨fs, o1, o2⟩ hS1 hn.2 (by omega), gTX_l, new_e, e0, gB_s, e2, gT2_s, cLen E2, gB_s, mSib_ok w7 w6 q1, gB_s, if_neg (by decide), mF0, gT2_s, if_pos rfl, x1, gT3_s]
    exact ⟨0, _, aT1, aC1, gRd_ok ⟨_, _, rfl, u.tr' u2, trivial⟩ w3 F, rfl⟩
  · refine ⟨1, 0, aT, aC, gRd_t (k := 12) (((cS1_no u.2.1 ar1_at rfl ⟨fs, o1, o2⟩ hS1 hn.2 ⟨hs1, hs2⟩ q).X).pre u) w3 F (fun _ _ _ => rfl) (by decide), ?_⟩
    rw [mSib_no w7 w6 ⟨hs1, hs2⟩ q, gB_s, if_pos rfl, mF1, gT2_s, if_neg (by decide)]
theorem p_envyCycleMember (w : gW cd o h n M st S sa len hd hs HS fv VS) (z1 z2 iT : Int32) (aT aC : Nat → Int32) : ∃ c v aT' aC', gRd (f_X0_envyCycleMember cd z1 z2 (o + 11) h n) c v.toInt64 h n o ∧ f_X6_envyCycleMember z1 z2 M.aM iT aT aC = some (v, c, aT', aC') := by
  obtain ⟨F, w1, w2, w3, w4, ⟨w5, w6, w7⟩, -⟩ := w
  obtain ⟨fs0, ob⟩ := w4.ob
  have hn := w6.2.1
  obtain ⟨s, hs1, hs2, rfl⟩ := iI_of z1
  obtain ⟨p, hp1, hp2, rfl⟩ := iI_of z2
  have u := ar1_p F (iI s)
  have hO1 := u.cur F w4.cur
  have hS1 := u.st F w5
  have hO1' := hO1
  obtain ⟨fs, o1, o2⟩ := hO1
  unfold f_X0_envyCycleMember f_X6_envyCycleMember f_X6_envyCycleMember_J16 f_X6_envyCycleMember_J32 f_X6_envyCycleMember_J47 f_X6_envyCycleMember_J48 f_X1_envyCycleMember
  rw [ob, gB_s, ar1_e, g_obj_s o1, gB_s]
  by_cases q : 0 ≤ s ∧ s < S.n
  · obtain ⟨s, rfl⟩ : ∃ k : Nat, s = k := ⟨s.toNat, by omega⟩
    have q1 : s < S.n := by omega
    have hl := lenE_b q1
    obtain ⟨h2, e2, E2, u2⟩ := cEc u.2.1 hS1 w6 q1
    have e0 : g_fA (g_up (ar1 h n (iI s)) (n + 1) (.inr (5, [.null, .int 0, .null, .int 0]))) cd 3 4 = some st := by
      obtain ⟨gs, p1, p2⟩ := (gPas.new (D := noD) u.2.1).cur u.2.1 hO1'
      exact fA_at p1 p2
    have hS2 := u2.st u.2.1 hS1
    obtain ⟨aT1, aC1, x1, x2⟩ := mFc w7 w6 q1 aT aC
    rw [cS1a_ok (a := (s : Int)) ⟨fs, o1, o2⟩ hS1 hn.2 (by omega), gTX_l, new_e, e0, gB_s, e2, gT2_s, cLen E2, gB_s, mSib_ok w7 w6 q1, gB_s, if_neg (by decide), if_neg (by decide), if_neg (by decide), x1, gT3_s, iI_sub_1]
    by_cases r : 0 ≤ p ∧ p ≤ lenE S s - 1
    · obtain ⟨p, rfl⟩ : ∃ k : Nat, p = k := ⟨p.toNat, by omega⟩
      rw [cBt_ok0 (by omega) (by omega) (by omega) r, gB_s, if_neg (by decide), g_obj_s E2.1, gB_s, cMem E2 hS2 w6 q1 (by omega), gB_s, mBt0_ok (by omega) (by omega) r, gB_s, if_neg (by decide), mF0, gT2_s, if_pos rfl, ra_at (j := p) rfl (by omega) (by decide) (x2 p (by omega)), gB_s]
      exact ⟨0, _, aT1, aC1, gRd_ok ⟨_, _, rfl, u.tr' u2, trivial⟩ w3 F, rfl⟩
    · rw [cBt_no0 (by omega) (by omega) (by omega) r, gB_s, if_pos rfl, mBt0_no (by omega) (by omega) r, gB_s, if_pos rfl, mF2, gT2_s, if_neg (by decide)]
      exact ⟨2, 0, aT1, aC1, gRd_t (k := 13) ((thr_new u2.2.1 ⟨by decide, by decide⟩).pre (u.tr' u2)) w3 F (fun _ _ _ => rfl) (by decide), rfl⟩
  · refine ⟨1, 0, aT, aC, gRd_t (k := 12) (((cS1_no u.2.1 ar1_at rfl ⟨fs, o1, o2⟩ hS1 hn.2 ⟨hs1, hs2⟩ q).X).pre u) w3 F (fun _ _ _ => rfl) (by decide), ?_⟩
    rw [mSib_no w7 w6 ⟨hs1, hs2⟩ q, gB_s, if_pos rfl, if_pos rfl, mF1, gT2_s, if_neg (by decide)]
end ES
