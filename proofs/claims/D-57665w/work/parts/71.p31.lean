/-! APPEND, TRUNCATE -/
def byC (x : Int32) (s : Int) : Int32 := vp_nar .byte (((x.toUInt32 >>> ((iI s).toUInt32 &&& Int32.toUInt32 31)).toInt32).toInt8.toInt32)
def byM (x : Int32) (s : Int) : Int32 := (x >>> (iI s &&& 31)) &&& (255 : Int32)
theorem by_bv (b : BitVec 32) (s : Nat) (hs : s ≤ 24) : (b.sshiftRight s) &&& 255#32 = ((b >>> s).setWidth 8).setWidth 32 := by
  apply BitVec.eq_of_getLsbD_eq
  intro i hi
  rw [BitVec.getLsbD_and, BitVec.getLsbD_sshiftRight, BitVec.getLsbD_setWidth, BitVec.getLsbD_setWidth, BitVec.getLsbD_ushiftRight]
  have h255 : (255#32).getLsbD i = decide (i < 8) := by
    have : ∀ i, i < 32 → (255#32).getLsbD i = decide (i < 8) := by decide
    exact this i hi
  rw [h255]
  by_cases q : i < 8
  · simp [q, hi, show s + i < 32 by omega]
  · simp [q]
theorem byZ (x : Int32) (s : Nat) (hs : s = 0 ∨ s = 8 ∨ s = 16 ∨ s = 24) : ∃ z : Int, (0 ≤ z ∧ z < 256) ∧ byM x s = iI z ∧ byC x s = iI (if z < 128 then z else z - 256) := by
  have hM : byM x s = Int32.ofBitVec (((x.toBitVec >>> s).setWidth 8).setWidth 32) := by
    rw [← by_bv _ _ (by omega)]
    unfold byM
    apply Int32.toBitVec_inj.mp
    rcases hs with q | q | q | q <;> subst q <;> rfl
  have hC : byC x s = Int32.ofBitVec (((x.toBitVec >>> s).setWidth 8).signExtend 32) := by
    unfold byC
    apply Int32.toBitVec_inj.mp
    show ((((x.toUInt32 >>> ((iI s).toUInt32 &&& Int32.toUInt32 31)).toInt32).toInt8.toInt32).toInt8.toInt32).toBitVec = _
    rw [Int8.toInt8_toInt32]
    have e8 : (x.toBitVec >>> s).signExtend 8 = (x.toBitVec >>> s).setWidth 8 := BitVec.signExtend_eq_setWidth_of_le _ (by decide)
    rw [← e8]
    rcases hs with q | q | q | q <;> subst q <;> rfl
  refine ⟨(((x.toBitVec >>> s).setWidth 8).toNat : Int), ?_, ?_, ?_⟩
  · have := ((x.toBitVec >>> s).setWidth 8).isLt
    omega
  · rw [hM]
    apply Int32.toBitVec_inj.mp
    show _ = BitVec.ofInt 32 _
    rw [BitVec.ofInt_natCast]
    apply BitVec.eq_of_toNat_eq
    show ((((x.toBitVec >>> s).setWidth 8).setWidth 32).toNat) = _
    rw [BitVec.toNat_setWidth, BitVec.toNat_ofNat]
  · rw [hC]
    have hlt := ((x.toBitVec >>> s).setWidth 8).isLt
    apply Int32.toInt_inj.mp
    rw [iI_toInt (by split <;> omega) (by split <;> omega)]
    show (((x.toBitVec >>> s).setWidth 8).signExtend 32).toInt = _
    rw [BitVec.toInt_signExtend_of_le (by decide), BitVec.toInt_eq_toNat_cond]
    generalize ((x.toBitVec >>> s).setWidth 8).toNat = m at hlt ⊢
    split <;> split <;> omega
def ap4 (B : Int32 → Int → Int32) (f : Nat → Int32) (L : Nat) (x : Int32) : Nat → Int32 := upd (upd (upd (upd f L (B x 24)) (L + 1) (B x 16)) (L + 2) (B x 8)) (L + 3) (B x 0)
theorem buf_sn {f g : Nat → Int32} {L : Nat} {a b : Int32} (h : bufZ f g L) (q : ∃ z : Int, (0 ≤ z ∧ z < 256) ∧ b = iI z ∧ a = iI (if z < 128 then z else z - 256)) : bufZ (upd f L a) (upd g L b) (L + 1) := fun i hi => by
  unfold upd
  by_cases e : i = L
  · rw [if_pos e, if_pos e]; exact q
  · rw [if_neg e, if_neg e]; exact h i (by omega)
theorem buf_4 {f g : Nat → Int32} {L : Nat} {x : Int32} (h : bufZ f g L) : bufZ (ap4 byC f L x) (ap4 byM g L x) (L + 4) :=
  buf_sn (buf_sn (buf_sn (buf_sn h (byZ x 24 (by omega))) (byZ x 16 (by omega))) (byZ x 8 (by omega))) (byZ x 0 (by omega))
theorem bufZ.le {f g : Nat → Int32} {L K : Nat} (h : bufZ f g L) (hk : K ≤ L) : bufZ f g K := fun i hi => h i (by omega)
def apH (h : gH) (cd st : Nat) (ec ep wr : Int32) (L : Nat) (f : Nat → Int32) : gH := g_up (g_up h cd (clO cd st (iI L) ec ep wr)) (cd + 1) (.inl (1, 600, .inl f))
section AP
variable {h : gH} {cd o n : Nat} {M M' : gMS} {st : Nat} {S S' : gS} {sa : Nat → Nat} {len hd : Nat} {hs : Nat → Nat} {HS : Nat → gS} {fv : Nat → Option Nat} {VS : Nat → gS} {ec ep wr : Int32}
theorem apH_up {L L' : Nat} {f f' : Nat → Int32} : g_up (g_up (apH h cd st ec ep wr L f) cd (clO cd st (iI L') ec ep wr)) (cd + 1) (.inl (1, 600, .inl f')) = apH h cd st ec ep wr L' f' := by
  funext b
  unfold apH
  by_cases q : b = cd + 1
  · subst q; rw [g_up_s, g_up_s]
  · rw [g_up_n q, g_up_n q]
    by_cases q2 : b = cd
    · subst q2; rw [g_up_s, g_up_s]
    · rw [g_up_n q2, g_up_n q, g_up_n q2, g_up_n q2]
theorem apH_0 {L : Nat} {f : Nat → Int32} : apH h cd st ec ep wr L f cd = some (clO cd st (iI L) ec ep wr) := by
  unfold apH; rw [g_up_n (by omega), g_up_s]
theorem apH_1 {L : Nat} {f : Nat → Int32} : apH h cd st ec ep wr L f (cd + 1) = some (.inl (1, 600, .inl f)) := g_up_s
theorem apH_n {L b : Nat} {f : Nat → Int32} (h1 : b ≠ cd) (h2 : b ≠ cd + 1) : apH h cd st ec ep wr L f b = h b := by
  unfold apH; rw [g_up_n h2, g_up_n h1]
theorem apC1 {q k L : Nat} {a f : Nat → Int32} {r2 : Int32 → gH → Option gH} {r : Int32 → gH → Option gH} {s : Int} (hs : 0 ≤ s ∧ s < 32) (hq : h q = some (.inl (0, 5, .inl a))) (hq0 : q ≠ cd ∧ q ≠ cd + 1) (hk : k < 5) (hL : L < 600) : f_X1_appendWords_L11 r2 cd q (iI k) r (iI s) (apH h cd st ec ep wr L f) = r (iI (s - 8)) (apH h cd st ec ep wr (L + 1) (upd f L (byC (a k) s))) := by
  unfold f_X1_appendWords_L11
  rw [show (0 : Int32) = iI 0 from rfl, if_neg (by rw [iI_lt (by omega) (by omega) (by omega) (by omega)]; omega), fA_at apH_0 rfl, gB_s, fI_at apH_0 rfl, gB_s, pf_at apH_0 (by show _ < 10; decide), gB_s]
  have e1 : g_up (apH h cd st ec ep wr L f) cd (.inr (3, [Value.ref (cd + 1), Value.int (iI L), Value.int ec, Value.int ep, Value.ref st, Value.ref (cd + 7), Value.ref (cd + 9), Value.ref (cd + 10), Value.ref (cd + 11), Value.int wr].set 1 (.int (iI L + (1 : Int32))))) = g_up (apH h cd st ec ep wr L f) cd (clO cd st (iI (L + 1 : Nat)) ec ep wr) := by
    rw [iI_1, iI_add, Int.natCast_add]; rfl
  rw [e1]
  have e2 : g_up (apH h cd st ec ep wr L f) cd (clO cd st (iI (L + 1 : Nat)) ec ep wr) q = some (.inl (0, 5, .inl a)) := by
    rw [g_up_n hq0.1, apH_n hq0.1 hq0.2]; exact hq
  have e3 : g_up (apH h cd st ec ep wr L f) cd (clO cd st (iI (L + 1 : Nat)) ec ep wr) (cd + 1) = some (.inl (1, 600, .inl f)) := by
    rw [g_up_n (by omega)]; exact apH_1
  rw [aI_at (j := k) e2 rfl hk (by decide) rfl, gB_s, sI_at (j := L) e3 rfl hL (by decide), gB_s, show (-8 : Int32) = iI (-8) from rfl, iI_add]
  have e4 := apH_up (h := h) (cd := cd) (st := st) (ec := ec) (ep := ep) (wr := wr) (L := L) (L' := L + 1) (f := f) (f' := upd f L (byC (a k) s))
  rw [show s + -8 = s - 8 by omega, ← e4]
  rfl
theorem apC4 {q k L : Nat} {a f : Nat → Int32} {r2 : Int32 → gH → Option gH} (hq : h q = some (.inl (0, 5, .inl a))) (hq0 : q ≠ cd ∧ q ≠ cd + 1) (hk : k < 5) (hL : L + 4 ≤ 600) : gL2 (f_X1_appendWords_L11 r2 cd q (iI k)) gN (24 : Int32) (apH h cd st ec ep wr L f) = r2 (iI (k + 1)) (apH h cd st ec ep wr (L + 4) (ap4 byC f L (a k))) := by
  show f_X1_appendWords_L11 r2 cd q (iI k) (gL2 (f_X1_appendWords_L11 r2 cd q (iI k)) 99999) (iI 24) _ = _
  rw [apC1 (by omega) hq hq0 hk (by omega)]
  show f_X1_appendWords_L11 r2 cd q (iI k) (gL2 (f_X1_appendWords_L11 r2 cd q (iI k)) 99998) (iI 16) _ = _
  rw [apC1 (by omega) hq hq0 hk (by omega)]
  show f_X1_appendWords_L11 r2 cd q (iI k) (gL2 (f_X1_appendWords_L11 r2 cd q (iI k)) 99997) (iI 8) _ = _
  rw [apC1 (by omega) hq hq0 hk (by omega)]
  show f_X1_appendWords_L11 r2 cd q (iI k) (gL2 (f_X1_appendWords_L11 r2 cd q (iI k)) 99996) (iI 0) _ = _
  rw [apC1 (by omega) hq hq0 hk (by omega)]
  show f_X1_appendWords_L11 r2 cd q (iI k) (gL2 (f_X1_appendWords_L11 r2 cd q (iI k)) 99995) (iI (-8)) _ = _
  unfold f_X1_appendWords_L11
  rw [show (0 : Int32) = iI 0 from rfl, if_pos (by rw [iI_lt (by omega) (by omega) (by omega) (by omega)]; omega), iI_1, iI_add]
  rfl
def ap5 (B : Int32 → Int → Int32) (f : Nat → Int32) (L : Nat) (a : Nat → Int32) : Nat → Nat → Int32
  | 0 => f
  | k + 1 => ap4 B (ap5 B f L a k) (L + 4 * k) (a k)
theorem buf_5 {f g : Nat → Int32} {L : Nat} {a : Nat → Int32} (h : bufZ f g L) : ∀ k, bufZ (ap5 byC f L a k) (ap5 byM g L a k) (L + 4 * k) := by
  intro k
  induction k with
  | zero => exact h
  | succ k ih => exact buf_4 ih
theorem apC5 {q L : Nat} {a f : Nat → Int32} (hq : h q = some (.inl (0, 5, .inl a))) (hq0 : q ≠ cd ∧ q ≠ cd + 1) (hL : L + 20 ≤ 600) : ∀ d i k : Nat, i + d = 5 → d < k → gL2 (f_X1_appendWords_L2 cd q) k (iI i) (apH h cd st ec ep wr (L + 4 * i) (ap5 byC f L a i)) = some (apH h cd st ec ep wr (L + 20) (ap5 byC f L a 5)) := by
  intro d
  induction d with
  | zero =>
    intro i k e hk
    obtain ⟨k, rfl⟩ : ∃ k', k = k' + 1 := ⟨k - 1, by omega⟩
    have e1 : i = 5 := by omega
    subst e1
    show f_X1_appendWords_L2 cd q (gL2 (f_X1_appendWords_L2 cd q) k) _ _ = _
    unfold f_X1_appendWords_L2
    rw [len_at (by rw [apH_n hq0.1 hq0.2]; exact hq), gB_s]
    exact if_pos (Int32.le_refl _)
  | succ d ih =>
    intro i k e hk
    obtain ⟨k, rfl⟩ : ∃ k', k = k' + 1 := ⟨k - 1, by omega⟩
    have ih := ih (i + 1) k (by omega) (by omega)
    show f_X1_appendWords_L2 cd q (gL2 (f_X1_appendWords_L2 cd q) k) _ _ = _
    generalize gL2 (f_X1_appendWords_L2 cd q) k = r at ih ⊢
    unfold f_X1_appendWords_L2
    rw [len_at (by rw [apH_n hq0.1 hq0.2]; exact hq), gB_s]
    show (if iI ((5 : Nat) : Int) ≤ iI (i : Int) then _ else _) = _
    rw [if_neg (by rw [iI_le (by omega) (by omega) (by omega) (by omega)]; omega), apC4 hq hq0 (by omega) (by omega)]
    rw [Int.natCast_add] at ih
    exact ih
theorem apM1 {x : Int32} {r : Int32 → (Nat → Int32) → Int32 → Option ((Nat → Int32) × Int32)} {s : Int} {g : Nat → Int32} {L : Nat} (hs : 0 ≤ s ∧ s < 32) (hL : L < 600) : f_X6_appendWord_L3 x r (iI s) g (iI L) = r (iI (s - 8)) (upd g L (byM x s)) (iI (L + 1 : Nat)) := by
  unfold f_X6_appendWord_L3
  rw [show (0 : Int32) = iI 0 from rfl, if_neg (by rw [iI_lt (by omega) (by omega) (by omega) (by omega)]; omega), wa_at (j := L) rfl hL (by decide), gB_s, show (-8 : Int32) = iI (-8) from rfl, iI_add, iI_1, iI_add, show s + -8 = s - 8 by omega, Int.natCast_add]
  rfl
theorem apM4 {x : Int32} {g : Nat → Int32} {L : Nat} (hL : L + 4 ≤ 600) : f_X6_appendWord x g (iI L) = some (ap4 byM g L x, iI (L + 4 : Nat)) := by
  show f_X6_appendWord_L3 x (gL3 (f_X6_appendWord_L3 x) 99999) (iI 24) _ _ = _
  rw [apM1 (by omega) (by omega)]
  show f_X6_appendWord_L3 x (gL3 (f_X6_appendWord_L3 x) 99998) (iI 16) _ _ = _
  rw [apM1 (by omega) (by omega)]
  show f_X6_appendWord_L3 x (gL3 (f_X6_appendWord_L3 x) 99997) (iI 8) _ _ = _
  rw [apM1 (by omega) (by omega)]
  show f_X6_appendWord_L3 x (gL3 (f_X6_appendWord_L3 x) 99996) (iI 0) _ _ = _
  rw [apM1 (by omega) (by omega)]
  show f_X6_appendWord_L3 x (gL3 (f_X6_appendWord_L3 x) 99995) (iI (-8)) _ _ = _
  unfold f_X6_appendWord_L3
  exact if_pos (by rw [show (0 : Int32) = iI 0 from rfl, iI_lt (by omega) (by omega) (by omega) (by omega)]; omega)
/-- only the class object, its buffer, program or output changed -/
def DC (cd b : Nat) : Prop := b = cd ∨ b = cd + 1 ∨ b = cd + 10 ∨ b = cd + 11
theorem DC_k (c : gClw cd st h M) {b : Nat} {e : gE} (hb : h b = some e) (hk : kSt e) : ¬ DC cd b := by
  obtain ⟨c1, ⟨f, L, c2, -⟩, ⟨g, c6⟩, ⟨k, W, c7, -⟩⟩ := c
  rintro (q | q | q | q)
  · rw [q, c1] at hb; cases hb; exact kS_noO ⟨by decide, by decide, by decide⟩ hk
  · rw [q, c2] at hb; cases hb; exact kS_no1 (by decide) hk
  · rw [q, c6] at hb; cases hb; exact kS_no0 (by decide) hk
  · rw [q, c7] at hb; cases hb; exact kS_no1 (by decide) hk
theorem gW.cl {h' : gH} {n' : Nat} (w : gW cd o h n M st S sa len hd hs HS fv VS) (u : gPas h n h' n' (DC cd)) : mR h' o = some M ∧ gFr h' n' ∧ gOut o h' ∧ StAt h' st S sa ∧ DqAt h' (cd + 7) hd len hs ∧ gHi h' M.aM len hs HS ∧ h' (cd + 9) = some (.inl (4, 2, .inr (.inr (.inr (.inr fv))))) ∧ gSv h' M.aM M.aS fv VS := by
  obtain ⟨F, w1, w2, w3, w4, ⟨w5, w6, w7⟩, ⟨w8, w9, w10⟩, ⟨w11, w12⟩, w13⟩ := w
  have hlt := w3.lt F
  have k : ∀ b e, h b = some e → kSt e → h' b = some e := fun b e hb he => u.ce F hb (DC_k w4 hb he)
  have nc : ∀ b e, h b = some e → cd + 11 < b ∨ (cd + 1 < b ∧ b < cd + 10) → h' b = some e := fun b e hb q => u.ce F hb (by unfold DC; omega)
  refine ⟨mR_st w2 fun b r => u.2.2 b (by unfold rgn at r; omega) (by unfold DC; unfold rgn at r; omega), u.2.1, ?_, w5.kS w6 k, w8.keep fun b e hb q => nc b e hb (by omega), fun j hj => ⟨(w10 j hj).1.kS (w10 j hj).2.2 k, (w10 j hj).2⟩, nc _ _ w11 (by omega), fun i hi => ?_⟩
  · obtain ⟨⟨f1, r1⟩, ⟨f2, r2⟩⟩ := w3
    exact ⟨⟨f1, nc _ _ r1 (by omega)⟩, ⟨f2, nc _ _ r2 (by omega)⟩⟩
  · rcases w12 i hi with ⟨a1, a2⟩ | ⟨v, a1, a2, a3, a4, a5⟩
    · exact .inl ⟨a1, a2⟩
    · exact .inr ⟨v, a1, a2, a3.kS a5 k, a4, a5⟩
theorem cl_pr {r : Option ((Int32 ⊕ gX) × gH × Nat)} {v : Int32} {X : gX → gH → Nat → Option ((Int32 ⊕ gX) × gH × Nat)} {h' : gH} {n' : Nat} (w : gW cd o h n M st S sa len hd hs HS fv VS) (u : gPas h n h' n' (DC cd)) (er : r = some (.inl v, h', n')) (cl : gClw cd st h' M') (e : M'.aM = M.aM ∧ M'.aS = M.aS ∧ M'.iU = M.iU) : gPr (gTX r (fun v3 h5 n6 => (Option.bind (g_sL h5 (o + 11) 5 (0 : Int32) v3.toInt64) fun h9 => some (.inl (0 : Int32), h9, n6))) X) cd o M M' 0 v.toInt64 := by
  obtain ⟨x1, x2, x3, x4, x5, x6, x7, x8⟩ := w.cl u
  obtain ⟨F, w1, w2, w3, w4, ⟨w5, w6, w7⟩, ⟨w8, w9, w10⟩, ⟨w11, w12⟩, w13⟩ := w
  obtain ⟨e1, e2, e3⟩ := e
  exact pr_of er x1 w1 x2 x3 cl x4 w6 (by rw [e1]; exact w7) x5 (by rw [e3]; exact w9) (by rw [e1]; exact x6) x7 (by rw [e1, e2]; exact x8) w13
theorem cl_W {h' : gH} {n' : Nat} (w : gW cd o h n M st S sa len hd hs HS fv VS) (u : gPas h n h' n' (DC cd)) (cl : gClw cd st h' M') (e : M'.aM = M.aM ∧ M'.aS = M.aS ∧ M'.iU = M.iU) : gWx cd o (M'.H h' o) n' := by
  obtain ⟨x1, x2, x3, x4, x5, x6, x7, x8⟩ := w.cl u
  obtain ⟨F, w1, w2, w3, w4, ⟨w5, w6, w7⟩, ⟨w8, w9, w10⟩, ⟨w11, w12⟩, w13⟩ := w
  obtain ⟨e1, e2, e3⟩ := e
  exact gW_H x1 w1 x2 x3 cl x4 w6 (by rw [e1]; exact w7) x5 (by rw [e3]; exact w9) (by rw [e1]; exact x6) x7 (by rw [e1, e2]; exact x8) w13
def af5 (z1 z2 z3 z4 z5 : Int32) : Nat → Int32 := upd (upd (upd (upd (upd (fun _ => 0) 0 z1) 1 z2) 2 z3) 3 z4) 4 z5
def ar5 (h : gH) (n : Nat) (a : Nat → Int32) : gH := g_up h n (.inl (0, 5, .inl a))
theorem ar5_e {α : Type} {z1 z2 z3 z4 z5 : Int32} {K : Nat → gH → Nat → Option α} : gT3 (g_nI h n 0 5 (5 : Int32)) (fun q1 h2 n3 => Option.bind (g_sI h2 q1 0 (0 : Int32) z1) fun h5 => Option.bind (g_sI h5 q1 0 (1 : Int32) z2) fun h6 => Option.bind (g_sI h6 q1 0 (2 : Int32) z3) fun h7 => Option.bind (g_sI h7 q1 0 (3 : Int32) z4) fun h8 => Option.bind (g_sI h8 q1 0 (4 : Int32) z5) fun h9 => K q1 h9 n3) = K n (ar5 h n (af5 z1 z2 z3 z4 z5)) (n + 1) := by
  rw [iI_5, nI_at (by decide) (by decide) (by decide), gT3_s, iI_0, sI_at (a := 0) (j := 0) g_up_s rfl (by decide) (by decide), gB_s, iI_1, sI_at (a := 1) (j := 1) g_up_s rfl (by decide) (by decide), gB_s, iI_2, sI_at (a := 2) (j := 2) g_up_s rfl (by decide) (by decide), gB_s, iI_3, sI_at (a := 3) (j := 3) g_up_s rfl (by decide) (by decide), gB_s, iI_4, sI_at (a := 4) (j := 4) g_up_s rfl (by decide) (by decide), gB_s]
  simp only [g_up_up]
  rfl
theorem p_append (w : gW cd o h n M st S sa len hd hs HS fv VS) (z1 z2 z3 z4 z5 iT : Int32) : ∃ c v aB' iL', gPr (f_X0_append cd z1 z2 z3 z4 z5 (o + 11) h n) cd o M (M.aM, M.aS, M.iU, aB', iL', M.iE, M.iP, M.aR, M.iW, c, M.aT, M.aC, M.aH, M.aE, M.aQ, M.iA, M.iY, M.iF, M.iV, M.aK) c v.toInt64 ∧ f_X6_append z1 z2 z3 z4 z5 M.aB M.iL iT = some (v, aB', iL', c) := by
  have w0 := w
  obtain ⟨F, w1, w2, w3, w4, ⟨w5, w6, w7⟩, ⟨w8, w9, w10⟩, ⟨w11, w12⟩, w13⟩ := w
  obtain ⟨fs0, ob⟩ := w4.ob
  have hlt := w3.lt F
  have w4' := w4
  obtain ⟨c1, ⟨f, L, c2, c3, c4, c5⟩, ⟨g, c6⟩, ⟨k, W, c7, c8, c9, c10⟩⟩ := w4
  unfold f_X0_append f_X6_append f_X6_append_J19 f_X1_append
  rw [ob, gB_s, fI_at c1 rfl, gB_s, c4]
  by_cases q : L + 20 ≤ 600
  · rw [if_pos (by rw [iI_20, iI_600, iI_add, iI_le (by omega) (by omega) (by omega) (by omega)]; omega), if_pos (by rw [iI_20, iI_600, iI_add, iI_le (by omega) (by omega) (by omega) (by omega)]; omega)]
    have u0 : gPas h n (ar5 h n (af5 z1 z2 z3 z4 z5)) (n + 1) noD := gPas.new F
    have a0 : af5 z1 z2 z3 z4 z5 0 = z1 := rfl
    have a1 : af5 z1 z2 z3 z4 z5 1 = z2 := rfl
    have a2 : af5 z1 z2 z3 z4 z5 2 = z3 := rfl
    have a3 : af5 z1 z2 z3 z4 z5 3 = z4 := rfl
    have a4 : af5 z1 z2 z3 z4 z5 4 = z5 := rfl
    rw [ar5_e]
    generalize af5 z1 z2 z3 z4 z5 = a at u0 a0 a1 a2 a3 a4 ⊢
    have k1 := u0.c0 F c1
    have k2 := u0.c0 F c2
    have e0 : apH (ar5 h n a) cd st M.iE M.iP M.iW L f = ar5 h n a := by
      unfold apH
      rw [g_up_id (h := ar5 h n a) (by rw [k1]; rw [c4]), g_up_id k2]
    have lc := F.lt c1
    have lc2 := F.lt c2
    have ew := apC5 (h := ar5 h n a) (cd := cd) (st := st) (ec := M.iE) (ep := M.iP) (wr := M.iW) (q := n) (L := L) (f := f) (a := a) g_up_s ⟨by omega, by omega⟩ q 5 0 gN (by omega) (by unfold gN; omega)
    have ew' : f_X1_appendWords cd n (ar5 h n a) = some (apH (ar5 h n a) cd st M.iE M.iP M.iW (L + 20) (ap5 byC f L a 5)) := by
      rw [← ew]
      show _ = gL2 (f_X1_appendWords_L2 cd n) gN (0 : Int32) (apH (ar5 h n a) cd st M.iE M.iP M.iW L f)
      rw [e0]; rfl
    have hM : f_X6_appendWord z1 M.aB (iI L) = some (ap5 byM M.aB L a 1, iI (L + 4 : Nat)) := by rw [← a0]; exact apM4 (by omega)
    have hM2 : f_X6_appendWord z2 (ap5 byM M.aB L a 1) (iI (L + 4 : Nat)) = some (ap5 byM M.aB L a 2, iI (L + 4 + 4 : Nat)) := by rw [← a1]; exact apM4 (by omega)
    have hM3 : f_X6_appendWord z3 (ap5 byM M.aB L a 2) (iI (L + 4 + 4 : Nat)) = some (ap5 byM M.aB L a 3, iI (L + 4 + 4 + 4 : Nat)) := by rw [← a2]; exact apM4 (by omega)
    have hM4 : f_X6_appendWord z4 (ap5 byM M.aB L a 3) (iI (L + 4 + 4 + 4 : Nat)) = some (ap5 byM M.aB L a 4, iI (L + 4 + 4 + 4 + 4 : Nat)) := by rw [← a3]; exact apM4 (by omega)
    have hM5 : f_X6_appendWord z5 (ap5 byM M.aB L a 4) (iI (L + 4 + 4 + 4 + 4 : Nat)) = some (ap5 byM M.aB L a 5, iI (L + 20 : Nat)) := by rw [← a4]; exact apM4 (by omega)
    rw [g_obj_s k1, gB_s, ew', gB_s, fI_at apH_0 rfl, gB_s]
    refine ⟨0, iI (L + 20 : Nat), ap5 byM M.aB L a 5, iI (L + 20 : Nat), cl_pr w0 ?_ rfl ⟨apH_0, ⟨_, L + 20, apH_1, q, rfl, buf_5 c5 5⟩, ⟨g, ?_⟩, ⟨k, W, ?_, c8, c9, c10⟩⟩ ⟨rfl, rfl, rfl⟩, ?_⟩
    · refine u0.no.tr' ⟨Nat.le_refl _, fun b hb => ?_, fun b hb hD => ?_⟩
      · rw [apH_n (by omega) (by omega)]; exact u0.2.1 b hb
      · exact apH_n (fun z => hD (.inl z)) (fun z => hD (.inr (.inl z)))
    · rw [apH_n (by omega) (by omega)]; exact u0.c0 F c6
    · rw [apH_n (by omega) (by omega)]; exact u0.c0 F c7
    · rw [mF0, gT2_s, if_pos rfl, hM, gT2_s, hM2, gT2_s, hM3, gT2_s, hM4, gT2_s, hM5, gT2_s]
  · rw [if_neg (by rw [iI_20, iI_600, iI_add, iI_le (by omega) (by omega) (by omega) (by omega)]; omega), if_neg (by rw [iI_20, iI_600, iI_add, iI_le (by omega) (by omega) (by omega) (by omega)]; omega)]
    refine ⟨1, 0, M.aB, M.iL, rd_pr w0 (gRd_t (k := 10) (thr_new F ⟨by decide, by decide⟩) w3 F (fun _ _ _ => rfl) (by decide)) ⟨fun _ _ => rfl, rfl, rfl, rfl, rfl, rfl, rfl, rfl, rfl⟩, ?_⟩
    rw [mF1, gT2_s, if_neg (by decide), ← c4]
theorem p_truncate (w : gW cd o h n M st S sa len hd hs HS fv VS) (z1 iT : Int32) : ∃ c v iL', gPr (f_X0_truncate cd z1 (o + 11) h n) cd o M (M.aM, M.aS, M.iU, M.aB, iL', M.iE, M.iP, M.aR, M.iW, c, M.aT, M.aC, M.aH, M.aE, M.aQ, M.iA, M.iY, M.iF, M.iV, M.aK) c v.toInt64 ∧ f_X6_truncate z1 M.iL iT = some (v, iL', c) := by
  have w0 := w
  obtain ⟨F, w1, w2, w3, w4, ⟨w5, w6, w7⟩, ⟨w8, w9, w10⟩, ⟨w11, w12⟩, w13⟩ := w
  obtain ⟨fs0, ob⟩ := w4.ob
  have w4' := w4
  obtain ⟨c1, ⟨f, L, c2, c3, c4, c5⟩, ⟨g, c6⟩, ⟨k, W, c7, c8, c9, c10⟩⟩ := w4
  obtain ⟨a, ha1, ha2, rfl⟩ := iI_of z1
  unfold f_X0_truncate f_X6_truncate f_X6_truncate_J18 f_X1_truncate
  rw [ob, gB_s, fI_at c1 rfl, gB_s, c4]
  have lc := F.lt c1
  by_cases q : 0 ≤ a ∧ a ≤ L
  · obtain ⟨a, rfl⟩ : ∃ k : Nat, a = k := ⟨a.toNat, by omega⟩
    have mb : f_X6_in (iI a) (0 : Int32) (iI L) = some (1 : Int32) := mBt_ok (b := 0) (by omega) (by omega) (by omega) q
    rw [if_neg (by rw [show (0 : Int32) = iI 0 from rfl, iI_lt (by omega) (by omega) (by omega) (by omega)]; omega), if_pos (by rw [iI_le (by omega) (by omega) (by omega) (by omega)]; omega), pf_at c1 (by show _ < 10; decide), gB_s, mb, gB_s, if_neg (by decide), mF0, gT2_s, if_pos rfl]
    refine ⟨0, iI a, iI a, cl_pr w0 (gPas.up F lc (.inl rfl)) rfl ⟨g_up_s, ⟨f, a, ?_, by omega, rfl, c5.le (by omega)⟩, ⟨g, ?_⟩, ⟨k, W, ?_, c8, c9, c10⟩⟩ ⟨rfl, rfl, rfl⟩, rfl⟩
    · rw [g_up_n (by omega)]; exact c2
    · rw [g_up_n (by omega)]; exact c6
    · rw [g_up_n (by omega)]; exact c7
  · have mb : f_X6_in (iI a) (0 : Int32) (iI L) = some (0 : Int32) := mBt_no (b := 0) (by omega) (by omega) (by omega) q
    refine ⟨1, 0, M.iL, rd_pr w0 (gRd_t (k := 11) ?_ w3 F (fun _ _ _ => rfl) (by decide)) ⟨fun _ _ => rfl, rfl, rfl, rfl, rfl, rfl, rfl, rfl, rfl⟩, by rw [mb, gB_s, if_pos rfl, mF1, gT2_s, if_neg (by decide), ← c4]⟩
    by_cases r : a < 0
    · rw [if_pos (by rw [show (0 : Int32) = iI 0 from rfl, iI_lt (by omega) (by omega) (by omega) (by omega)]; omega)]
      exact thr_new F ⟨by decide, by decide⟩
    · rw [if_neg (by rw [show (0 : Int32) = iI 0 from rfl, iI_lt (by omega) (by omega) (by omega) (by omega)]; omega), if_neg (by rw [iI_le (by omega) (by omega) (by omega) (by omega)]; omega)]
      exact thr_new F ⟨by decide, by decide⟩
end AP
