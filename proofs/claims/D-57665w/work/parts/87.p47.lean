/-! TOKENS: the class's scanner -/
def scO (cd : Nat) (k s e v : Int32) : gE := .inr (2, [.int k, .int s, .int e, .int v, .ref cd])
def scH (hb : gH) (q cd : Nat) (k s e v : Int32) : gH := g_up hb q (scO cd k s e v)
section TC
variable {B : Nat → Int} {L : Nat} {f g : Nat → Int32} {hb : gH} {q cd st : Nat} {ec ep wr : Int32}
theorem scH_q {k s e v : Int32} : scH hb q cd k s e v q = some (.inr (2, [.int k, .int s, .int e, .int v, .ref cd])) := g_up_s
theorem scH_n {k s e v : Int32} {b : Nat} (h : b ≠ q) : scH hb q cd k s e v b = hb b := g_up_n h
theorem scH_up {k s e v : Int32} {x : gE} {k' s' e' v' : Int32} (hx : x = scO cd k' s' e' v') : g_up (scH hb q cd k s e v) q x = scH hb q cd k' s' e' v' := by
  rw [hx]; exact g_up_up
/-- the world a scanner reads: the class object with its length, the buffer -/
def scB (hb : gH) (q cd st : Nat) (ec ep wr : Int32) (f : Nat → Int32) (L : Nat) : Prop := q ≠ cd ∧ q ≠ cd + 1 ∧ hb cd = some (clO cd st (iI L) ec ep wr) ∧ hb (cd + 1) = some (.inl (1, 600, .inl f))
theorem sc_len (w : scB hb q cd st ec ep wr f L) {k s e v : Int32} : g_fI (scH hb q cd k s e v) cd 3 1 = some (iI L) := fI_at (by rw [scH_n w.1.symm]; exact w.2.2.1) rfl
theorem sc_buf (w : scB hb q cd st ec ep wr f L) {k s e v : Int32} : g_fA (scH hb q cd k s e v) cd 3 0 = some (cd + 1) := fA_at (by rw [scH_n w.1.symm]; exact w.2.2.1) rfl
theorem sc_rd (w : scB hb q cd st ec ep wr f L) {k s e v : Int32} {i : Nat} (hi : i < 600) : g_aI (scH hb q cd k s e v) (cd + 1) 1 (iI i) = some (f i) := aI_at (by rw [scH_n w.2.1.symm]; exact w.2.2.2) rfl hi (by decide) rfl
theorem sc_out {k s e v : Int32} : g_fA (scH hb q cd k s e v) q 2 4 = some cd := fA_at scH_q rfl
theorem sc_k {k s e v : Int32} : g_fI (scH hb q cd k s e v) q 2 0 = some k := fI_at scH_q rfl
theorem sc_s {k s e v : Int32} : g_fI (scH hb q cd k s e v) q 2 1 = some s := fI_at scH_q rfl
theorem sc_e {k s e v : Int32} : g_fI (scH hb q cd k s e v) q 2 2 = some e := fI_at scH_q rfl
theorem sc_v {k s e v : Int32} : g_fI (scH hb q cd k s e v) q 2 3 = some v := fI_at scH_q rfl
theorem sc_pk {k s e v x : Int32} : g_pf (scH hb q cd k s e v) q 2 0 (.int x) = some (scH hb q cd x s e v) := by
  rw [pf_at scH_q (by show _ < 5; decide)]; exact congrArg some (scH_up rfl)
theorem sc_ps {k s e v x : Int32} : g_pf (scH hb q cd k s e v) q 2 1 (.int x) = some (scH hb q cd k x e v) := by
  rw [pf_at scH_q (by show _ < 5; decide)]; exact congrArg some (scH_up rfl)
theorem sc_pe {k s e v x : Int32} : g_pf (scH hb q cd k s e v) q 2 2 (.int x) = some (scH hb q cd k s x v) := by
  rw [pf_at scH_q (by show _ < 5; decide)]; exact congrArg some (scH_up rfl)
theorem sc_pv {k s e v x : Int32} : g_pf (scH hb q cd k s e v) q 2 3 (.int x) = some (scH hb q cd k s e x) := by
  rw [pf_at scH_q (by show _ < 5; decide)]; exact congrArg some (scH_up rfl)
theorem tkC_dg (w : scB hb q cd st ec ep wr f L) (hB : byR f g B L) (hL : L ≤ 600) {s : Nat} {k : Int32} : ∀ (d e fu : Nat) (v : Int), e + d = L → d < fu → s ≤ e → gL1 (f_X3_advance_L198 q) fu (scH hb q cd k (iI s) (iI e) (iI v)) = f_X3_advance_J299 q (scH hb q cd k (iI s) (iI (dgZ B s d e v).1) (iI (dgZ B s d e v).2)) := by
  intro d
  induction d with
  | zero =>
    intro e fu v e1 hfu hs
    obtain ⟨fu, rfl⟩ : ∃ k', fu = k' + 1 := ⟨fu - 1, by omega⟩
    show f_X3_advance_L198 q (gL1 (f_X3_advance_L198 q) fu) _ = _
    unfold f_X3_advance_L198
    rw [sc_e, gB_s, sc_out, gB_s, sc_len w, gB_s, if_pos (by rw [iI_le (by omega) (by omega) (by omega) (by omega)]; omega)]
    rfl
  | succ d ih =>
    intro e fu v e1 hfu hs
    obtain ⟨fu, rfl⟩ : ∃ k', fu = k' + 1 := ⟨fu - 1, by omega⟩
    obtain ⟨b1, -, b3⟩ := hB e (by omega)
    show f_X3_advance_L198 q (gL1 (f_X3_advance_L198 q) fu) _ = _
    have ihh := fun v' => ih (e + 1) fu v' (by omega) (by omega) (by omega)
    generalize gL1 (f_X3_advance_L198 q) fu = r at ihh ⊢
    unfold f_X3_advance_L198
    rw [Int.natCast_add, Int.natCast_one] at ihh
    have bz : -128 ≤ sgB (B e) ∧ sgB (B e) < 128 ∧ (dgB (B e) ↔ 48 ≤ sgB (B e) ∧ sgB (B e) ≤ 57) ∧ (dgB (B e) → sgB (B e) = B e) := by
      unfold sgB; split <;> refine ⟨by omega, by omega, ?_, ?_⟩ <;> omega
    obtain ⟨z1, z2, z3, z4⟩ := bz
    simp only [sc_e, sc_s, sc_v, sc_k, sc_out, sc_len w, sc_buf w, gB_s, sc_pe, sc_pv, sc_pk, sc_ps, sc_rd w (show e < 600 by omega), b3]
    rw [if_neg (by rw [iI_le (by omega) (by omega) (by omega) (by omega)]; omega)]
    by_cases y : dgB (B e)
    · rw [dgZ_t y]
      have y1 := z3.mp y
      have y2 := z4 y
      rw [if_neg (by rw [iI_48, iI_lt (by omega) (by omega) (by omega) (by omega)]; omega), if_neg (by rw [iI_57, iI_lt (by omega) (by omega) (by omega) (by omega)]; omega), iI_sub]
      by_cases x : e - s < 2
      · rw [if_neg (by rw [iI_2, iI_le (by omega) (by omega) (by omega) (by omega)]; omega), iI_10, iI_48, iI_mul, iI_add, iI_sub, iI_1, iI_add, y2, if_pos x]
        exact ihh _
      · rw [if_pos (by rw [iI_2, iI_le (by omega) (by omega) (by omega) (by omega)]; omega), iI_1, iI_add, if_neg x]
        exact ihh _
    · rw [dgZ_f y]
      by_cases y1 : sgB (B e) < 48
      · rw [if_pos (by rw [iI_48, iI_lt (by omega) (by omega) (by omega) (by omega)]; omega)]
      · rw [if_neg (by rw [iI_48, iI_lt (by omega) (by omega) (by omega) (by omega)]; omega), if_pos (by rw [iI_57, iI_lt (by omega) (by omega) (by omega) (by omega)]; omega)]
theorem tkC_wd (w : scB hb q cd st ec ep wr f L) (hB : byR f g B L) (hL : L ≤ 600) {s : Nat} {k v : Int32} : ∀ (d e fu : Nat), e + d = L → d < fu → s ≤ e → gL1 (f_X3_advance_L97 q) fu (scH hb q cd k (iI s) (iI e) v) = f_X3_advance_J158 q (scH hb q cd k (iI s) (iI (wdZ B d e : Nat)) v) := by
  intro d
  induction d with
  | zero =>
    intro e fu e1 hfu hs
    obtain ⟨fu, rfl⟩ : ∃ k', fu = k' + 1 := ⟨fu - 1, by omega⟩
    show f_X3_advance_L97 q (gL1 (f_X3_advance_L97 q) fu) _ = _
    unfold f_X3_advance_L97
    rw [sc_e, gB_s, sc_out, gB_s, sc_len w, gB_s, if_pos (by rw [iI_le (by omega) (by omega) (by omega) (by omega)]; omega)]
    rfl
  | succ d ih =>
    intro e fu e1 hfu hs
    obtain ⟨fu, rfl⟩ : ∃ k', fu = k' + 1 := ⟨fu - 1, by omega⟩
    obtain ⟨b1, -, b3⟩ := hB e (by omega)
    have ih := ih (e + 1) fu (by omega) (by omega) (by omega)
    show f_X3_advance_L97 q (gL1 (f_X3_advance_L97 q) fu) _ = _
    generalize gL1 (f_X3_advance_L97 q) fu = r at ih ⊢
    unfold f_X3_advance_L97
    rw [Int.natCast_add, Int.natCast_one] at ih
    have bz : -128 ≤ sgB (B e) ∧ sgB (B e) < 128 ∧ (smB (B e) ↔ 97 ≤ sgB (B e) ∧ sgB (B e) ≤ 122) := by
      unfold sgB; split <;> refine ⟨by omega, by omega, ?_⟩ <;> omega
    obtain ⟨z1, z2, z3⟩ := bz
    simp only [sc_e, sc_s, sc_v, sc_k, sc_out, sc_len w, sc_buf w, gB_s, sc_pe, sc_pv, sc_pk, sc_ps, sc_rd w (show e < 600 by omega), b3]
    rw [if_neg (by rw [iI_le (by omega) (by omega) (by omega) (by omega)]; omega)]
    by_cases y : smB (B e)
    · rw [wdZ_t y]
      have y1 := z3.mp y
      rw [if_neg (by rw [iI_97, iI_lt (by omega) (by omega) (by omega) (by omega)]; omega), if_neg (by rw [iI_122, iI_lt (by omega) (by omega) (by omega) (by omega)]; omega), iI_1, iI_add]
      exact ih
    · rw [wdZ_f y]
      by_cases y1 : sgB (B e) < 97
      · rw [if_pos (by rw [iI_97, iI_lt (by omega) (by omega) (by omega) (by omega)]; omega)]
      · rw [if_neg (by rw [iI_97, iI_lt (by omega) (by omega) (by omega) (by omega)]; omega), if_pos (by rw [iI_122, iI_lt (by omega) (by omega) (by omega) (by omega)]; omega)]
theorem tkC_at (w : scB hb q cd st ec ep wr f L) (hB : byR f g B L) (hL : L ≤ 600) {s : Nat} (hs : s ≤ L) (hns : s = L ∨ ¬ (B s = 32 ∨ B s = 10)) {k e v : Int32} : ∃ v', f_X3_advance_J69 q (scH hb q cd k (iI s) e v) = some (scH hb q cd (iI (tkZ B L s).k) (iI (tkZ B L s).s) (iI (tkZ B L s).e) v') ∧ ((tkZ B L s).k = 2 → v' = iI (tkZ B L s).v) := by
  have hsk : skZ B (L - s) s = s := by
    rcases hns with q | q
    · rw [q, Nat.sub_self]; rfl
    · obtain ⟨d, hd⟩ : ∃ d, L - s = d := ⟨_, rfl⟩
      rw [hd]
      cases d with
      | zero => rfl
      | succ d => simp only [skZ]; rw [if_neg q]
  unfold f_X3_advance_J69
  rw [sc_s, gB_s, sc_pe, gB_s, sc_s, gB_s, sc_out, gB_s, sc_len w, gB_s]
  by_cases q1 : s = L
  · rw [tk_end (hsk.trans q1), if_pos (by rw [q1]), sc_pk, gB_s, q1]
    exact ⟨v, rfl, fun w => absurd w (by show ¬ (0 : Nat) = 2; decide)⟩
  · rw [if_neg (by rw [iI_eq (by omega) (by omega) (by omega) (by omega)]; omega), tkC_wd w hB hL (L - s) s gN (by omega) (by unfold gN; omega) (Nat.le_refl _)]
    unfold f_X3_advance_J158
    rw [sc_e, gB_s, sc_s, gB_s]
    have wb := wdZ_b (B := B) (L - s) s
    by_cases q2 : smB (B s)
    · obtain ⟨w1, w2⟩ := tk_word hsk (by omega) q2
      rw [w2]
      generalize wdZ B (L - s) s = x at w1 wb ⊢
      rw [if_neg (by rw [iI_le (by omega) (by omega) (by omega) (by omega)]; omega), gB_s, gB_s, iI_sub]
      by_cases z : x - s ≤ 8
      · rw [if_pos (by rw [iI_8, iI_le (by omega) (by omega) (by omega) (by omega)]; omega), sc_pk, gB_s, if_pos z]
        exact ⟨v, rfl, fun y => absurd y (by show ¬ (1 : Nat) = 2; decide)⟩
      · rw [if_neg (by rw [iI_8, iI_le (by omega) (by omega) (by omega) (by omega)]; omega), sc_pk, gB_s, if_neg z]
        exact ⟨v, rfl, fun y => absurd y (by show ¬ (4 : Nat) = 2; decide)⟩
    · have ew : wdZ B (L - s) s = s := by
        obtain ⟨d, hd⟩ : ∃ d, L - s = d + 1 := ⟨L - s - 1, by omega⟩
        rw [hd]; exact wdZ_f q2
      rw [ew, if_pos (Int32.le_refl _), sc_pv, gB_s, show (0 : Int32) = iI 0 from rfl, tkC_dg w hB hL (L - s) s gN 0 (by omega) (by unfold gN; omega) (Nat.le_refl _)]
      unfold f_X3_advance_J299
      rw [sc_e, gB_s, sc_s, gB_s]
      by_cases q3 : dgB (B s)
      · obtain ⟨w1, w2⟩ := tk_num hsk (by omega) q3
        have h3 := dgZ_b (B := B) (s := s) (L - s) s 0 (Nat.le_refl _) (fun _ => rfl) (fun w => by omega) (fun w => by omega)
        rw [w2]
        generalize dgZ B s (L - s) s 0 = x at w1 h3 ⊢
        rw [if_neg (by rw [iI_le (by omega) (by omega) (by omega) (by omega)]; omega), gB_s, gB_s, iI_sub]
        by_cases z : x.1 - s ≤ 2
        · rw [if_pos (by rw [iI_2, iI_le (by omega) (by omega) (by omega) (by omega)]; omega), sc_pk, gB_s, if_pos z]
          exact ⟨_, rfl, fun _ => rfl⟩
        · rw [if_neg (by rw [iI_2, iI_le (by omega) (by omega) (by omega) (by omega)]; omega), sc_pk, gB_s, if_neg z]
          exact ⟨_, rfl, fun _ => rfl⟩
      · have eg : dgZ B s (L - s) s 0 = (s, 0) := by
          obtain ⟨d, hd⟩ : ∃ d, L - s = d + 1 := ⟨L - s - 1, by omega⟩
          rw [hd]; exact dgZ_f q3
        rw [tk_sign hsk (by omega) q2 q3, eg, if_pos (Int32.le_refl _), gB_s, sc_pe, gB_s, sc_pk, gB_s, iI_1, iI_add]
        exact ⟨_, rfl, fun y => absurd y (by show ¬ (3 : Nat) = 2; decide)⟩
theorem tkC_sk (w : scB hb q cd st ec ep wr f L) (hB : byR f g B L) (hL : L ≤ 600) {k e0 v : Int32} : ∀ (d e fu : Nat), e + d = L → d < fu → ∃ v', gL1 (f_X3_advance_L8 q) fu (scH hb q cd k (iI e) e0 v) = some (scH hb q cd (iI (tkZ B L e).k) (iI (tkZ B L e).s) (iI (tkZ B L e).e) v') ∧ ((tkZ B L e).k = 2 → v' = iI (tkZ B L e).v) := by
  intro d
  induction d with
  | zero =>
    intro e fu e1 hfu
    obtain ⟨fu, rfl⟩ : ∃ k', fu = k' + 1 := ⟨fu - 1, by omega⟩
    show ∃ v', f_X3_advance_L8 q (gL1 (f_X3_advance_L8 q) fu) _ = _ ∧ _
    unfold f_X3_advance_L8
    rw [sc_s, gB_s, sc_out, gB_s, sc_len w, gB_s, if_pos (by rw [iI_le (by omega) (by omega) (by omega) (by omega)]; omega)]
    exact tkC_at w hB hL (by omega) (.inl (by omega))
  | succ d ih =>
    intro e fu e1 hfu
    obtain ⟨fu, rfl⟩ : ∃ k', fu = k' + 1 := ⟨fu - 1, by omega⟩
    obtain ⟨b1, -, b3⟩ := hB e (by omega)
    have ih := ih (e + 1) fu (by omega) (by omega)
    have et : (B e = 32 ∨ B e = 10) → tkZ B L e = tkZ B L (e + 1) := fun y => by
      have : skZ B (L - e) e = skZ B (L - (e + 1)) (e + 1) := by
        rw [show L - e = (L - (e + 1)) + 1 by omega]
        simp only [skZ]; rw [if_pos y]
      unfold tkZ
      rw [this]
    have bz : -128 ≤ sgB (B e) ∧ sgB (B e) < 128 ∧ (sgB (B e) = 32 ↔ B e = 32) ∧ (sgB (B e) = 10 ↔ B e = 10) := by
      unfold sgB; split <;> refine ⟨by omega, by omega, ?_, ?_⟩ <;> omega
    obtain ⟨z1, z2, z3, z4⟩ := bz
    show ∃ v', f_X3_advance_L8 q (gL1 (f_X3_advance_L8 q) fu) _ = _ ∧ _
    generalize gL1 (f_X3_advance_L8 q) fu = r at ih ⊢
    unfold f_X3_advance_L8
    rw [Int.natCast_add, Int.natCast_one] at ih
    simp only [sc_e, sc_s, sc_v, sc_k, sc_out, sc_len w, sc_buf w, gB_s, sc_pe, sc_pv, sc_pk, sc_ps, sc_rd w (show e < 600 by omega), b3]
    rw [if_neg (by rw [iI_le (by omega) (by omega) (by omega) (by omega)]; omega)]
    by_cases y1 : B e = 32
    · rw [if_pos (by rw [z3.mpr y1]; rfl), iI_1, iI_add, et (.inl y1)]
      exact ih
    · rw [if_neg (by rw [iI_32, iI_eq (by omega) (by omega) (by omega) (by omega)]; exact fun x => y1 (z3.mp x))]
      by_cases y2 : B e = 10
      · rw [if_pos (by rw [z4.mpr y2]; rfl), iI_1, iI_add, et (.inr y2)]
        exact ih
      · rw [if_neg (by rw [iI_10, iI_eq (by omega) (by omega) (by omega) (by omega)]; exact fun x => y2 (z4.mp x))]
        exact tkC_at w hB hL (by omega) (.inr (by omega))
/-- the class's scanner: advance -/
theorem cAdv (w : scB hb q cd st ec ep wr f L) (hB : byR f g B L) (hL : L ≤ 600) {k s v : Int32} {e : Nat} (he : e ≤ L) : ∃ v', f_X3_advance q (scH hb q cd k s (iI e) v) = some (scH hb q cd (iI (tkZ B L e).k) (iI (tkZ B L e).s) (iI (tkZ B L e).e) v') ∧ ((tkZ B L e).k = 2 → v' = iI (tkZ B L e).v) := by
  unfold f_X3_advance
  rw [sc_e, gB_s, sc_ps, gB_s]
  exact tkC_sk w hB hL (L - e) e gN (by omega) (by unfold gN; omega)
end TC
