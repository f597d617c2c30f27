/-! THE SETUP: the class's parser -/
abbrev oD (q : Nat) : Nat → Prop := fun b => b = q
def scP (B : Nat → Int) (h : gH) (q cd st : Nat) (ec ep wr : Int32) (f : Nat → Int32) (L : Nat) (t : gTk) : Prop := scB h q cd st ec ep wr f L ∧ ∃ v : Int32, h q = some (.inr (2, [.int (iI t.k), .int (iI t.s), .int (iI t.e), .int v, .ref cd])) ∧ (t.k = 2 → v = iI t.v)
def gTE {α : Type} (r : Option ((α ⊕ gX) × gH × Nat)) (c p : Nat) (h : gH) (n q : Nat) : Prop := ∃ h' n' x, r = some (.inr (9, x), h', n') ∧ gPas h n h' n' (oD q) ∧ h' x = some (.inr (9, [.int (iI c), .int (iI p)]))
section CP
variable {B : Nat → Int} {L : Nat} {f g : Nat → Int32} {x : gV} {h : gH} {n q cd st : Nat} {ec ep wr : Int32} {t : gTk}
theorem gTE.X {α β : Type} {e : Option ((α ⊕ gX) × gH × Nat)} {K : α → gH → Nat → Option ((β ⊕ gX) × gH × Nat)} {c p : Nat} (w : gTE e c p h n q) : gTE (gTX e K fun q h n => some (.inr (q.1, q.2), h, n)) c p h n q := by
  obtain ⟨h', n', y, e1, u, e2⟩ := w
  rw [e1]
  exact ⟨h', n', y, rfl, u, e2⟩
theorem gTE.pre {α : Type} {e : Option ((α ⊕ gX) × gH × Nat)} {c p n0 : Nat} {h0 : gH} (w : gTE e c p h n q) (u : gPas h0 n0 h n (oD q)) : gTE e c p h0 n0 q := by
  obtain ⟨h', n', y, e1, v, e2⟩ := w
  exact ⟨h', n', y, e1, u.tr' v, e2⟩
theorem scP.ob (w : scP B h q cd st ec ep wr f L t) : ∃ fs, g_obj h q 2 = some fs := by
  obtain ⟨-, v, e, -⟩ := w
  exact ⟨_, g_obj_s e⟩
theorem scP.eq (w : scP B h q cd st ec ep wr f L t) : ∃ v, h = scH h q cd (iI t.k) (iI t.s) (iI t.e) v ∧ (t.k = 2 → v = iI t.v) := by
  obtain ⟨-, v, e, e2⟩ := w
  exact ⟨v, (g_up_id e).symm, e2⟩
theorem scP.mono {h' : gH} (w : scP B h q cd st ec ep wr f L t) (k : ∀ b e, b = q ∨ b = cd ∨ b = cd + 1 → h b = some e → h' b = some e) : scP B h' q cd st ec ep wr f L t := by
  obtain ⟨⟨a1, a2, a3, a4⟩, v, e1, e2⟩ := w
  exact ⟨⟨a1, a2, k _ _ (.inr (.inl rfl)) a3, k _ _ (.inr (.inr rfl)) a4⟩, v, k _ _ (.inl rfl) e1, e2⟩
theorem cErr {α : Type} {c : Nat} (w : scP B h q cd st ec ep wr f L t) (F : gFr h n) : gTE (α := α) (gT3 (f_X3_error q (iI c) h n) fun v7 h8 n9 => (Option.bind (g_xcl h8 v7) fun k10 => some (.inr (k10, v7), h8, n9))) c t.s h n q := by
  obtain ⟨-, v, e, -⟩ := w
  unfold f_X3_error
  rw [fI_at e rfl, gB_s, gT3_s]
  have : g_xcl (g_up h n (.inr (9, [.int (iI c), .int (iI t.s)]))) n = some 9 := by
    unfold g_xcl
    rw [g_up_s]
    exact if_pos ⟨(by decide : 9 ≤ 9), (by decide : 9 ≤ 13)⟩
  rw [this, gB_s]
  exact ⟨_, _, n, rfl, gPas.new F, g_up_s⟩
theorem cAdvP (w : scP B h q cd st ec ep wr f L t) (hB : byR f g B L) (hL : L ≤ 600) (ht : tkG B L t) : ∃ h', f_X3_advance q h = some h' ∧ scP B h' q cd st ec ep wr f L (tkZ B L t.e) ∧ ∀ b, b ≠ q → h' b = h b := by
  obtain ⟨v, e, -⟩ := w.eq
  obtain ⟨v', e1, e2⟩ := cAdv (k := iI t.k) (s := iI t.s) (v := v) w.1 hB hL ht.2.1
  rw [← e] at e1
  obtain ⟨a1, a2, a3, a4⟩ := w.1
  exact ⟨_, e1, ⟨⟨a1, a2, by rw [scH_n a1.symm]; exact a3, by rw [scH_n a2.symm]; exact a4⟩, v', scH_q, e2⟩, fun b hb => scH_n hb⟩
theorem cIsWP (w : scP B h q cd st ec ep wr f L t) (hd : ∀ i j, i < g_tN → j < g_tN → x.2.2.1 i = x.2.2.1 j → i = j) (hB : byR f g B L) (hL : L ≤ 600) (ht : tkG B L t) {i : Nat} (hi : i < g_tN) (hw : wL i ≤ 600) : f_X3_isWord x q (x.2.2.1 i) h = some (if wdIs B t i = true then (1 : Int32) else 0) := by
  obtain ⟨v, e, -⟩ := w.eq
  have := cIsW (v := v) w.1 hd hB hL ht hi hw
  rw [← e] at this
  exact this
theorem upP {h' : gH} (F : gFr h n) (hq : q < n) (e : ∀ b, b ≠ q → h' b = h b) : gPas h n h' n (oD q) := ⟨Nat.le_refl _, fun b hb => by rw [e b (by omega)]; exact F b hb, fun b _ hD => e b hD⟩
theorem cWord (w : scP B h q cd st ec ep wr f L t) (F : gFr h n) (hd : ∀ i j, i < g_tN → j < g_tN → x.2.2.1 i = x.2.2.1 j → i = j) (hB : byR f g B L) (hL : L ≤ 600) (ht : tkG B L t) {i : Nat} (hi : i < g_tN) (hw : wL i ≤ 600) : (wdIs B t i = true → ∃ h', f_X3_expectWord x q (x.2.2.1 i) h n = some (.inl (), h', n) ∧ scP B h' q cd st ec ep wr f L (tkZ B L t.e) ∧ ∀ b, b ≠ q → h' b = h b) ∧ (wdIs B t i = false → gTE (f_X3_expectWord x q (x.2.2.1 i) h n) 1 t.s h n q) := by
  obtain ⟨fs, o⟩ := w.ob
  have hi1 := cIsWP w hd hB hL ht hi hw
  unfold f_X3_expectWord
  rw [o, gB_s, hi1, gB_s]
  refine ⟨fun z => ?_, fun z => ?_⟩
  · obtain ⟨h', e1, e2, e3⟩ := cAdvP w hB hL ht
    rw [if_pos z, if_neg (by decide), e1, gB_s]
    exact ⟨h', rfl, e2, e3⟩
  · rw [z]
    exact cErr (c := 1) w F
theorem cSem (w : scP B h q cd st ec ep wr f L t) (F : gFr h n) (hB : byR f g B L) (hL : L ≤ 600) (ht : tkG B L t) : match pSem B L t with
    | .inl (c, p) => gTE (f_X3_expectSemicolon q h n) c p h n q
    | .inr t' => ∃ h', f_X3_expectSemicolon q h n = some (.inl (), h', n) ∧ scP B h' q cd st ec ep wr f L t' ∧ ∀ b, b ≠ q → h' b = h b := by
  obtain ⟨fs, o⟩ := w.ob
  have w0 := w
  obtain ⟨⟨a1, a2, a3, a4⟩, v, e1, e2⟩ := w
  obtain ⟨t1, t2, t3, t4, t5, t6⟩ := ht
  unfold f_X3_expectSemicolon
  rw [fI_at e1 rfl, gB_s]
  by_cases k3 : t.k = 3
  · have hs : t.s < L := by
      rcases Nat.lt_or_ge t.s L with y | y
      · exact y
      · have : t.k = 0 := t5.mpr (by omega)
        omega
    obtain ⟨b1, -, b3⟩ := hB t.s hs
    have bz : -128 ≤ sgB (B t.s) ∧ sgB (B t.s) < 128 ∧ (sgB (B t.s) = 59 ↔ B t.s = 59) := by
      unfold sgB; split <;> refine ⟨by omega, by omega, ?_⟩ <;> omega
    rw [if_pos (by rw [k3]; rfl), fA_at e1 rfl, gB_s, fA_at a3 rfl, gB_s, fI_at e1 rfl, gB_s, aI_at (j := t.s) a4 rfl (by omega) (by decide) b3, gB_s, o, gB_s]
    by_cases y : B t.s = 59
    · have e : pSem B L t = .inr (tkZ B L t.e) := by unfold pSem; rw [if_pos ⟨k3, y⟩]
      obtain ⟨h', x1, x2, x3⟩ := cAdvP w0 hB hL ⟨t1, t2, t3, t4, t5, t6⟩
      rw [e]
      refine ⟨h', ?_, x2, x3⟩
      rw [if_pos (by rw [bz.2.2.mpr y]; rfl), x1, gB_s]
    · have e : pSem B L t = .inl (1, t.s) := by unfold pSem; rw [if_neg (fun z => y z.2)]
      rw [e]
      show gTE _ 1 t.s h n q
      rw [if_neg (by rw [iI_59, iI_eq (by omega) (by omega) (by omega) (by omega)]; exact fun z => y (bz.2.2.mp z))]
      exact cErr (c := 1) w0 F
  · have e : pSem B L t = .inl (1, t.s) := by unfold pSem; rw [if_neg (fun z => k3 z.1)]
    rw [e]
    show gTE _ 1 t.s h n q
    rw [if_neg (by rw [iI_3, iI_eq (by omega) (by omega) (by omega) (by omega)]; omega), o, gB_s]
    exact cErr (c := 1) w0 F
theorem cNum (w : scP B h q cd st ec ep wr f L t) (F : gFr h n) (hB : byR f g B L) (hL : L ≤ 600) (ht : tkG B L t) {lo hi : Int} (hlo : -100 ≤ lo ∧ lo ≤ 100) (hhi : -100 ≤ hi ∧ hi ≤ 100) : match pNum B L t lo hi with
    | .inl (c, p) => gTE (f_X3_expectNumber q (iI lo) (iI hi) h n) c p h n q
    | .inr (v, t') => ∃ h', f_X3_expectNumber q (iI lo) (iI hi) h n = some (.inl (iI v), h', n) ∧ scP B h' q cd st ec ep wr f L t' ∧ ∀ b, b ≠ q → h' b = h b := by
  obtain ⟨fs, o⟩ := w.ob
  have w0 := w
  obtain ⟨⟨a1, a2, a3, a4⟩, v, e1, e2⟩ := w
  have ht0 := ht
  obtain ⟨t1, t2, t3, t4, t5, t6⟩ := ht
  unfold f_X3_expectNumber f_X3_expectNumber_2
  rw [fI_at e1 rfl, gB_s]
  by_cases k2 : t.k = 2
  · rw [if_pos (by rw [k2]; rfl), fI_at e1 rfl, gB_s, e2 k2, o, gB_s, gB_s]
    by_cases y1 : t.v < lo
    · have e : pNum B L t lo hi = .inl (2, t.s) := by unfold pNum; rw [if_pos k2, if_neg (by omega)]
      rw [e]
      show gTE _ 2 t.s h n q
      rw [if_pos (by rw [iI_lt (by omega) (by omega) (by omega) (by omega)]; omega)]
      exact cErr (c := 2) w0 F
    · by_cases y2 : t.v ≤ hi
      · have e : pNum B L t lo hi = .inr (t.v, tkZ B L t.e) := by unfold pNum; rw [if_pos k2, if_pos ⟨by omega, y2⟩]
        obtain ⟨h', x1, x2, x3⟩ := cAdvP w0 hB hL ht0
        rw [e]
        refine ⟨h', ?_, x2, x3⟩
        rw [if_neg (by rw [iI_lt (by omega) (by omega) (by omega) (by omega)]; omega), if_pos (by rw [iI_le (by omega) (by omega) (by omega) (by omega)]; omega)]
        simp only [gB_s]
        rw [if_pos (by rw [k2]; rfl), x1, gB_s, gTX_l]
      · have e : pNum B L t lo hi = .inl (2, t.s) := by unfold pNum; rw [if_pos k2, if_neg (by omega)]
        rw [e]
        show gTE _ 2 t.s h n q
        rw [if_neg (by rw [iI_lt (by omega) (by omega) (by omega) (by omega)]; omega), if_neg (by rw [iI_le (by omega) (by omega) (by omega) (by omega)]; omega)]
        exact cErr (c := 2) w0 F
  · have e : pNum B L t lo hi = .inl (1, t.s) := by unfold pNum; rw [if_neg k2]
    rw [e]
    show gTE _ 1 t.s h n q
    rw [if_neg (by rw [iI_2, iI_eq (by omega) (by omega) (by omega) (by omega)]; omega), o, gB_s]
    simp only [gB_s]
    rw [if_neg (by rw [iI_2, iI_eq (by omega) (by omega) (by omega) (by omega)]; omega)]
    exact (cErr (c := 1) w0 F).X
theorem StAt.kP {h' : gH} {st : Nat} {S : gS} {sa : Nat → Nat} (hS : StAt h st S sa) (hw : WFp S) (k : ∀ b e, h b = some e → kSt e → h' b = some e) : StAt h' st S sa := by
  have hc := hw.1.2
  obtain ⟨h1, ⟨mc, h2⟩, ⟨f3, h3, h3'⟩, ⟨f4, h4⟩, ⟨f5, h5, h5'⟩, h6⟩ := hS
  refine ⟨k _ _ h1 (.inl rfl), ⟨mc, k _ _ h2 (.inr (.inr rfl))⟩, ⟨f3, k _ _ h3 (.inr (.inr (.inr ⟨rfl, rfl⟩))), h3'⟩, ⟨f4, k _ _ h4 (.inr (.inr (.inl ⟨rfl, rfl⟩)))⟩, ⟨f5, k _ _ h5 (.inl ⟨rfl, hc⟩), h5'⟩, fun s hs => ?_⟩
  obtain ⟨na, w1, ⟨f7, w2, w2'⟩, ⟨f8, w3, w3'⟩⟩ := h6 s hs
  have hl := (hw.2.2.2.2 s hs).1.2
  exact ⟨na, k _ _ w1 (.inr (.inl rfl)), ⟨f7, k _ _ w2 (.inl ⟨rfl, hc⟩), w2'⟩, ⟨f8, k _ _ w3 (.inr (.inl ⟨rfl, hl⟩)), w3'⟩⟩
theorem kS_q {h' : gH} (w : scP B h q cd st ec ep wr f L t) (e : ∀ b, b ≠ q → h' b = h b) : ∀ b e, h b = some e → kSt e → h' b = some e := fun b y hb hk => by
  obtain ⟨-, v, e1, -⟩ := w
  rw [e b (fun z => by rw [z, e1] at hb; cases hb; exact kS_noO ⟨by decide, by decide, by decide⟩ hk)]
  exact hb
theorem cNam (w : scP B h q cd st ec ep wr f L t) (F : gFr h n) (hB : byR f g B L) (hL : L ≤ 600) (ht : tkG B L t) {z : Nat} {S : gS} {sa : Nat → Nat} (hS : StAt h z S sa) (hw : WFp S) : match pNam B L S t with
    | .inl (c, p) => gTE (f_X3_expectNewName q z h n) c p h n q
    | .inr t' => ∃ h' F', f_X3_expectNewName q z h n = some (.inl n, h', n + 1) ∧ scP B h' q cd st ec ep wr f L t' ∧ gPas h n h' (n + 1) (oD q) ∧ h' n = some (.inl (1, t.e - t.s, .inl F')) ∧ (∀ i, i < t.e - t.s → F' i = iI (B (t.s + i))) ∧ (1 ≤ t.e - t.s ∧ t.e - t.s ≤ 6) ∧ (∀ i, i < t.e - t.s → smB (B (t.s + i))) ∧ t' = tkZ B L t.e := by
  obtain ⟨fs, o⟩ := w.ob
  have w0 := w
  have hqn : q < n := by
    obtain ⟨-, v, e, -⟩ := w
    exact F.lt e
  obtain ⟨⟨a1, a2, a3, a4⟩, v, e1, e2⟩ := w
  have ht0 := ht
  obtain ⟨t1, t2, t3, t4, t5, t6⟩ := ht
  have lc1 := F.lt a4
  have hn6 := hw.2.1
  unfold f_X3_expectNewName f_X3_peekName
  rw [o, gB_s, fI_at e1 rfl, gB_s]
  by_cases k1 : t.k = 1
  · obtain ⟨s1, s2, s3⟩ := t6 k1
    rw [if_pos (by rw [k1]; rfl), fI_at e1 rfl, gB_s, fI_at e1 rfl, gB_s, iI_sub, gB_s, gB_s, gB_s]
    have e9 : iI ((t.e : Int) - (t.s : Int)) = iI ((t.e - t.s : Nat) : Int) := by congr 1; omega
    by_cases l6 : t.e - t.s ≤ 6
    · have u1 := gPas.new (D := oD q) (e := .inl (1, t.e - t.s, .inl fun _ => 0)) F
      have v1 := gPas.new (D := noD) (e := .inl (1, t.e - t.s, .inl fun _ => 0)) F
      have k1' := v1.c0 F e1
      have k3' := v1.c0 F a3
      have k4' := v1.c0 F a4
      have b8 : ∀ i, i < t.s + (t.e - t.s) → (f i).toInt8.toInt32 = f i := fun i hi => by
        obtain ⟨b1, -, b3⟩ := hB i (by omega)
        rw [b3]
        have : -128 ≤ sgB (B i) ∧ sgB (B i) < 128 := by unfold sgB; split <;> omega
        exact sg8 this.1 this.2
      have hcp : g_cpy (g_up h n (.inl (1, t.e - t.s, .inl fun _ => 0))) 1 (cd + 1) (iI t.s) n (0 : Int32) (iI (t.e - t.s : Nat)) = some (g_up (g_up h n (.inl (1, t.e - t.s, .inl fun _ => 0))) n (.inl (1, t.e - t.s, .inl (va_cpy f (fun _ => 0) t.s 0 (t.e - t.s))))) := cpyB_at b8 k4' g_up_s (by omega) (Nat.le_refl _) (by omega)
      have hlen : g_len (g_up h n (.inl (1, t.e - t.s, .inl fun _ => 0))) n 1 = some (iI (t.e - t.s : Nat)) := len_at g_up_s
      rw [if_pos (by rw [iI_6, iI_le (by omega) (by omega) (by omega) (by omega)]; omega), iI_sub, e9, nI_at (by omega) (by omega) (by decide), gT3_s, Int.toNat_natCast, fA_at k1' rfl, gB_s, fA_at k3' rfl, gB_s, fI_at k1' rfl, gB_s, hlen, gB_s, hcp, gB_s, g_up_up, gTX_l]
      have v2 := gPas.new (D := noD) (e := .inl (1, t.e - t.s, .inl (va_cpy f (fun _ => 0) t.s 0 (t.e - t.s)))) F
      have u2 := gPas.new (D := oD q) (e := .inl (1, t.e - t.s, .inl (va_cpy f (fun _ => 0) t.s 0 (t.e - t.s)))) F
      generalize eh2 : g_up h n (.inl (1, t.e - t.s, .inl (va_cpy f (fun _ => 0) t.s 0 (t.e - t.s)))) = h2 at v2 u2 ⊢
      have hn2 : h2 n = some (.inl (1, t.e - t.s, .inl (va_cpy f (fun _ => 0) t.s 0 (t.e - t.s)))) := by rw [← eh2, g_up_s]
      have hS2 := v2.st F hS
      have w2 : scP B h2 q cd st ec ep wr f L t := w0.mono fun b e _ hb => v2.c0 F hb
      have hF : ∀ j, j < t.e - t.s → (0 ≤ B (t.s + j) ∧ B (t.s + j) < 256) ∧ va_cpy f (fun _ => 0) t.s 0 (t.e - t.s) j = iI (sgB (B (t.s + j))) := fun j hj => by
        obtain ⟨b1, -, b3⟩ := hB (t.s + j) (by omega)
        refine ⟨b1, ?_⟩
        show (if 0 ≤ j ∧ j < 0 + (t.e - t.s) then f (t.s + (j - 0)) else 0) = _
        rw [if_pos (by omega), show t.s + (j - 0) = t.s + j by omega, b3]
      have hsn := cSn (q := n) (wl := t.e - t.s) (W := fun j => B (t.s + j)) hS2 hw.2.1 hw.2.2.2.2 hn2 hF (by omega)
      obtain ⟨fs3, o3⟩ := a_obj hS2
      obtain ⟨fs4, o4⟩ := w2.ob
      have sb := snZ_b (S := S) (wl := t.e - t.s) (W := fun j => B (t.s + j)) S.n 0
      rw [o3, gB_s, hsn, gB_s, o4, gB_s]
      by_cases qn : snZ S (t.e - t.s) (fun j => B (t.s + j)) S.n 0 = -1
      · have e : pNam B L S t = .inr (tkZ B L t.e) := by unfold pNam; rw [if_pos k1, if_pos l6, if_pos qn]
        obtain ⟨h', x1, x2, x3⟩ := cAdvP w2 hB hL ht0
        rw [e]
        refine ⟨h', _, ?_, x2, u2.tr' (upP v2.2.1 (by omega) x3), by rw [x3 n (by omega)]; exact hn2, fun i hi => ?_, ⟨by omega, l6⟩, fun i hi => s3 _ (by omega) (by omega), rfl⟩
        · rw [if_pos (by rw [qn]; rfl), x1, gB_s]
        · rw [(hF i hi).2]
          have := s3 (t.s + i) (by omega) (by omega)
          unfold sgB; rw [if_pos (by omega)]
      · have e : pNam B L S t = .inl (3, t.s) := by unfold pNam; rw [if_pos k1, if_pos l6, if_neg qn]
        rw [e]
        show gTE _ 3 t.s h n q
        rw [if_neg (by rw [iI_n1, iI_eq (by omega) (by omega) (by omega) (by omega)]; exact qn), gB_s]
        exact (cErr (c := 3) w2 v2.2.1).pre u2
    · have e : pNam B L S t = .inl (3, t.s) := by unfold pNam; rw [if_pos k1, if_neg l6]
      rw [e]
      show gTE _ 3 t.s h n q
      rw [if_neg (by rw [iI_6, iI_le (by omega) (by omega) (by omega) (by omega)]; omega)]
      exact (cErr (c := 3) w0 F).X
  · have e : pNam B L S t = .inl (1, t.s) := by unfold pNam; rw [if_neg k1]
    rw [e]
    show gTE _ 1 t.s h n q
    rw [if_neg (by rw [iI_1, iI_eq (by omega) (by omega) (by omega) (by omega)]; omega), gB_s]
    exact (cErr (c := 1) w0 F).X
end CP
