/-! SCRIPTS: the class's parser -/
def D3 (q cd : Nat) : Nat → Prop := fun b => b = q ∨ b = cd + 10
section SC
variable {B : Nat → Int} {L : Nat} {f g : Nat → Int32} {x : gV} {h : gH} {n q cd st : Nat} {ec ep wr : Int32} {t : gTk} {S : gS} {sa : Nat → Nat} {fp : Nat → Int32}
/-- where the class stands in a script -/
def pW (B : Nat → Int) (L : Nat) (f : Nat → Int32) (q cd st : Nat) (ec ep wr : Int32) (S : gS) (sa : Nat → Nat) (h : gH) (n : Nat) (t : gTk) (fp : Nat → Int32) : Prop :=
  gFr h n ∧ scP B h q cd st ec ep wr f L t ∧ h (cd + 10) = some (.inl (0, 120, .inl fp)) ∧ StAt h st S sa ∧ tkG B L t
def gTG {α : Type} (r : Option ((α ⊕ gX) × gH × Nat)) (c p : Nat) (h : gH) (n q cd : Nat) : Prop := ∃ h' n' x fp', r = some (.inr (9, x), h', n') ∧ gPas h n h' n' (D3 q cd) ∧ h' x = some (.inr (9, [.int (iI c), .int (iI p)])) ∧ h' (cd + 10) = some (.inl (0, 120, .inl fp'))
theorem gTG.X {α β : Type} {e : Option ((α ⊕ gX) × gH × Nat)} {K : α → gH → Nat → Option ((β ⊕ gX) × gH × Nat)} {c p : Nat} (w : gTG e c p h n q cd) : gTG (gTX e K fun q h n => some (.inr (q.1, q.2), h, n)) c p h n q cd := by
  obtain ⟨h', n', y, fp', e1, u, e2⟩ := w
  rw [e1]
  exact ⟨h', n', y, fp', rfl, u, e2⟩
theorem gTG.pre {α : Type} {e : Option ((α ⊕ gX) × gH × Nat)} {c p n0 : Nat} {h0 : gH} (w : gTG e c p h n q cd) (u : gPas h0 n0 h n (D3 q cd)) : gTG e c p h0 n0 q cd := by
  obtain ⟨h', n', y, fp', e1, v, e2⟩ := w
  exact ⟨h', n', y, fp', e1, u.tr' v, e2⟩
theorem gTE.G {α : Type} {e : Option ((α ⊕ gX) × gH × Nat)} {c y : Nat} (w : gTE e c y h n q) (p : pW B L f q cd st ec ep wr S sa h n t fp) : gTG e c y h n q cd := by
  obtain ⟨h', n', x, e1, u, e2⟩ := w
  obtain ⟨p1, p2, p3, p4, p5⟩ := p
  have hq : cd + 10 ≠ q := fun z => by
    obtain ⟨-, v, e1, -⟩ := p2
    rw [z, e1] at p3; cases p3
  exact ⟨h', n', x, fp, e1, u.mo fun b _ hb => .inl hb, e2, u.ce p1 p3 hq⟩
theorem cSb (w : scP B h q cd st ec ep wr f L t) (F : gFr h n) (hB : byR f g B L) (hL : L ≤ 600) (ht : tkG B L t) (hS : StAt h st S sa) (hw : WF S) : match pSb B L S t with
    | .inl (c, p) => gTE (f_X3_expectSibling q h n) c p h n q
    | .inr (v, t') => ∃ h' n', f_X3_expectSibling q h n = some (.inl (iI v), h', n') ∧ scP B h' q cd st ec ep wr f L t' ∧ gPas h n h' n' (oD q) := by
  obtain ⟨fs, o⟩ := w.ob
  have w0 := w
  have hqn : q < n := w.lt F
  obtain ⟨⟨a1, a2, a3, a4⟩, v, e1, e2⟩ := w
  have ht0 := ht
  obtain ⟨t1, t2, t3, t4, t5, t6⟩ := ht
  have hn6 := hw.2.1
  unfold f_X3_expectSibling f_X3_peekName
  rw [fA_at e1 rfl, gB_s, fA_at a3 rfl, gB_s, o, gB_s, fI_at e1 rfl, gB_s]
  by_cases k1 : t.k = 1
  · obtain ⟨s1, s2, s3⟩ := t6 k1
    rw [if_pos (by rw [k1]; rfl), fI_at e1 rfl, gB_s, fI_at e1 rfl, gB_s, iI_sub, gB_s, gB_s, gB_s]
    have e9 : iI ((t.e : Int) - (t.s : Int)) = iI ((t.e - t.s : Nat) : Int) := by congr 1; omega
    by_cases l6 : t.e - t.s ≤ 6
    · have u1 := gPas.new (D := oD q) (e := .inl (1, t.e - t.s, .inl fun _ => 0)) F
      have v1 := gPas.new (D := noD) (e := .inl (1, t.e - t.s, .inl fun _ => 0)) F
      have k1' := v1.c0 F e1
      have k3' := v1.c0 F a3
      have k4' := v1.c0 F a4
      have b8 : ∀ i, i < t.s + (t.e - t.s) → (f i).toInt8.toInt32 = f i := fun i hi => by
        obtain ⟨b1, -, b3⟩ := hB i (by omega)
        rw [b3]
        have : -128 ≤ sgB (B i) ∧ sgB (B i) < 128 := by unfold sgB; split <;> omega
        exact sg8 this.1 this.2
      have hcp : g_cpy (g_up h n (.inl (1, t.e - t.s, .inl fun _ => 0))) 1 (cd + 1) (iI t.s) n (0 : Int32) (iI (t.e - t.s : Nat)) = some (g_up (g_up h n (.inl (1, t.e - t.s, .inl fun _ => 0))) n (.inl (1, t.e - t.s, .inl (va_cpy f (fun _ => 0) t.s 0 (t.e - t.s))))) := cpyB_at b8 k4' g_up_s (by omega) (Nat.le_refl _) (by omega)
      have hlen : g_len (g_up h n (.inl (1, t.e - t.s, .inl fun _ => 0))) n 1 = some (iI (t.e - t.s : Nat)) := len_at g_up_s
      rw [if_pos (by rw [iI_6, iI_le (by omega) (by omega) (by omega) (by omega)]; omega), iI_sub, e9, nI_at (by omega) (by omega) (by decide), gT3_s, Int.toNat_natCast, fA_at k1' rfl, gB_s, fA_at k3' rfl, gB_s, fI_at k1' rfl, gB_s, hlen, gB_s, hcp, gB_s, g_up_up, gTX_l]
      have v2 := gPas.new (D := noD) (e := .inl (1, t.e - t.s, .inl (va_cpy f (fun _ => 0) t.s 0 (t.e - t.s)))) F
      have u2 := gPas.new (D := oD q) (e := .inl (1, t.e - t.s, .inl (va_cpy f (fun _ => 0) t.s 0 (t.e - t.s)))) F
      generalize eh2 : g_up h n (.inl (1, t.e - t.s, .inl (va_cpy f (fun _ => 0) t.s 0 (t.e - t.s)))) = h2 at v2 u2 ⊢
      have hn2 : h2 n = some (.inl (1, t.e - t.s, .inl (va_cpy f (fun _ => 0) t.s 0 (t.e - t.s)))) := by rw [← eh2, g_up_s]
      have hS2 := v2.st F hS
      have w2 : scP B h2 q cd st ec ep wr f L t := w0.mono fun b e _ hb => v2.c0 F hb
      have hF : ∀ j, j < t.e - t.s → (0 ≤ B (t.s + j) ∧ B (t.s + j) < 256) ∧ va_cpy f (fun _ => 0) t.s 0 (t.e - t.s) j = iI (sgB (B (t.s + j))) := fun j hj => by
        obtain ⟨b1, -, b3⟩ := hB (t.s + j) (by omega)
        refine ⟨b1, ?_⟩
        show (if 0 ≤ j ∧ j < 0 + (t.e - t.s) then f (t.s + (j - 0)) else 0) = _
        rw [if_pos (by omega), show t.s + (j - 0) = t.s + j by omega, b3]
      have hsn := cSn (q := n) (wl := t.e - t.s) (W := fun j => B (t.s + j)) hS2 hw.2.1.2 hw.2.2.2.2 hn2 hF (by omega)
      obtain ⟨fs3, o3⟩ := a_obj hS2
      obtain ⟨fs4, o4⟩ := w2.ob
      have sb := snZ_b (S := S) (wl := t.e - t.s) (W := fun j => B (t.s + j)) S.n 0
      rw [o3, gB_s, hsn, gB_s, o4]
      by_cases qn : snZ S (t.e - t.s) (fun j => B (t.s + j)) S.n 0 = -1
      · have e : pSb B L S t = .inl (3, t.s) := by unfold pSb; rw [if_pos k1, if_pos l6, if_pos qn]
        rw [e]
        show gTE _ 3 t.s h n q
        rw [if_pos (by rw [qn]; rfl), gB_s]
        exact (cErr (c := 3) w2 v2.2.1).pre u2
      · have e : pSb B L S t = .inr (snZ S (t.e - t.s) (fun j => B (t.s + j)) S.n 0, tkZ B L t.e) := by unfold pSb; rw [if_pos k1, if_pos l6, if_neg qn]
        obtain ⟨h', x1, x2, x3⟩ := cAdvP w2 hB hL ht0
        rw [e]
        refine ⟨h', n + 1, ?_, x2, u2.tr' (upP v2.2.1 (by omega) x3)⟩
        rw [if_neg (by rw [iI_n1, iI_eq (by omega) (by omega) (by omega) (by omega)]; exact qn), gB_s, x1, gB_s]
    · have e : pSb B L S t = .inl (3, t.s) := by unfold pSb; rw [if_pos k1, if_neg l6]
      rw [e]
      show gTE _ 3 t.s h n q
      rw [if_neg (by rw [iI_6, iI_le (by omega) (by omega) (by omega) (by omega)]; omega)]
      exact (cErr (c := 3) w0 F).X
  · have e : pSb B L S t = .inl (1, t.s) := by unfold pSb; rw [if_neg k1]
    rw [e]
    show gTE _ 1 t.s h n q
    rw [if_neg (by rw [iI_1, iI_eq (by omega) (by omega) (by omega) (by omega)]; omega), gB_s]
    exact (cErr (c := 1) w0 F).X
theorem cNu (w : scP B h q cd st ec ep wr f L t) (F : gFr h n) (hB : byR f g B L) (hL : L ≤ 600) (ht : tkG B L t) : match pNu B L t with
    | .inl (c, p) => gTE (f_X3_expectNumber_2 q h n) c p h n q
    | .inr (v, t') => ∃ h' n', f_X3_expectNumber_2 q h n = some (.inl (iI v), h', n') ∧ scP B h' q cd st ec ep wr f L t' ∧ gPas h n h' n' (oD q) := by
  obtain ⟨fs, o⟩ := w.ob
  have w0 := w
  have hqn : q < n := w.lt F
  obtain ⟨⟨a1, a2, a3, a4⟩, v, e1, e2⟩ := w
  have ht0 := ht
  obtain ⟨t1, t2, t3, t4, t5, t6⟩ := ht
  unfold f_X3_expectNumber_2
  rw [fI_at e1 rfl, gB_s]
  by_cases k2 : t.k = 2
  · have e : pNu B L t = .inr (t.v, tkZ B L t.e) := by unfold pNu; rw [if_pos k2]
    obtain ⟨h', x1, x2, x3⟩ := cAdvP w0 hB hL ht0
    rw [e]
    refine ⟨h', n, ?_, x2, upP F hqn x3⟩
    rw [if_pos (by rw [k2]; rfl), fI_at e1 rfl, gB_s, o, gB_s, x1, gB_s, e2 k2]
  · have e : pNu B L t = .inl (1, t.s) := by unfold pNu; rw [if_neg k2]
    rw [e]
    show gTE _ 1 t.s h n q
    rw [if_neg (by rw [iI_2, iI_eq (by omega) (by omega) (by omega) (by omega)]; omega), o, gB_s]
    exact cErr (c := 1) w0 F
/-- an argument read and written -/
def aR {β : Type} (B : Nat → Int) (L : Nat) (f : Nat → Int32) (q cd st : Nat) (ec ep wr : Int32) (S : gS) (sa : Nat → Nat) (h : gH) (n : Nat) (fp : Nat → Int32) (j : Nat) (X : Option ((β ⊕ gX) × gH × Nat)) (K : gH → Nat → Option ((β ⊕ gX) × gH × Nat)) (e : gEr (Int × gTk)) : Prop :=
  match e with
  | .inl (c, p) => gTG X c p h n q cd
  | .inr (v, t') => ∃ h' n', X = K h' n' ∧ pW B L f q cd st ec ep wr S sa h' n' t' (upd fp j (iI v)) ∧ gPas h n h' n' (D3 q cd)
theorem aR_of {β : Type} {e : gEr (Int × gTk)} {T : Option ((Int32 ⊕ gX) × gH × Nat)} {K : gH → Nat → Option ((β ⊕ gX) × gH × Nat)} {j : Nat} (hj : j < 120) (p : pW B L f q cd st ec ep wr S sa h n t fp) (hw : WF S) (a : match e with
    | .inl (c, p) => gTE T c p h n q
    | .inr (v, t') => ∃ h' n', T = some (.inl (iI v), h', n') ∧ scP B h' q cd st ec ep wr f L t' ∧ gPas h n h' n' (oD q)) (he : ∀ v t', e = .inr (v, t') → t' = tkZ B L t.e) : aR B L f q cd st ec ep wr S sa h n fp j (gTX T (fun v24 h26 n27 => (Option.bind (g_sI h26 (cd + 10) 0 (iI j) v24) fun h30 => K h30 n27)) fun q25 h28 n29 => some (.inr (q25.1, q25.2), h28, n29)) K e := by
  obtain ⟨p1, p2, p3, p4, p5⟩ := p
  rcases e with ⟨c, y⟩ | ⟨v, t'⟩
  · exact (gTE.G a ⟨p1, p2, p3, p4, p5⟩).X
  · obtain ⟨h', n', x1, x2, x3⟩ := a
    have hq : h q ≠ h (cd + 10) := fun z => by
      obtain ⟨-, v, e1, -⟩ := p2
      rw [e1, p3] at z; cases z
    have c10 : h' (cd + 10) = some (.inl (0, 120, .inl fp)) := x3.ce p1 p3 fun z => by
      have z : cd + 10 = q := z
      exact hq (by rw [z])
    have hlt := x3.2.1.lt c10
    rw [x1, gTX_l, sI_at (j := j) c10 rfl hj (by decide), gB_s]
    have k2 : ∀ b e, h' b = some e → kSt e → g_up h' (cd + 10) (.inl (0, 120, .inl (upd fp j (iI v)))) b = some e := kS_up c10 (kS_no0 (by decide))
    refine ⟨_, n', rfl, ⟨fun b hb => by rw [g_up_n (by omega)]; exact x3.2.1 b hb, x2.mono fun b e hb he => ?_, g_up_s, (p4.kS hw (kS_p p2 p1 x3)).kS hw k2, by rw [he v t' rfl]; exact tkG_z p5.2.1⟩, x3.1, fun b hb => by rw [g_up_n (by omega)]; exact x3.2.1 b hb, fun b hb hD => ?_⟩
    · rw [g_up_n]
      · exact he
      · rcases hb with z | z | z
        · intro y; exact hq (by rw [← y, z])
        · omega
        · omega
    · rw [g_up_n (fun z => hD (.inr z))]
      exact x3.2.2 b hb fun z => hD (.inl z)
theorem pW.cl (p : pW B L f q cd st ec ep wr S sa h n t fp) : g_fA h cd 3 7 = some (cd + 10) := by
  obtain ⟨p1, ⟨⟨a1, a2, a3, a4⟩, -⟩, -⟩ := p
  exact fA_at a3 rfl
theorem aSb {β : Type} {j : Nat} {K : gH → Nat → Option ((β ⊕ gX) × gH × Nat)} (hB : byR f g B L) (hL : L ≤ 600) (hw : WF S) (p : pW B L f q cd st ec ep wr S sa h n t fp) (hj : j < 120) : aR B L f q cd st ec ep wr S sa h n fp j (Option.bind (g_fA h cd 3 7) fun v21 => (Option.bind (g_obj h q 2) fun _ => (gTX (f_X3_expectSibling q h n) (fun v24 h26 n27 => (Option.bind (g_sI h26 v21 0 (iI j) v24) fun h30 => K h30 n27)) fun q25 h28 n29 => some (.inr (q25.1, q25.2), h28, n29)))) K (pSb B L S t) := by
  obtain ⟨fs, o⟩ := p.2.1.ob
  rw [p.cl, gB_s, o, gB_s]
  exact aR_of hj p hw (cSb p.2.1 p.1 hB hL p.2.2.2.2 p.2.2.2.1 hw) fun v t' e => (pSb_ok e).2.2
theorem aNu {β : Type} {j : Nat} {K : gH → Nat → Option ((β ⊕ gX) × gH × Nat)} (hB : byR f g B L) (hL : L ≤ 600) (hw : WF S) (p : pW B L f q cd st ec ep wr S sa h n t fp) (hj : j < 120) : aR B L f q cd st ec ep wr S sa h n fp j (Option.bind (g_fA h cd 3 7) fun v21 => (Option.bind (g_obj h q 2) fun _ => (gTX (f_X3_expectNumber_2 q h n) (fun v24 h26 n27 => (Option.bind (g_sI h26 v21 0 (iI j) v24) fun h30 => K h30 n27)) fun q25 h28 n29 => some (.inr (q25.1, q25.2), h28, n29)))) K (pNu B L t) := by
  obtain ⟨fs, o⟩ := p.2.1.ob
  rw [p.cl, gB_s, o, gB_s]
  exact aR_of hj p hw (cNu p.2.1 p.1 hB hL p.2.2.2.2) fun v t' e => (pNu_ok e p.2.2.2.2).2.2
/-- all arguments of a command -/
def agR (B : Nat → Int) (L : Nat) (f : Nat → Int32) (q cd st : Nat) (ec ep wr : Int32) (S : gS) (sa : Nat → Nat) (h : gH) (n : Nat) (fp : Nat → Int32) (b : Nat) (X : Option ((Unit ⊕ gX) × gH × Nat)) (e : gEr (gCm × gTk)) : Prop :=
  match e with
  | .inl (c, p) => gTG X c p h n q cd
  | .inr (c, t') => ∃ h' n' fp', X = some (.inl (), h', n') ∧ pW B L f q cd st ec ep wr S sa h' n' t' fp' ∧ gPas h n h' n' (D3 q cd) ∧ (∀ i, i ≤ b → fp' i = fp i) ∧ cmA fp' b c
theorem agR_st {h0 : gH} {n0 b j : Nat} {fp0 : Nat → Int32} {e : gEr (gCm × gTk)} {es : gEr (Int × gTk)} {X : Option ((Unit ⊕ gX) × gH × Nat)} {K : gH → Nat → Option ((Unit ⊕ gX) × gH × Nat)} (U : gPas h0 n0 h n (D3 q cd)) (a : aR B L f q cd st ec ep wr S sa h n fp j X K es) (hl : ∀ c p, es = .inl (c, p) → e = .inl (c, p)) (hr : ∀ v t' h' n', es = .inr (v, t') → pW B L f q cd st ec ep wr S sa h' n' t' (upd fp j (iI v)) → gPas h0 n0 h' n' (D3 q cd) → agR B L f q cd st ec ep wr S sa h0 n0 fp0 b (K h' n') e) : agR B L f q cd st ec ep wr S sa h0 n0 fp0 b X e := by
  rcases es with ⟨c, p⟩ | ⟨v, t'⟩
  · rw [hl c p rfl]
    exact gTG.pre a U
  · obtain ⟨h', n', x1, x2, x3⟩ := a
    rw [x1]
    exact hr v t' h' n' rfl x2 (U.tr' x3)
theorem cArg (hB : byR f g B L) (hL : L ≤ 600) (hw : WF S) (p : pW B L f q cd st ec ep wr S sa h n t fp) {k b : Nat} (hk : k ≤ 7) (hb : b + 3 < 120) : agR B L f q cd st ec ep wr S sa h n fp b (f_X1_parseArguments cd q (iI k) (iI b) h n) (pArg B L S k t) := by
  have e1 : iI (b : Int) + (1 : Int32) = iI ((b + 1 : Nat) : Int) := by rw [iI_1, iI_add]; rfl
  have e2 : iI (b : Int) + (2 : Int32) = iI ((b + 2 : Nat) : Int) := by rw [show (2 : Int32) = iI 2 from rfl, iI_add]; rfl
  have e3 : iI (b : Int) + (3 : Int32) = iI ((b + 3 : Nat) : Int) := by rw [show (3 : Int32) = iI 3 from rfl, iI_add]; rfl
  have hk8 : k = 0 ∨ k = 1 ∨ k = 2 ∨ k = 3 ∨ k = 4 ∨ k = 5 ∨ k = 6 ∨ k = 7 := by omega
  rcases hk8 with z | z | z | z | z | z | z | z
  · subst z
    show agR B L f q cd st ec ep wr S sa h n fp b (f_X1_parseArguments cd q (0 : Int32) (iI b) h n) (pArg B L S 0 t)
    unfold f_X1_parseArguments f_X1_parseArguments_J10 f_X1_parseArguments_J15
    rw [if_neg (by decide), if_neg (by decide), if_neg (by decide), if_neg (by decide)]
    rw [e1]
    refine agR_st (gPas.rf p.1) (aSb hB hL hw p (j := b + 1) (by omega)) ?_ ?_
    · intro c y h1
      simp [pArg, pA1, pA2, bE, h1]
    intro v1 t1 h1' n1 h1 p1 U1
    unfold f_X1_parseArguments_J39
    rw [if_pos rfl, if_neg (by decide), e2, e3]
    refine agR_st U1 (aNu hB hL hw p1 (j := b + 2) (by omega)) ?_ ?_
    · intro c y h2
      simp [pArg, pA1, pA2, bE, h1, h2]
    intro v2 t2 h2' n2 h2 p2 U2
    refine agR_st U2 (aNu hB hL hw p2 (j := b + 3) (by omega)) ?_ ?_
    · intro c y h3
      simp [pArg, pA1, pA2, bE, h1, h2, h3]
    intro v3 t3 h3' n3 h3 p3 U3
    have e : pArg B L S 0 t = .inr ((0, v1, v2, v3), t3) := by simp [pArg, pA1, pA2, bE, h1, h2, h3]
    rw [e]
    exact ⟨h3', n3, _, rfl, p3, U3, fun i hi => by unfold upd; rw [if_neg (by omega), if_neg (by omega), if_neg (by omega)], by simp [cmA, upd]⟩
  · subst z
    show agR B L f q cd st ec ep wr S sa h n fp b (f_X1_parseArguments cd q (1 : Int32) (iI b) h n) (pArg B L S 1 t)
    unfold f_X1_parseArguments f_X1_parseArguments_J10 f_X1_parseArguments_J15
    rw [if_neg (by decide), if_neg (by decide), if_pos rfl]
    unfold f_X1_parseArguments_J39
    rw [if_pos rfl, if_neg (by decide), e2, e3]
    refine agR_st (gPas.rf p.1) (aNu hB hL hw p (j := b + 2) (by omega)) ?_ ?_
    · intro c y h1
      simp [pArg, pA1, pA2, bE, h1]
    intro v1 t1 h1' n1 h1 p1 U1
    refine agR_st U1 (aNu hB hL hw p1 (j := b + 3) (by omega)) ?_ ?_
    · intro c y h2
      simp [pArg, pA1, pA2, bE, h1, h2]
    intro v2 t2 h2' n2 h2 p2 U2
    have e : pArg B L S 1 t = .inr ((1, 0, v1, v2), t2) := by simp [pArg, pA1, pA2, bE, h1, h2]
    rw [e]
    exact ⟨h2', n2, _, rfl, p2, U2, fun i hi => by unfold upd; rw [if_neg (by omega), if_neg (by omega)], by simp [cmA, upd]⟩
  · subst z
    show agR B L f q cd st ec ep wr S sa h n fp b (f_X1_parseArguments cd q (2 : Int32) (iI b) h n) (pArg B L S 2 t)
    unfold f_X1_parseArguments f_X1_parseArguments_J10 f_X1_parseArguments_J15
    rw [if_pos rfl, if_neg (by decide), if_neg (by decide)]
    rw [e1]
    refine agR_st (gPas.rf p.1) (aSb hB hL hw p (j := b + 1) (by omega)) ?_ ?_
    · intro c y h1
      simp [pArg, pA1, pA2, bE, h1]
    intro v1 t1 h1' n1 h1 p1 U1
    unfold f_X1_parseArguments_J39
    rw [if_neg (by decide), e2]
    refine agR_st U1 (aSb hB hL hw p1 (j := b + 2) (by omega)) ?_ ?_
    · intro c y h2
      simp [pArg, pA1, pA2, bE, h1, h2]
    intro v2 t2 h2' n2 h2 p2 U2
    have e : pArg B L S 2 t = .inr ((2, v1, v2, 0), t2) := by simp [pArg, pA1, pA2, bE, h1, h2]
    rw [e]
    exact ⟨h2', n2, _, rfl, p2, U2, fun i hi => by unfold upd; rw [if_neg (by omega), if_neg (by omega)], by simp [cmA, upd]⟩
  · subst z
    show agR B L f q cd st ec ep wr S sa h n fp b (f_X1_parseArguments cd q (3 : Int32) (iI b) h n) (pArg B L S 3 t)
    unfold f_X1_parseArguments f_X1_parseArguments_J10 f_X1_parseArguments_J15
    rw [if_neg (by decide), if_neg (by decide), if_neg (by decide), if_neg (by decide)]
    rw [e1]
    refine agR_st (gPas.rf p.1) (aSb hB hL hw p (j := b + 1) (by omega)) ?_ ?_
    · intro c y h1
      simp [pArg, pA1, pA2, bE, h1]
    intro v1 t1 h1' n1 h1 p1 U1
    unfold f_X1_parseArguments_J39
    rw [if_pos rfl, if_neg (by decide), e2, e3]
    refine agR_st U1 (aNu hB hL hw p1 (j := b + 2) (by omega)) ?_ ?_
    · intro c y h2
      simp [pArg, pA1, pA2, bE, h1, h2]
    intro v2 t2 h2' n2 h2 p2 U2
    refine agR_st U2 (aNu hB hL hw p2 (j := b + 3) (by omega)) ?_ ?_
    · intro c y h3
      simp [pArg, pA1, pA2, bE, h1, h2, h3]
    intro v3 t3 h3' n3 h3 p3 U3
    have e : pArg B L S 3 t = .inr ((3, v1, v2, v3), t3) := by simp [pArg, pA1, pA2, bE, h1, h2, h3]
    rw [e]
    exact ⟨h3', n3, _, rfl, p3, U3, fun i hi => by unfold upd; rw [if_neg (by omega), if_neg (by omega), if_neg (by omega)], by simp [cmA, upd]⟩
  · subst z
    show agR B L f q cd st ec ep wr S sa h n fp b (f_X1_parseArguments cd q (4 : Int32) (iI b) h n) (pArg B L S 4 t)
    unfold f_X1_parseArguments f_X1_parseArguments_J10 f_X1_parseArguments_J15
    rw [if_neg (by decide), if_pos rfl, if_neg (by decide), if_neg (by decide)]
    rw [e1]
    refine agR_st (gPas.rf p.1) (aSb hB hL hw p (j := b + 1) (by omega)) ?_ ?_
    · intro c y h1
      simp [pArg, pA1, pA2, bE, h1]
    intro v1 t1 h1' n1 h1 p1 U1
    unfold f_X1_parseArguments_J39
    rw [if_neg (by decide), e2]
    refine agR_st U1 (aSb hB hL hw p1 (j := b + 2) (by omega)) ?_ ?_
    · intro c y h2
      simp [pArg, pA1, pA2, bE, h1, h2]
    intro v2 t2 h2' n2 h2 p2 U2
    have e : pArg B L S 4 t = .inr ((4, v1, v2, 0), t2) := by simp [pArg, pA1, pA2, bE, h1, h2]
    rw [e]
    exact ⟨h2', n2, _, rfl, p2, U2, fun i hi => by unfold upd; rw [if_neg (by omega), if_neg (by omega)], by simp [cmA, upd]⟩
  · subst z
    show agR B L f q cd st ec ep wr S sa h n fp b (f_X1_parseArguments cd q (5 : Int32) (iI b) h n) (pArg B L S 5 t)
    unfold f_X1_parseArguments f_X1_parseArguments_J10 f_X1_parseArguments_J15
    rw [if_neg (by decide), if_neg (by decide), if_neg (by decide), if_pos rfl]
    unfold f_X1_parseArguments_J39
    rw [if_pos rfl, if_pos (by decide)]
    have e : pArg B L S 5 t = .inr ((5, 0, 0, 0), t) := by simp [pArg, pA1, pA2, bE]
    rw [e]
    exact ⟨h, n, _, rfl, p, (gPas.rf p.1), fun i hi => rfl, by simp [cmA, upd]⟩
  · subst z
    show agR B L f q cd st ec ep wr S sa h n fp b (f_X1_parseArguments cd q (6 : Int32) (iI b) h n) (pArg B L S 6 t)
    unfold f_X1_parseArguments f_X1_parseArguments_J10 f_X1_parseArguments_J15
    rw [if_neg (by decide), if_neg (by decide), if_neg (by decide), if_neg (by decide)]
    rw [e1]
    refine agR_st (gPas.rf p.1) (aSb hB hL hw p (j := b + 1) (by omega)) ?_ ?_
    · intro c y h1
      simp [pArg, pA1, pA2, bE, h1]
    intro v1 t1 h1' n1 h1 p1 U1
    unfold f_X1_parseArguments_J39
    rw [if_pos rfl, if_pos (by decide)]
    have e : pArg B L S 6 t = .inr ((6, v1, 0, 0), t1) := by simp [pArg, pA1, pA2, bE, h1]
    rw [e]
    exact ⟨h1', n1, _, rfl, p1, U1, fun i hi => by unfold upd; rw [if_neg (by omega)], by simp [cmA, upd]⟩
  · subst z
    show agR B L f q cd st ec ep wr S sa h n fp b (f_X1_parseArguments cd q (7 : Int32) (iI b) h n) (pArg B L S 7 t)
    unfold f_X1_parseArguments f_X1_parseArguments_J10 f_X1_parseArguments_J15
    rw [if_neg (by decide), if_neg (by decide), if_neg (by decide), if_neg (by decide)]
    rw [e1]
    refine agR_st (gPas.rf p.1) (aSb hB hL hw p (j := b + 1) (by omega)) ?_ ?_
    · intro c y h1
      simp [pArg, pA1, pA2, bE, h1]
    intro v1 t1 h1' n1 h1 p1 U1
    unfold f_X1_parseArguments_J39
    rw [if_pos rfl, if_pos (by decide)]
    have e : pArg B L S 7 t = .inr ((7, v1, 0, 0), t1) := by simp [pArg, pA1, pA2, bE, h1]
    rw [e]
    exact ⟨h1', n1, _, rfl, p1, U1, fun i hi => by unfold upd; rw [if_neg (by omega)], by simp [cmA, upd]⟩
end SC
