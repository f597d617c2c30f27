/-! SCRIPTS: the class's parser, whole -/
def nmF (x : gV) : Nat → Option Nat := va_up (va_up (va_up (va_up (va_up (va_up (va_up (va_up (fun _ => none) 0 (some (x.2.2.1 3))) 1 (some (x.2.2.1 4))) 2 (some (x.2.2.1 5))) 3 (some (x.2.2.1 6))) 4 (some (x.2.2.1 7))) 5 (some (x.2.2.1 8))) 6 (some (x.2.2.1 9))) 7 (some (x.2.2.1 10))
section SC3
variable {B : Nat → Int} {L : Nat} {f g : Nat → Int32} {x : gV} {h : gH} {n q cd st : Nat} {ec ep wr : Int32} {t : gTk} {S : gS} {sa : Nat → Nat} {fp : Nat → Int32}
theorem nmF_at {j : Nat} (hj : j < 8) : nmF x j = some (x.2.2.1 (3 + j)) := by
  have hk8 : j = 0 ∨ j = 1 ∨ j = 2 ∨ j = 3 ∨ j = 4 ∨ j = 5 ∨ j = 6 ∨ j = 7 := by omega
  rcases hk8 with z | z | z | z | z | z | z | z <;> subst z <;> rfl
theorem gNm {α : Type} {K : Nat → gH → Nat → Option α} : gT3 (g_nQ h n 8 8 (8 : Int32)) (fun q2 h3 n4 => Option.bind (g_sQ h3 q2 8 (0 : Int32) (some (x.2.2.1 3))) fun h5 => Option.bind (g_sQ h5 q2 8 (1 : Int32) (some (x.2.2.1 4))) fun h6 => Option.bind (g_sQ h6 q2 8 (2 : Int32) (some (x.2.2.1 5))) fun h7 => Option.bind (g_sQ h7 q2 8 (3 : Int32) (some (x.2.2.1 6))) fun h8 => Option.bind (g_sQ h8 q2 8 (4 : Int32) (some (x.2.2.1 7))) fun h9 => Option.bind (g_sQ h9 q2 8 (5 : Int32) (some (x.2.2.1 8))) fun h10 => Option.bind (g_sQ h10 q2 8 (6 : Int32) (some (x.2.2.1 9))) fun h11 => Option.bind (g_sQ h11 q2 8 (7 : Int32) (some (x.2.2.1 10))) fun h12 => K q2 h12 n4) = K n (g_up h n (.inl (8, 8, .inr (.inr (.inr (.inr (nmF x))))))) (n + 1) := by
  have e0 : g_nQ h n 8 8 (8 : Int32) = some (n, g_up h n (.inl (8, 8, .inr (.inr (.inr (.inr fun _ => none))))), n + 1) := nQ_at (z := 8) (by decide) (by decide) (by decide)
  rw [e0, gT3_s, show (0 : Int32) = iI 0 from rfl, sQ_at (a := 0) (j := 0) g_up_s rfl (by decide) (by decide), gB_s, show (1 : Int32) = iI 1 from rfl, sQ_at (a := 1) (j := 1) g_up_s rfl (by decide) (by decide), gB_s, show (2 : Int32) = iI 2 from rfl, sQ_at (a := 2) (j := 2) g_up_s rfl (by decide) (by decide), gB_s, show (3 : Int32) = iI 3 from rfl, sQ_at (a := 3) (j := 3) g_up_s rfl (by decide) (by decide), gB_s, show (4 : Int32) = iI 4 from rfl, sQ_at (a := 4) (j := 4) g_up_s rfl (by decide) (by decide), gB_s, show (5 : Int32) = iI 5 from rfl, sQ_at (a := 5) (j := 5) g_up_s rfl (by decide) (by decide), gB_s, show (6 : Int32) = iI 6 from rfl, sQ_at (a := 6) (j := 6) g_up_s rfl (by decide) (by decide), gB_s, show (7 : Int32) = iI 7 from rfl, sQ_at (a := 7) (j := 7) g_up_s rfl (by decide) (by decide), gB_s]
  simp only [g_up_up]
  rfl
theorem cIdx {Q : Nat} (w : scP B h q cd st ec ep wr f L t) (hd : ∀ i j, i < g_tN → j < g_tN → x.2.2.1 i = x.2.2.1 j → i = j) (hB : byR f g B L) (hL : L ≤ 600) (ht : tkG B L t) (hQ : h Q = some (.inl (8, 8, .inr (.inr (.inr (.inr (nmF x))))))) : f_X3_indexAmong x q Q h = some (iI (cmZ B t 8 0)) := by
  obtain ⟨fs, o⟩ := w.ob
  have key : ∀ d j fu : Nat, j + d = 8 → d < fu → gL1 (f_X3_indexAmong_L2 x q Q h) fu (iI j) = some (iI (cmZ B t d j)) := by
    intro d
    induction d with
    | zero =>
      intro j fu e hfu
      obtain ⟨fu, rfl⟩ : ∃ k', fu = k' + 1 := ⟨fu - 1, by omega⟩
      show f_X3_indexAmong_L2 x q Q h (gL1 (f_X3_indexAmong_L2 x q Q h) fu) _ = _
      unfold f_X3_indexAmong_L2
      rw [len_at hQ, gB_s, if_pos (by rw [iI_le (by omega) (by omega) (by omega) (by omega)]; omega)]
      rfl
    | succ d ih =>
      intro j fu e hfu
      obtain ⟨fu, rfl⟩ : ∃ k', fu = k' + 1 := ⟨fu - 1, by omega⟩
      obtain ⟨w1, w2⟩ := wL8 j (by omega)
      have ih := ih (j + 1) fu (by omega) (by omega)
      show f_X3_indexAmong_L2 x q Q h (gL1 (f_X3_indexAmong_L2 x q Q h) fu) _ = _
      generalize gL1 (f_X3_indexAmong_L2 x q Q h) fu = r at ih ⊢
      unfold f_X3_indexAmong_L2
      rw [Int.natCast_add, Int.natCast_one] at ih
      rw [len_at hQ, gB_s, if_neg (by rw [iI_le (by omega) (by omega) (by omega) (by omega)]; omega), aA_at (j := j) hQ rfl (by omega) (by decide) (nmF_at (by omega)), gB_s, o, gB_s, cIsWP w hd hB hL ht w2 w1, gB_s]
      simp only [cmZ]
      by_cases y : wdIs B t (3 + j) = true
      · rw [if_pos y, if_pos y, if_neg (by decide)]
      · rw [if_neg y, if_neg y, if_pos rfl, iI_1, iI_add]; exact ih
  exact key 8 0 gN rfl (by unfold gN; omega)
theorem pW.no {h' : gH} {n' : Nat} (p : pW B L f q cd st ec ep wr S sa h n t fp) (u : gPas h n h' n' noD) : pW B L f q cd st ec ep wr S sa h' n' t fp := by
  obtain ⟨p1, p2, p3, p4, p5⟩ := p
  exact ⟨u.2.1, p2.mono fun b e _ hb => u.c0 p1 hb, u.c0 p1 p3, u.st p1 p4, p5⟩
theorem pW.scan {h' : gH} {t' : gTk} (p : pW B L f q cd st ec ep wr S sa h n t fp) (hw : WF S) (w : scP B h' q cd st ec ep wr f L t') (e : ∀ b, b ≠ q → h' b = h b) (ht : tkG B L t') : pW B L f q cd st ec ep wr S sa h' n t' fp := by
  obtain ⟨p1, p2, p3, p4, p5⟩ := p
  have u := upP p1 (p2.lt p1) e
  have hq : cd + 10 ≠ q := fun z => by
    obtain ⟨-, v, e1, -⟩ := p2
    rw [z, e1] at p3; cases p3
  exact ⟨u.2.1, w, by rw [e _ hq]; exact p3, p4.kS hw (kS_p p2 p1 u), ht⟩
theorem pW.up {fp' : Nat → Int32} (p : pW B L f q cd st ec ep wr S sa h n t fp) (hw : WF S) : pW B L f q cd st ec ep wr S sa (g_up h (cd + 10) (.inl (0, 120, .inl fp'))) n t fp' ∧ gPas h n (g_up h (cd + 10) (.inl (0, 120, .inl fp'))) n (D3 q cd) := by
  obtain ⟨p1, p2, p3, p4, p5⟩ := p
  have hq : cd + 10 ≠ q := fun z => by
    obtain ⟨-, v, e1, -⟩ := p2
    rw [z, e1] at p3; cases p3
  have hlt := p1.lt p3
  have u : gPas h n (g_up h (cd + 10) (.inl (0, 120, .inl fp'))) n (D3 q cd) := gPas.up p1 hlt (.inr rfl)
  refine ⟨⟨u.2.1, p2.mono fun b e hb he => ?_, g_up_s, p4.kS hw (kS_up p3 (kS_no0 (by decide))), p5⟩, u⟩
  rw [g_up_n (by rcases hb with z | z | z <;> omega)]; exact he
theorem cScr (hd : ∀ i j, i < g_tN → j < g_tN → x.2.2.1 i = x.2.2.1 j → i = j) (hB : byR f g B L) (hL : L ≤ 600) (hw : WF S) : ∀ (d i : Nat) (h : gH) (n : Nat) (t : gTk) (P : Nat → gCm) (fp : Nat → Int32), i ≤ 30 → 31 ≤ d + i → pW B L f q cd st ec ep wr S sa h n t fp → (∀ j, j < i → cmR fp (4 * j) (P j)) → match pScr B L S d i t P with
    | .inl (c, p) => gTG (gL3 (f_X1_parseScript_L2 x cd q) d (iI i) h n) c p h n q cd
    | .inr (c, P') => ∃ h' n' fp' t', gL3 (f_X1_parseScript_L2 x cd q) d (iI i) h n = some (.inl (iI c), h', n') ∧ pW B L f q cd st ec ep wr S sa h' n' t' fp' ∧ gPas h n h' n' (D3 q cd) ∧ ∀ j, j < c → cmR fp' (4 * j) (P' j) := by
  intro d
  induction d with
  | zero => intro i h n t P fp h30 h31; omega
  | succ d ih =>
    intro i h n t P fp h30 h31 p hP
    obtain ⟨v, e1, -⟩ := p.2.1.2
    have cb := cmZ_b (B := B) (t := t) 8 0
    have ht := p.2.2.2.2
    have hk := ht.2.2.1
    simp only [pScr]
    by_cases k0 : t.k = 0
    · rw [if_pos k0]
      refine ⟨h, n, fp, t, ?_, p, gPas.rf p.1, hP⟩
      show f_X1_parseScript_L2 x cd q (gL3 (f_X1_parseScript_L2 x cd q) d) _ _ _ = _
      unfold f_X1_parseScript_L2
      rw [fI_at e1 rfl, gB_s, if_pos (by rw [k0]; rfl)]
    · rw [if_neg k0]
      have u2 := gPas.new (D := noD) (e := .inl (8, 8, .inr (.inr (.inr (.inr (nmF x)))))) p.1
      have U2 : gPas h n (g_up h n (.inl (8, 8, .inr (.inr (.inr (.inr (nmF x))))))) (n + 1) (D3 q cd) := u2.no
      have hQ : g_up h n (.inl (8, 8, .inr (.inr (.inr (.inr (nmF x)))))) n = some (.inl (8, 8, .inr (.inr (.inr (.inr (nmF x)))))) := g_up_s
      have p2 := p.no u2
      have head : ∀ r, f_X1_parseScript_L2 x cd q r (iI i) h n = (Option.bind (g_obj (g_up h n (.inl (8, 8, .inr (.inr (.inr (.inr (nmF x))))))) q 2) fun _ => (Option.bind (f_X3_indexAmong x q n (g_up h n (.inl (8, 8, .inr (.inr (.inr (.inr (nmF x)))))))) fun v15 => (if v15 = (-1 : Int32) then (gT3 (f_X3_error q (1 : Int32) (g_up h n (.inl (8, 8, .inr (.inr (.inr (.inr (nmF x))))))) (n + 1)) fun v41 h42 n43 => (Option.bind (g_xcl h42 v41) fun k44 => some (.inr (k44, v41), h42, n43))) else (if iI (i : Nat) = (30 : Int32) then (gT3 (f_X3_error q (4 : Int32) (g_up h n (.inl (8, 8, .inr (.inr (.inr (.inr (nmF x))))))) (n + 1)) fun v35 h36 n37 => (Option.bind (g_xcl h36 v35) fun k38 => some (.inr (k38, v35), h36, n37))) else (Option.bind (f_X3_advance q (g_up h n (.inl (8, 8, .inr (.inr (.inr (.inr (nmF x)))))))) fun h17 => (Option.bind (g_fA h17 cd 3 7) fun v18 => (Option.bind (g_sI h17 v18 0 ((4 : Int32) * iI i) v15) fun h19 => (Option.bind (g_obj h19 cd 3) fun _ => (gTX (f_X1_parseArguments cd q v15 ((4 : Int32) * iI i) h19 (n + 1)) (fun _ h23 n24 => (Option.bind (g_obj h23 q 2) fun _ => (gTX (f_X3_expectSemicolon q h23 n24) (fun _ h30 n31 => r (iI i + (1 : Int32)) h30 n31) fun q29 h32 n33 => some (.inr (q29.1, q29.2), h32, n33)))) fun q22 h25 n26 => some (.inr (q22.1, q22.2), h25, n26)))))))))) := fun r => by
        unfold f_X1_parseScript_L2
        rw [fI_at e1 rfl, gB_s, if_neg (by rw [show (0 : Int32) = iI 0 from rfl, iI_eq (by omega) (by omega) (by omega) (by omega)]; omega)]
        exact gNm
      generalize eh2 : g_up h n (.inl (8, 8, .inr (.inr (.inr (.inr (nmF x)))))) = h2 at head hQ p2 u2 U2
      obtain ⟨fs, o⟩ := p2.2.1.ob
      have hcmd := cIdx p2.2.1 hd hB hL ht hQ
      by_cases z : cmZ B t 8 0 = -1
      · rw [if_pos z]
        show gTG (f_X1_parseScript_L2 x cd q (gL3 (f_X1_parseScript_L2 x cd q) d) (iI i) h n) 1 t.s h n q cd
        rw [head, o, gB_s, hcmd, gB_s, if_pos (by rw [z]; rfl)]
        exact gTG.pre (gTE.G (cErr (c := 1) p2.2.1 p2.1) p2) U2
      · rw [if_neg z]
        have hz : ¬ iI (cmZ B t 8 0) = (-1 : Int32) := by rw [iI_n1, iI_eq (by omega) (by omega) (by omega) (by omega)]; exact z
        by_cases i30 : i = 30
        · rw [if_pos i30]
          show gTG (f_X1_parseScript_L2 x cd q (gL3 (f_X1_parseScript_L2 x cd q) d) (iI i) h n) 4 t.s h n q cd
          rw [head, o, gB_s, hcmd, gB_s, if_neg hz, if_pos (by rw [i30]; rfl)]
          exact gTG.pre (gTE.G (cErr (c := 4) p2.2.1 p2.1) p2) U2
        · rw [if_neg i30]
          obtain ⟨kk, hkk⟩ : ∃ kk : Nat, cmZ B t 8 0 = kk := ⟨(cmZ B t 8 0).toNat, by omega⟩
          have hk7 : kk ≤ 7 := by omega
          obtain ⟨h3, x1, x2, x3⟩ := cAdvP p2.2.1 hB hL ht
          have p3 := p2.scan hw x2 x3 (tkG_z ht.2.1)
          have u3 := upP p2.1 (p2.2.1.lt p2.1) x3
          have U3 : gPas h n h3 (n + 1) (D3 q cd) := U2.tr' (u3.mo fun b _ hb => .inl hb)
          obtain ⟨p4, u4⟩ := p3.up (fp' := upd fp (4 * i) (iI kk)) hw
          have U4 := U3.tr' u4
          have e4 : (4 : Int32) * iI (i : Int) = iI ((4 * i : Nat) : Int) := by rw [show (4 : Int32) = iI 4 from rfl, iI_mul]; congr 1
          have harg := cArg hB hL hw p4 (k := kk) (b := 4 * i) hk7 (by omega)
          have sw : g_sI h3 (cd + 10) 0 (iI (4 * i : Nat)) (iI kk) = some (g_up h3 (cd + 10) (.inl (0, 120, .inl (upd fp (4 * i) (iI kk))))) := sI_at (j := 4 * i) p3.2.2.1 rfl (by omega) (by decide)
          generalize eh4 : g_up h3 (cd + 10) (.inl (0, 120, .inl (upd fp (4 * i) (iI kk)))) = h4 at p4 u4 U4 harg sw
          obtain ⟨fs4, o4⟩ : ∃ fs, g_obj h4 cd 3 = some fs := ⟨_, g_obj_s p4.2.1.1.2.2.1⟩
          have head2 : ∀ r, f_X1_parseScript_L2 x cd q r (iI i) h n = (gTX (f_X1_parseArguments cd q (iI kk) (iI (4 * i : Nat)) h4 (n + 1)) (fun _ h23 n24 => (Option.bind (g_obj h23 q 2) fun _ => (gTX (f_X3_expectSemicolon q h23 n24) (fun _ h30 n31 => r (iI i + (1 : Int32)) h30 n31) fun q29 h32 n33 => some (.inr (q29.1, q29.2), h32, n33)))) fun q22 h25 n26 => some (.inr (q22.1, q22.2), h25, n26)) := fun r => by
            rw [head, o, gB_s, hcmd, gB_s, if_neg hz, if_neg (by rw [show (30 : Int32) = iI 30 from rfl, iI_eq (by omega) (by omega) (by omega) (by omega)]; omega), x1, gB_s, p3.cl, gB_s, e4, hkk, sw, gB_s, o4, gB_s]
          rw [show (cmZ B t 8 0).toNat = kk by omega]
          cases h1 : pArg B L S kk (tkZ B L t.e) with
          | inl er =>
            obtain ⟨c, y⟩ := er
            rw [h1] at harg
            show gTG (f_X1_parseScript_L2 x cd q (gL3 (f_X1_parseScript_L2 x cd q) d) (iI i) h n) c y h n q cd
            rw [head2]
            exact (gTG.X harg).pre U4
          | inr rr =>
            obtain ⟨cm, t2⟩ := rr
            rw [h1] at harg
            obtain ⟨h5, n5, fp5, y1, p5, u5, y4, y5⟩ := harg
            have U5 := U4.tr' u5
            obtain ⟨fs5, o5⟩ := p5.2.1.ob
            have hsem := cSem p5.2.1 p5.1 hB hL p5.2.2.2.2
            show match bE (pSem B L t2) (fun t4 => pScr B L S d (i + 1) t4 (fun j => if j = i then cm else P j)) with | .inl (c, p) => _ | .inr (c, P') => _
            cases h2 : pSem B L t2 with
            | inl er =>
              obtain ⟨c, y⟩ := er
              rw [h2] at hsem
              have hsem' : gTE (f_X3_expectSemicolon q h5 n5) c y h5 n5 q := hsem
              show gTG (f_X1_parseScript_L2 x cd q (gL3 (f_X1_parseScript_L2 x cd q) d) (iI i) h n) c y h n q cd
              rw [head2, y1, gTX_l, o5, gB_s]
              exact ((gTE.G hsem' p5).X).pre U5
            | inr t4 =>
              rw [h2] at hsem
              obtain ⟨h6, v1, w6, v3⟩ := hsem
              have et4 := pSem_ok h2
              have p6 := p5.scan hw w6 v3 (by rw [et4]; exact tkG_z p5.2.2.2.2.2.1)
              have u6 := upP p5.1 (p5.2.1.lt p5.1) v3
              have U6 : gPas h n h6 n5 (D3 q cd) := U5.tr' (u6.mo fun b _ hb => .inl hb)
              obtain ⟨-, -, hck⟩ := pArg_ok h1 (tkG_z (B := B) ht.2.1) hk7 hw.2.1.2
              have := ih (i + 1) h6 n5 t4 (fun j => if j = i then cm else P j) fp5 (by omega) (by omega) p6 (fun j hj => by
                by_cases y : j = i
                · subst y
                  show cmR fp5 (4 * j) (if j = j then cm else P j)
                  rw [if_pos rfl]
                  refine ⟨?_, y5⟩
                  rw [y4 _ (Nat.le_refl _), hck]; unfold upd; rw [if_pos rfl]
                · show cmR fp5 (4 * j) (if j = i then cm else P j)
                  rw [if_neg y]
                  have hj' := hP j (by omega)
                  have ot : ∀ u, u ≤ 3 → fp5 (4 * j + u) = fp (4 * j + u) := fun u hu => by
                    rw [y4 _ (by omega)]; unfold upd; rw [if_neg (by omega)]
                  obtain ⟨p1, p2, p3, p4⟩ := hj'
                  exact ⟨(ot 0 (by omega)).trans p1, fun u v => (ot 1 (by omega)).trans (p2 u v), fun u => (ot 2 (by omega)).trans (p3 u), fun u v => (ot 3 (by omega)).trans (p4 u v)⟩)
              have step : gL3 (f_X1_parseScript_L2 x cd q) (d + 1) (iI i) h n = gL3 (f_X1_parseScript_L2 x cd q) d (iI (i + 1 : Nat)) h6 n5 := by
                show f_X1_parseScript_L2 x cd q (gL3 (f_X1_parseScript_L2 x cd q) d) (iI i) h n = _
                rw [head2, y1, gTX_l, o5, gB_s, v1, gTX_l, iI_1, iI_add]
                rfl
              rw [step]
              show match pScr B L S d (i + 1) t4 (fun j => if j = i then cm else P j) with | .inl (c, p) => _ | .inr (c, P') => _
              cases h3 : pScr B L S d (i + 1) t4 (fun j => if j = i then cm else P j) with
              | inl er =>
                obtain ⟨c, y⟩ := er
                rw [h3] at this
                exact gTG.pre this U6
              | inr rr =>
                obtain ⟨c, P'⟩ := rr
                rw [h3] at this
                obtain ⟨h7, n7, fp7, t7, a1, a2, a3, a4⟩ := this
                exact ⟨h7, n7, fp7, t7, a1, a2, U6.tr' a3, a4⟩
end SC3
