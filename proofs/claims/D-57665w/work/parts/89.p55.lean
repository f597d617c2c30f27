/-! THE SETUP: the class's parser, 3 -/
def D2 (q z : Nat) : Nat → Prop := fun b => b = q ∨ z ≤ b
def gTF {α : Type} (r : Option ((α ⊕ gX) × gH × Nat)) (c p : Nat) (h : gH) (n : Nat) (D : Nat → Prop) : Prop := ∃ h' n' x, r = some (.inr (9, x), h', n') ∧ gPas h n h' n' D ∧ h' x = some (.inr (9, [.int (iI c), .int (iI p)]))
section CP3
variable {B : Nat → Int} {L : Nat} {f g : Nat → Int32} {x : gV} {q cd st : Nat} {ec ep wr : Int32} {h : gH} {n : Nat} {t : gTk}
theorem gTF.X {α β : Type} {e : Option ((α ⊕ gX) × gH × Nat)} {K : α → gH → Nat → Option ((β ⊕ gX) × gH × Nat)} {c p : Nat} {D : Nat → Prop} (w : gTF e c p h n D) : gTF (gTX e K fun q h n => some (.inr (q.1, q.2), h, n)) c p h n D := by
  obtain ⟨h', n', y, e1, u, e2⟩ := w
  rw [e1]
  exact ⟨h', n', y, rfl, u, e2⟩
theorem gTE.F {α : Type} {e : Option ((α ⊕ gX) × gH × Nat)} {c p z : Nat} (w : gTE e c p h n q) : gTF e c p h n (D2 q z) := by
  obtain ⟨h', n', y, e1, u, e2⟩ := w
  exact ⟨h', n', y, e1, u.mo fun b _ hb => .inl hb, e2⟩
theorem gTF.pre {α : Type} {e : Option ((α ⊕ gX) × gH × Nat)} {c p n0 : Nat} {h0 : gH} {D : Nat → Prop} (w : gTF e c p h n D) (u : gPas h0 n0 h n D) : gTF e c p h0 n0 D := by
  obtain ⟨h', n', y, e1, v, e2⟩ := w
  exact ⟨h', n', y, e1, u.tr' v, e2⟩
theorem scP.lt (w : scP B h q cd st ec ep wr f L t) (F : gFr h n) : q < n := by
  obtain ⟨-, v, e, -⟩ := w
  exact F.lt e
theorem kS_p {h' : gH} {n' : Nat} (w : scP B h q cd st ec ep wr f L t) (F : gFr h n) (u : gPas h n h' n' (oD q)) : ∀ b e, h b = some e → kSt e → h' b = some e := fun b y hb hk => by
  obtain ⟨-, v, e1, -⟩ := w
  exact u.ce F hb (fun z => by
    have z : b = q := z
    rw [z, e1] at hb; cases hb; exact kS_noO ⟨by decide, by decide, by decide⟩ hk)
theorem pSib_ok {S : gS} {t' : gTk} {S' : gS} (hp : pSib B L S t = .inr (t', S')) (hw : WFp S) (ht : tkG B L t) (hn : ∀ t2, pNam B L S (tkZ B L t.e) = .inr t2 → (1 ≤ (tkZ B L t.e).e - (tkZ B L t.e).s ∧ (tkZ B L t.e).e - (tkZ B L t.e).s ≤ 6) ∧ (∀ i, i < (tkZ B L t.e).e - (tkZ B L t.e).s → smB (B ((tkZ B L t.e).s + i))) ∧ t2 = tkZ B L (tkZ B L t.e).e) : tkG B L t' ∧ WFp S' ∧ S'.n = S.n + 1 ∧ S'.c = S.c := by
  have htz := tkG_z (B := B) ht.2.1
  unfold pSib at hp
  by_cases q6 : S.n = 6
  · rw [if_pos q6] at hp; cases hp
  rw [if_neg q6] at hp
  have hn6 := hw.2.1
  cases h1 : pNam B L S (tkZ B L t.e) with
  | inl e => rw [h1] at hp; cases hp
  | inr t2 =>
    obtain ⟨n1, n2, n3⟩ := hn t2 h1
    rw [h1] at hp
    have hg2 : tkG B L t2 := by rw [n3]; exact tkG_z htz.2.1
    cases h2 : pVal B L S.c 0 t2 fun _ => 0 with
    | inl e =>
      have hp : bE (pVal B L S.c 0 t2 fun _ => 0) _ = _ := hp
      rw [h2] at hp; cases hp
    | inr r =>
      have hp : bE (pVal B L S.c 0 t2 fun _ => 0) _ = _ := hp
      rw [h2] at hp
      have hb := pVal_b S.c 0 t2 (fun _ => 0) r.1 r.2 h2 (fun i hi => by omega) hg2
      cases h3 : pSem B L r.1 with
      | inl e =>
        have hp : bE (pSem B L r.1) _ = _ := hp
        rw [h3] at hp; cases hp
      | inr t4 =>
        have hp : bE (pSem B L r.1) _ = _ := hp
        rw [h3] at hp
        cases hp
        have e4 : t' = tkZ B L r.1.e := by
          unfold pSem at h3
          split at h3
          · cases h3; rfl
          · cases h3
        exact ⟨by rw [e4]; exact tkG_z hb.1.2.1, addS_wf hw (by omega) (fun k hk => hb.2 k (by omega)) n1 n2, rfl, rfl⟩
-- a new sibling of a name and values
theorem cSibN {z nm va c : Nat} {V : Nat → Int32} {vv : Nat → Int} {nn : List Int} (F : gFr h (z + 1)) (hz : h z = some (.inr (1, [.null, .null]))) (hv : h va = some (.inl (0, c, .inl V))) (hV : ∀ k, k < c → V k = iI (vv k)) (hn : ∃ g : Nat → Int32, h nm = some (.inl (1, nn.length, .inl g)) ∧ ∀ i, i < nn.length → g i = iI (nn.getD i 0)) (hc : c ≤ 24) : ∃ h', f_X5_init z nm va h (z + 1) = some (h', z + 2) ∧ SibAt h' z c vv nn ∧ gFr h' (z + 2) ∧ ∀ b, b < z → h' b = h b := by
  obtain ⟨f8, w3, w3'⟩ := hn
  have l2 := F.lt hv
  have l3 := F.lt w3
  have l1 : va ≠ z := fun q => by rw [q, hz] at hv; cases hv
  have l4 : nm ≠ z := fun q => by rw [q, hz] at w3; cases w3
  unfold f_X5_init
  rw [pf_at hz (by show _ < 2; decide), gB_s]
  generalize e1 : g_up h z (.inr (1, [Value.null, Value.null].set 0 (.ref nm))) = h1
  have q0 : h1 z = some (.inr (1, [.ref nm, .null])) := by rw [← e1, g_up_s]; rfl
  have q1 : h1 va = some (.inl (0, c, .inl V)) := by rw [← e1, g_up_n l1]; exact hv
  rw [len_at q1, gB_s, nI_at (by omega) (by show ((c : Nat) : Int) ≤ _; omega) (by decide), gT3_s]
  show ∃ h', Option.bind (g_pf (g_up h1 (z + 1) (.inl (0, c, .inl fun _ => 0))) z 1 1 (.ref (z + 1))) _ = _ ∧ _
  generalize e2 : g_up h1 (z + 1) (.inl (0, c, .inl fun _ => 0)) = h2
  have r0 : h2 z = some (.inr (1, [.ref nm, .null])) := by rw [← e2, g_up_n (by omega)]; exact q0
  rw [pf_at r0 (by show _ < 2; decide), gB_s]
  generalize e3 : g_up h2 z (.inr (1, [Value.ref nm, Value.null].set 1 (.ref (z + 1)))) = h3
  have s0 : h3 z = some (.inr (1, [.ref nm, .ref (z + 1)])) := by rw [← e3, g_up_s]; rfl
  have s1 : h3 va = some (.inl (0, c, .inl V)) := by rw [← e3, g_up_n l1, ← e2, g_up_n (by omega)]; exact q1
  have s2 : h3 (z + 1) = some (.inl (0, c, .inl fun _ => 0)) := by rw [← e3, g_up_n (by omega), ← e2, g_up_s]
  have hcp := cpy_at (c := c) s1 s2 (Nat.le_refl _) (Nat.le_refl _) (by omega)
  have hl : g_len h3 va 0 = some (iI c) := len_at s1
  rw [fA_at s0 rfl, gB_s, hl, gB_s, hcp, gB_s]
  generalize e4 : g_up h3 (z + 1) (.inl (0, c, .inl (va_cpy V (fun _ => 0) 0 0 c))) = h4
  have t0 : h4 z = some (.inr (1, [.ref nm, .ref (z + 1)])) := by rw [← e4, g_up_n (by omega)]; exact s0
  have t2 : h4 (z + 1) = some (.inl (0, c, .inl (va_cpy V (fun _ => 0) 0 0 c))) := by rw [← e4, g_up_s]
  have hot : ∀ b, b ≠ z → b ≠ z + 1 → h4 b = h b := fun b b1 b2 => by
    rw [← e4, g_up_n b2, ← e3, g_up_n b1, ← e2, g_up_n b2, ← e1, g_up_n b1]
  refine ⟨_, rfl, ⟨nm, t0, ⟨_, t2, fun j hj => ?_⟩, f8, ?_, w3'⟩, fun b hb => ?_, fun b hb => ?_⟩
  · show (if 0 ≤ j ∧ j < 0 + c then V (0 + (j - 0)) else 0) = iI (vv j)
    rw [if_pos (by omega), ← hV j hj]
    congr 1; omega
  · rw [hot _ l4 (by omega)]; exact w3
  · rw [hot _ (by omega) (by omega)]; exact F b (by omega)
  · rw [hot _ (by omega) (by omega)]
theorem cSib (hd : ∀ i j, i < g_tN → j < g_tN → x.2.2.1 i = x.2.2.1 j → i = j) (hB : byR f g B L) (hL : L ≤ 600) (ht : tkG B L t) (w : scP B h q cd st ec ep wr f L t) (F : gFr h n) {z : Nat} {S : gS} {sa : Nat → Nat} (hS : StAt h z S sa) (hw : WFp S) (hwd : wdIs B t 2 = true) (r : gH → Nat → Option ((Nat ⊕ gX) × gH × Nat)) : match pSib B L S t with
    | .inl (c, p) => gTF (f_X1_parseSetup_L25 x q z r h n) c p h n (D2 q z)
    | .inr (t', S') => ∃ h' n' sa', f_X1_parseSetup_L25 x q z r h n = (if iI (t'.k : Nat) = (0 : Int32) then some (.inl z, h', n') else r h' n') ∧ scP B h' q cd st ec ep wr f L t' ∧ StAt h' z S' sa' ∧ gPas h n h' n' (D2 q z) ∧ tkG B L t' ∧ WFp S' ∧ S'.n = S.n + 1 := by
  obtain ⟨fs, o⟩ := w.ob
  obtain ⟨fz, oz⟩ := a_obj hS
  have hn6 := hw.2.1
  have hzn := F.lt hS.1
  have hqn := w.lt F
  have hi2 := cIsWP w hd hB hL ht (i := 2) (by decide) (by decide)
  rw [if_pos hwd] at hi2
  unfold f_X1_parseSetup_L25
  rw [o, gB_s, hi2, gB_s, if_neg (by decide), oz, gB_s, a_size hS, gB_s]
  by_cases q6 : S.n = 6
  · have e : pSib B L S t = .inl (4, t.s) := by unfold pSib; rw [if_pos q6]
    rw [e]
    show gTF _ 4 t.s h n (D2 q z)
    rw [if_pos (by rw [q6]; rfl)]
    exact (cErr (c := 4) w F).F
  rw [if_neg (by rw [iI_6, iI_eq (by omega) (by omega) (by omega) (by omega)]; omega)]
  unfold f_X1_parseSetup_J49
  obtain ⟨h1, x1, w1, x3⟩ := (cWord w F hd hB hL ht (i := 2) (by decide) (by decide)).1 hwd
  have u1 := upP F hqn x3
  have hS1 := hS.kP hw (kS_p w F u1)
  obtain ⟨fs1, o1⟩ := w1.ob
  rw [o, gB_s, x1, gTX_l, o1, gB_s]
  have htz := tkG_z (B := B) ht.2.1
  have hnam := cNam w1 u1.2.1 hB hL htz hS1 hw
  have U1 : gPas h n h1 n (D2 q z) := u1.mo fun b _ hb => .inl hb
  have sp : pSib B L S t = bE (pNam B L S (tkZ B L t.e)) fun t2 => bE (pVal B L S.c 0 t2 fun _ => 0) fun r => bE (pSem B L r.1) fun t4 => .inr (t4, addS S r.2 (nmL B (tkZ B L t.e).s ((tkZ B L t.e).e - (tkZ B L t.e).s))) := by
    unfold pSib; rw [if_neg q6]
  cases hp1 : pNam B L S (tkZ B L t.e) with
  | inl er =>
    obtain ⟨ec', p⟩ := er
    rw [hp1] at hnam sp
    rw [show pSib B L S t = .inl (ec', p) from sp]
    have hnam' : gTE (f_X3_expectNewName q z h1 n) ec' p h1 n q := hnam
    exact (hnam'.F.X).pre U1
  | inr t2 =>
    rw [hp1] at hnam sp
    obtain ⟨h2, F', y1, w2, u2, y4, y5, y6, y7, y8⟩ := hnam
    have hS2 := hS1.kP hw (kS_p w1 u1.2.1 u2)
    obtain ⟨fz2, oz2⟩ := a_obj hS2
    have U2 : gPas h n h2 (n + 1) (D2 q z) := U1.tr' (u2.mo fun b _ hb => .inl hb)
    rw [y1, gTX_l, oz2, gB_s, a_cells hS2, gB_s, nI_at (by omega) (by show ((S.c : Nat) : Int) ≤ _; have := hw.1.2; omega) (by decide), gT3_s, Int.toNat_natCast]
    have u3 := gPas.new (D := noD) (e := .inl (0, S.c, .inl fun _ => 0)) u2.2.1
    generalize eh3 : g_up h2 (n + 1) (.inl (0, S.c, .inl fun _ => 0)) = h3 at u3 ⊢
    have hv3 : h3 (n + 1) = some (.inl (0, S.c, .inl fun _ => 0)) := by rw [← eh3, g_up_s]
    have w3 : scP B h3 q cd st ec ep wr f L t2 := w2.mono fun b e _ hb => u3.c0 u2.2.1 hb
    have hS3 := u3.st u2.2.1 hS2
    have U3 : gPas h n h3 (n + 2) (D2 q z) := U2.tr' u3.no
    have hg2 : tkG B L t2 := by rw [y8]; exact tkG_z htz.2.1
    have lcd : cd < n ∧ cd + 1 < n := by
      obtain ⟨⟨-, -, a3, a4⟩, -⟩ := w
      exact ⟨F.lt a3, F.lt a4⟩
    have hval := cVal (x := x) (r25 := r) (z := z) (nm := n) (va := n + 1) (c := S.c) hB hL hw.1.2 S.c 0 25 h3 (n + 2) t2 (fun _ => 0) (fun _ => 0) (by omega) (by have := hw.1.2; omega) U3.2.1 w3 hg2 hv3 (by omega) (by omega) (by omega) (fun i hi => by omega)
    have sp : pSib B L S t = bE (pVal B L S.c 0 t2 fun _ => 0) fun r => bE (pSem B L r.1) fun t4 => .inr (t4, addS S r.2 (nmL B (tkZ B L t.e).s ((tkZ B L t.e).e - (tkZ B L t.e).s))) := sp
    have pas : ∀ h', (∀ b, b ≠ q → b ≠ n + 1 → h' b = h3 b) → gFr h' (n + 2) → gPas h n h' (n + 2) (D2 q z) := fun h' e Fr => U3.tr' ⟨Nat.le_refl _, Fr, fun b hb hD => e b (fun y => hD (.inl y)) (fun y => hD (.inr (by omega)))⟩
    cases hp2 : pVal B L S.c 0 t2 fun _ => 0 with
    | inl er =>
      obtain ⟨ec', p⟩ := er
      rw [hp2] at hval sp
      obtain ⟨h4, z1, z2, z3⟩ := hval
      rw [show pSib B L S t = .inl (ec', p) from sp]
      exact z2.F.pre (pas h4 z1 z3)
    | inr rr =>
      obtain ⟨t3, fv⟩ := rr
      rw [hp2] at hval sp
      obtain ⟨h4, V', z1, w4, z3, z4, z5⟩ := hval
      have F4 : gFr h4 (n + 2) := fun b hb => by rw [z5 b (by omega) (by omega)]; exact U3.2.1 b hb
      have U4 := pas h4 z5 F4
      obtain ⟨hg3, hvb⟩ := pVal_b S.c 0 t2 (fun _ => 0) t3 fv hp2 (fun i hi => by omega) hg2
      have z1' : gL3 (f_X1_parseSetup_L72 x r q z n (n + 1)) 25 (0 : Int32) h3 (n + 2) = f_X1_parseSetup_J98 x r q z n (n + 1) h4 (n + 2) := z1
      have sp : pSib B L S t = bE (pSem B L t3) fun t4 => .inr (t4, addS S fv (nmL B (tkZ B L t.e).s ((tkZ B L t.e).e - (tkZ B L t.e).s))) := sp
      have hS4 : StAt h4 z S sa := by
        have hS5 : StAt h3 z S sa := hS3
        have hv3' := u3.2.2
        refine StAt.kP (h := h2) hS2 hw fun b e hb hk => ?_
        have hb2 : b < n + 1 := u2.2.1.lt hb
        have hbq : b ≠ q := fun y => by
          obtain ⟨-, v, e1, -⟩ := w2
          rw [y, e1] at hb; cases hb; exact kS_noO ⟨by decide, by decide, by decide⟩ hk
        rw [z5 b hbq (by omega)]
        exact u3.c0 u2.2.1 hb
      have hsem := cSem w4 F4 hB hL hg3
      obtain ⟨fs4, o4⟩ := w4.ob
      rw [z1']
      unfold f_X1_parseSetup_J98
      rw [o4, gB_s]
      cases hp3 : pSem B L t3 with
      | inl er =>
        obtain ⟨ec', p⟩ := er
        rw [hp3] at hsem sp
        have hsem' : gTE (f_X3_expectSemicolon q h4 (n + 2)) ec' p h4 (n + 2) q := hsem
        rw [show pSib B L S t = .inl (ec', p) from sp]
        exact (hsem'.F.X).pre U4
      | inr t4 =>
        have hok := fun e => pSib_ok (S := S) (t := t) (t' := t4) (S' := addS S fv (nmL B (tkZ B L t.e).s ((tkZ B L t.e).e - (tkZ B L t.e).s))) e hw ht (fun t2' e2 => by
          rw [hp1] at e2; cases e2; exact ⟨y6, y7, y8⟩)
        rw [hp3] at hsem sp
        have sp : pSib B L S t = .inr (t4, addS S fv (nmL B (tkZ B L t.e).s ((tkZ B L t.e).e - (tkZ B L t.e).s))) := sp
        have hok := hok sp
        rw [sp]
        obtain ⟨h5, v1, w5, v3⟩ := hsem
        have u5 := upP F4 (by omega) v3
        have U5 : gPas h n h5 (n + 2) (D2 q z) := U4.tr' (u5.mo fun b _ hb => .inl hb)
        have hS5 := hS4.kP hw (kS_p w4 F4 u5)
        rw [v1, gTX_l, a_al hS5, gB_s, show g_new h5 (n + 2) (.inr (1, [.null, .null])) = some (n + 2, g_up h5 (n + 2) (.inr (1, [.null, .null])), n + 3) from rfl, gT3_s]
        have u6 := gPas.new (D := noD) (e := .inr (1, [.null, .null])) u5.2.1
        generalize eh6 : g_up h5 (n + 2) (.inr (1, [.null, .null])) = h6 at u6 ⊢
        have hz6 : h6 (n + 2) = some (.inr (1, [.null, .null])) := by rw [← eh6, g_up_s]
        have hv6 : h6 (n + 1) = some (.inl (0, S.c, .inl V')) := u6.c0 u5.2.1 (by rw [v3 _ (by omega)]; exact z3)
        have hn6' : h6 n = some (.inl (1, (tkZ B L t.e).e - (tkZ B L t.e).s, .inl F')) := u6.c0 u5.2.1 (by rw [v3 _ (by omega), z5 _ (by omega) (by omega)]; exact u3.c0 u2.2.1 y4)
        obtain ⟨h7, s1, s2, s3, s4⟩ := cSibN (z := n + 2) (nn := nmL B (tkZ B L t.e).s ((tkZ B L t.e).e - (tkZ B L t.e).s)) u6.2.1 hz6 hv6 z4 ⟨F', by rw [nmL_l]; exact hn6', fun i hi => by
          rw [nmL_l] at hi
          rw [y5 i hi, nmL_g hi]⟩ hw.1.2
        have u7 : gPas h5 (n + 2) h7 (n + 2 + 2) noD := ⟨by omega, s3, fun b hb _ => by rw [s4 b hb]; exact u6.2.2 b hb fun y => y⟩
        have U7 : gPas h n h7 (n + 2 + 2) (D2 q z) := U5.tr' u7.no
        have hS7 := u7.st u5.2.1 hS5
        have w7 : scP B h7 q cd st ec ep wr f L t4 := w5.mono fun b e _ hb => u7.c0 u5.2.1 hb
        obtain ⟨fa7, oa7⟩ := a_alo hS7
        rw [show f_X5_init (n + 2) n (n + 1) h6 (n + 3) = some (h7, n + 2 + 2) from s1, gT2_s, oa7, gB_s]
        have hS8 : StAt h7 z (S.c, S.n, S.ow, (fun s => if s = S.n then fv else S.v s), fun s => if s = S.n then nmL B (tkZ B L t.e).s ((tkZ B L t.e).e - (tkZ B L t.e).s) else S.nm s) (fun s => if s = S.n then n + 2 else sa s) := by
          obtain ⟨c1, c2, ⟨f3, c3, c3'⟩, c4, c5, c6⟩ := hS7
          refine ⟨c1, c2, ⟨f3, c3, fun s hs => ?_⟩, c4, c5, fun s hs => ?_⟩
          · have hs : s < S.n := hs
            show f3 s = some (if s = S.n then n + 2 else sa s)
            rw [if_neg (by omega)]; exact c3' s hs
          · have hs : s < S.n := hs
            show SibAt h7 (if s = S.n then n + 2 else sa s) S.c (if s = S.n then fv else S.v s) (if s = S.n then nmL B (tkZ B L t.e).s ((tkZ B L t.e).e - (tkZ B L t.e).s) else S.nm s)
            rw [if_neg (by omega), if_neg (by omega), if_neg (by omega)]; exact c6 s hs
        obtain ⟨h8, b1, b2, b3⟩ := cAdd hS8 (by omega) (by
          show SibAt h7 (if S.n = S.n then n + 2 else sa S.n) S.c (if S.n = S.n then fv else S.v S.n) (if S.n = S.n then nmL B (tkZ B L t.e).s ((tkZ B L t.e).e - (tkZ B L t.e).s) else S.nm S.n)
          rw [if_pos rfl, if_pos rfl, if_pos rfl]; exact s2)
        have b1' : f_J2_add (z + 1) (n + 2) h7 = some (1, h8) := by
          have : (if S.n = S.n then n + 2 else sa S.n) = n + 2 := if_pos rfl
          rw [← b1]
          show f_J2_add (z + 1) (n + 2) h7 = f_J2_add (z + 1) (if S.n = S.n then n + 2 else sa S.n) h7
          rw [this]
        obtain ⟨-, ⟨mc, k1⟩, ⟨f3, k2, -⟩, -⟩ := hS7
        have w8 : scP B h8 q cd st ec ep wr f L t4 := w7.mono fun b e hb he => by
          rw [b3 b (fun y => ?_) (fun y => ?_)]
          · exact he
          · obtain ⟨⟨-, -, a3, a4⟩, v, e1, -⟩ := w7
            rcases hb with y2 | y2 | y2
            · rw [← y2, y, k1] at e1; cases e1
            · rw [← y2, y, k1] at a3; cases a3
            · rw [← y2, y, k1] at a4; cases a4
          · obtain ⟨⟨-, -, a3, a4⟩, v, e1, -⟩ := w7
            rcases hb with y2 | y2 | y2
            · rw [← y2, y, k2] at e1; cases e1
            · rw [← y2, y, k2] at a3; cases a3
            · rw [← y2, y, k2] at a4; cases a4
        have l1 := s3.lt k1
        have l2 := s3.lt k2
        have U8 : gPas h n h8 (n + 2 + 2) (D2 q z) := U7.tr' ⟨Nat.le_refl _, fun b hb => by rw [b3 b (by omega) (by omega)]; exact s3 b hb, fun b hb hD => b3 b (fun y => hD (.inr (by omega))) (fun y => hD (.inr (by omega)))⟩
        have hk8 : g_fI h8 q 2 0 = some (iI (t4.k : Nat)) := by
          obtain ⟨-, v, e1, -⟩ := w8
          exact fI_at e1 rfl
        refine ⟨h8, n + 2 + 2, _, ?_, w8, b2, U8, hok.1, hok.2.1, hok.2.2.1⟩
        rw [b1', gT2_s, hk8, gB_s]
end CP3
