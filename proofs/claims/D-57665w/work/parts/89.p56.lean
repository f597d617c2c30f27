/-! THE SETUP: the class's parser, whole -/
section CP4
variable {B : Nat → Int} {L : Nat} {f g : Nat → Int32} {x : gV} {q cd st : Nat} {ec ep wr : Int32}
theorem cSibs (hd : ∀ i j, i < g_tN → j < g_tN → x.2.2.1 i = x.2.2.1 j → i = j) (hB : byR f g B L) (hL : L ≤ 600) {z : Nat} : ∀ (d : Nat) (h : gH) (n : Nat) (t : gTk) (S : gS) (sa : Nat → Nat), 7 ≤ d + S.n → tkG B L t → scP B h q cd st ec ep wr f L t → gFr h n → StAt h z S sa → WFp S → match pSibs B L d t S with
    | .inl (c, p) => gTF (gL2 (f_X1_parseSetup_L25 x q z) d h n) c p h n (D2 q z)
    | .inr S' => ∃ h' n' sa', gL2 (f_X1_parseSetup_L25 x q z) d h n = some (.inl z, h', n') ∧ StAt h' z S' sa' ∧ gPas h n h' n' (D2 q z) := by
  intro d
  induction d with
  | zero =>
    intro h n t S sa h7 ht w F hS hw
    have := hw.2.1
    omega
  | succ d ih =>
    intro h n t S sa h7 ht w F hS hw
    have hsib := fun y => cSib hd hB hL ht w F hS hw y (gL2 (f_X1_parseSetup_L25 x q z) d)
    simp only [pSibs]
    by_cases hwd : wdIs B t 2 = true
    · rw [if_pos hwd]
      have hsib := hsib hwd
      show match bE (pSib B L S t) _ with | .inl (c, p) => gTF (f_X1_parseSetup_L25 x q z (gL2 (f_X1_parseSetup_L25 x q z) d) h n) c p h n (D2 q z) | .inr S' => ∃ h' n' sa', f_X1_parseSetup_L25 x q z (gL2 (f_X1_parseSetup_L25 x q z) d) h n = some (.inl z, h', n') ∧ StAt h' z S' sa' ∧ gPas h n h' n' (D2 q z)
      cases hp : pSib B L S t with
      | inl er =>
        obtain ⟨c, p⟩ := er
        rw [hp] at hsib
        exact hsib
      | inr rr =>
        obtain ⟨t', S1⟩ := rr
        rw [hp] at hsib
        obtain ⟨h1, n1, sa1, e1, w1, hS1, u1, g1, hw1, k1⟩ := hsib
        rw [e1]
        have hk4 := g1.2.2.1
        show match (if t'.k = 0 then .inr S1 else pSibs B L d t' S1 : gEr gS) with | .inl (c, p) => _ | .inr S' => _
        by_cases k0 : t'.k = 0
        · rw [if_pos k0]
          refine ⟨h1, n1, sa1, ?_, hS1, u1⟩
          rw [if_pos (by rw [k0]; rfl)]
        · rw [if_neg k0, if_neg (by rw [show (0 : Int32) = iI 0 from rfl, iI_eq (by omega) (by omega) (by omega) (by omega)]; omega)]
          have := ih h1 n1 t' S1 sa1 (by omega) g1 w1 u1.2.1 hS1 hw1
          cases hq : pSibs B L d t' S1 with
          | inl er =>
            obtain ⟨c, p⟩ := er
            rw [hq] at this
            exact this.pre u1
          | inr S2 =>
            rw [hq] at this
            obtain ⟨h2, n2, sa2, e2, hS2, u2⟩ := this
            exact ⟨h2, n2, sa2, e2, hS2, u1.tr' u2⟩
    · rw [if_neg hwd]
      have hwf : wdIs B t 2 = false := by revert hwd; cases wdIs B t 2 <;> simp
      obtain ⟨fs, o⟩ := w.ob
      have hi2 := cIsWP w hd hB hL ht (i := 2) (by decide) (by decide)
      rw [if_neg hwd] at hi2
      show gTF (f_X1_parseSetup_L25 x q z (gL2 (f_X1_parseSetup_L25 x q z) d) h n) 1 t.s h n (D2 q z)
      unfold f_X1_parseSetup_L25 f_X1_parseSetup_J49
      rw [o, gB_s, hi2, gB_s, if_pos rfl, gB_s]
      exact (((cWord w F hd hB hL ht (i := 2) (by decide) (by decide)).2 hwf).F).X
theorem cSetup {h : gH} {n : Nat} {z0 : Nat} (hd : ∀ i j, i < g_tN → j < g_tN → x.2.2.1 i = x.2.2.1 j → i = j) (hB : byR f g B L) (hL : L ≤ 600) (w : scP B h q cd st ec ep wr f L (tkZ B L 0)) (F : gFr h n) : match pSet B L with
    | .inl (c, p) => gTE (f_X1_parseSetup x z0 q h n) c p h n q
    | .inr S' => ∃ h' n' sa', f_X1_parseSetup x z0 q h n = some (.inl n, h', n') ∧ StAt h' n S' sa' ∧ gPas h n h' n' (oD q) := by
  obtain ⟨fs, o⟩ := w.ob
  have hqn := w.lt F
  have ht := tkG_z (B := B) (Nat.zero_le L)
  have back : ∀ (r : Option ((Nat ⊕ gX) × gH × Nat)) c p, gTF r c p h n (D2 q n) → gTE r c p h n q := fun r c p ⟨h', n', y, e1, u, e2⟩ => ⟨h', n', y, e1, u.mo fun b hb hD => hD.elim id fun y => by omega, e2⟩
  have lcd : cd < n ∧ cd + 1 < n := by
    obtain ⟨⟨-, -, a3, a4⟩, -⟩ := w
    exact ⟨F.lt a3, F.lt a4⟩
  have hwo := cWord w F hd hB hL ht (i := 1) (by decide) (by decide)
  unfold f_X1_parseSetup
  rw [o, gB_s]
  by_cases hwd : wdIs B (tkZ B L 0) 1 = true
  · have sp : pSet B L = bE (pNum B L (tkZ B L (tkZ B L 0).e) 1 24) fun r => bE (pSem B L r.2) fun t3 => pSibs B L 8 t3 (r.1.toNat, 0, (fun _ => -1), (fun _ _ => 0), fun _ => []) := by unfold pSet; rw [if_pos hwd]
    obtain ⟨h1, x1, w1, x3⟩ := hwo.1 hwd
    have u1 := upP F hqn x3
    have htz := tkG_z (B := B) ht.2.1
    rw [x1, gTX_l, show g_new h1 n (.inr (0, [.null, .null, .null])) = some (n, g_up h1 n (.inr (0, [.null, .null, .null])), n + 1) from rfl, gT3_s]
    have u2 := gPas.new (D := noD) (e := .inr (0, [.null, .null, .null])) u1.2.1
    generalize eh2 : g_up h1 n (.inr (0, [.null, .null, .null])) = h2 at u2 ⊢
    have hz2 : h2 n = some (.inr (0, [.null, .null, .null])) := by rw [← eh2, g_up_s]
    have w2 := w1.mono fun b e _ hb => u2.c0 u1.2.1 hb
    obtain ⟨fs2, o2⟩ := w2.ob
    have U2 : gPas h n h2 (n + 1) (oD q) := u1.tr' u2.no
    have hnum := cNum w2 u2.2.1 hB hL htz (lo := 1) (hi := 24) (by omega) (by omega)
    rw [o2, gB_s]
    cases hp1 : pNum B L (tkZ B L (tkZ B L 0).e) 1 24 with
    | inl er =>
      obtain ⟨ec', p⟩ := er
      rw [hp1] at hnum sp
      have hnum' : gTE (f_X3_expectNumber q (1 : Int32) (24 : Int32) h2 (n + 1)) ec' p h2 (n + 1) q := hnum
      rw [show pSet B L = .inl (ec', p) from sp]
      exact (hnum'.X).pre U2
    | inr rr =>
      obtain ⟨v, t2⟩ := rr
      rw [hp1] at hnum sp
      obtain ⟨b1, b2, b3, b4, b5⟩ := pNum_ok hp1
      obtain ⟨h3, y1, w3, y3⟩ := hnum
      have y1' : f_X3_expectNumber q (1 : Int32) (24 : Int32) h2 (n + 1) = some (.inl (iI v), h3, n + 1) := y1
      have u3 := upP u2.2.1 (by omega) y3
      have U3 : gPas h n h3 (n + 1) (oD q) := U2.tr' u3
      have hz3 : h3 n = some (.inr (0, [.null, .null, .null])) := by rw [y3 n (by omega)]; exact hz2
      obtain ⟨cN, hcN⟩ : ∃ cN : Nat, v = cN := ⟨v.toNat, by omega⟩
      obtain ⟨h4, z1, z2, z3⟩ := cInit u3.2.1 hz3 (c := cN) (by omega) (fun _ _ => 0) (fun _ => []) (fun _ => 0)
      have z1' : f_X2_init n (iI v) h3 (n + 1) = some (h4, n + 5) := by rw [hcN]; exact z1
      have w4 : scP B h4 q cd st ec ep wr f L t2 := w3.mono fun b e hb he => z3.ce u3.2.1 he (by rcases hb with y | y | y <;> rw [y] <;> intro z <;> omega)
      have U4 : gPas h n h4 (n + 5) (oD q) := U3.tr z3 fun b hb hD => by omega
      have ht2 : tkG B L t2 := by rw [b5]; exact tkG_z htz.2.1
      have hsem := cSem w4 z3.2.1 hB hL ht2
      obtain ⟨fs4, o4⟩ := w4.ob
      have sp : pSet B L = bE (pSem B L t2) fun t3 => pSibs B L 8 t3 (v.toNat, 0, (fun _ => -1), (fun _ _ => 0), fun _ => []) := sp
      rw [y1', gTX_l, z1', gT2_s, o4, gB_s]
      cases hp2 : pSem B L t2 with
      | inl er =>
        obtain ⟨ec', p⟩ := er
        rw [hp2] at hsem sp
        have hsem' : gTE (f_X3_expectSemicolon q h4 (n + 5)) ec' p h4 (n + 5) q := hsem
        rw [show pSet B L = .inl (ec', p) from sp]
        exact (hsem'.X).pre U4
      | inr t3 =>
        rw [hp2] at hsem sp
        have sp : pSet B L = pSibs B L 8 t3 (v.toNat, 0, (fun _ => -1), (fun _ _ => 0), fun _ => []) := sp
        rw [show v.toNat = cN by omega] at sp
        have et3 : t3 = tkZ B L t2.e := by
          unfold pSem at hp2
          split at hp2
          · cases hp2; rfl
          · cases hp2
        obtain ⟨h5, v1, w5, v3⟩ := hsem
        have u5 := upP z3.2.1 (by omega) v3
        have hw0 : WFp (cN, 0, (fun _ => -1), (fun _ _ => 0), fun _ => []) := ⟨⟨by show 1 ≤ cN; omega, by show cN ≤ 24; omega⟩, by show 0 ≤ 6; omega, fun k _ => rfl, fun s hs => absurd hs (Nat.not_lt_zero s), fun s hs => absurd hs (Nat.not_lt_zero s)⟩
        have hS5 := z2.kP hw0 (kS_p w4 z3.2.1 u5)
        have U5 : gPas h n h5 (n + 5) (oD q) := U4.tr' u5
        have := cSibs hd hB hL (z := n) 8 h5 (n + 5) t3 (cN, 0, (fun _ => -1), (fun _ _ => 0), fun _ => []) (fun _ => 0) (by show 7 ≤ 8 + 0; omega) (by rw [et3]; exact tkG_z ht2.2.1) w5 u5.2.1 hS5 hw0
        rw [v1, gTX_l, sp]
        cases hs : pSibs B L 8 t3 (cN, 0, (fun _ => -1), (fun _ _ => 0), fun _ => []) with
        | inl er =>
          obtain ⟨c, p⟩ := er
          rw [hs] at this
          exact back _ _ _ (gTF.pre this (U5.mo fun b _ hb => .inl hb))
        | inr S' =>
          rw [hs] at this
          obtain ⟨h6, n6, sa6, e6, hS6, u6⟩ := this
          exact ⟨h6, n6, sa6, e6, hS6, U5.tr u6 fun b hb hD => hD.elim id fun y => by omega⟩
  · have hwf : wdIs B (tkZ B L 0) 1 = false := by revert hwd; cases wdIs B (tkZ B L 0) 1 <;> simp
    have sp : pSet B L = .inl (1, (tkZ B L 0).s) := by unfold pSet; rw [if_neg hwd]
    rw [sp]
    exact (hwo.2 hwf).X
end CP4
