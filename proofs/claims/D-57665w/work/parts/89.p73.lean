/-! THE CONSTRUCTORS: the class -/
def B0 (i : Nat) : Int := (wB 0 i).toInt
theorem b0_ok : ∀ i, i < 91 → (0 ≤ B0 i ∧ B0 i < 128) ∧ wB 0 i = iI (B0 i) ∧ vp_nar .byte (wB 0 i).toInt8.toInt32 = iI (B0 i) := by decide +kernel
theorem s0_ok : (match pSet B0 91 with | .inr _ => true | .inl _ => false) = true := by decide +kernel
theorem s0_ex : ∃ S, pSet B0 91 = .inr S := by
  have h := s0_ok
  cases e : pSet B0 91 with
  | inl y => rw [e] at h; cases h
  | inr S => exact ⟨S, rfl⟩
theorem w0_len : wL 0 = 91 := by decide
def fb0 (i : Nat) : Nat → Int32 := fun j => if j < i then iI (B0 j) else 0
theorem fb0_up {i : Nat} : upd (fb0 i) i (iI (B0 i)) = fb0 (i + 1) := by
  funext j
  unfold upd fb0
  by_cases z : j = i
  · subst z; rw [if_pos rfl, if_pos (by omega)]
  · rw [if_neg z]
    by_cases y : j < i
    · rw [if_pos y, if_pos (by omega)]
    · rw [if_neg y, if_neg (by omega)]
theorem fb0_by : byR (fb0 91) (fb0 91) B0 91 := fun i hi => by
  have h := (b0_ok i hi).1
  have e : fb0 91 i = iI (B0 i) := if_pos hi
  refine ⟨by omega, e, ?_⟩
  rw [e]; unfold sgB; rw [if_pos h.2]
section CT
variable {x : gV} {cd st n : Nat} {hb : gH}
theorem ctL (hd : ∀ i j, i < g_tN → j < g_tN → x.2.2.1 i = x.2.2.1 j → i = j) : ∀ (d i fu : Nat), i + d = 91 → d < fu → gL2 (f_X1_init_2_L68 x cd (x.2.2.1 0) n) fu (iI i) (apH hb cd st 0 (-1) 0 i (fb0 i)) = f_X1_init_2_J104 x cd (apH hb cd st 0 (-1) 0 91 (fb0 91)) n := by
  have hl := wL_ok (x := x) hd (i := 0) (by decide)
  rw [w0_len] at hl
  intro d
  induction d with
  | zero =>
    intro i fu hi hfu
    obtain ⟨fu, rfl⟩ : ∃ k', fu = k' + 1 := ⟨fu - 1, by omega⟩
    have : i = 91 := by omega
    subst this
    show f_X1_init_2_L68 x cd (x.2.2.1 0) n (gL2 (f_X1_init_2_L68 x cd (x.2.2.1 0) n) fu) _ _ = _
    generalize gL2 (f_X1_init_2_L68 x cd (x.2.2.1 0) n) fu = r
    unfold f_X1_init_2_L68
    rw [hl, gB_s, if_pos (Int32.le_refl _)]
  | succ d ih =>
    intro i fu hi hfu
    obtain ⟨fu, rfl⟩ : ∃ k', fu = k' + 1 := ⟨fu - 1, by omega⟩
    have ih := ih (i + 1) fu (by omega) (by omega)
    obtain ⟨b1, b2, b3⟩ := b0_ok i (by omega)
    show f_X1_init_2_L68 x cd (x.2.2.1 0) n (gL2 (f_X1_init_2_L68 x cd (x.2.2.1 0) n) fu) _ _ = _
    generalize gL2 (f_X1_init_2_L68 x cd (x.2.2.1 0) n) fu = r at ih ⊢
    unfold f_X1_init_2_L68
    have e1 : g_up (apH hb cd st 0 (-1) 0 i (fb0 i)) cd (.inr (3, [Value.ref (cd + 1), Value.int (iI i), Value.int 0, Value.int (-1), Value.ref st, Value.ref (cd + 7), Value.ref (cd + 9), Value.ref (cd + 10), Value.ref (cd + 11), Value.int 0].set 1 (.int (iI i + (1 : Int32))))) = g_up (apH hb cd st 0 (-1) 0 i (fb0 i)) cd (clO cd st (iI (i + 1 : Nat)) 0 (-1) 0) := by
      rw [iI_1, iI_add, Int.natCast_add]; rfl
    have e3 : g_up (apH hb cd st 0 (-1) 0 i (fb0 i)) cd (clO cd st (iI (i + 1 : Nat)) 0 (-1) 0) (cd + 1) = some (.inl (1, 600, .inl (fb0 i))) := by
      rw [g_up_n (by omega)]; exact apH_1
    have e5 := wB_ok (x := x) hd (i := 0) (j := i) (by decide) (by rw [w0_len]; omega) (by rw [w0_len]; omega)
    have e6 := apH_up (h := hb) (cd := cd) (st := st) (ec := 0) (ep := -1) (wr := 0) (L := i) (L' := i + 1) (f := fb0 i) (f' := fb0 (i + 1))
    rw [hl, gB_s, if_neg (by rw [iI_le (by omega) (by omega) (by omega) (by omega)]; omega), fA_at apH_0 rfl, gB_s, fI_at apH_0 rfl, gB_s, pf_at apH_0 (by show _ < 10; decide), gB_s, e1, e5, gB_s, b3, sI_at (j := i) e3 rfl (by omega) (by decide), gB_s, fb0_up, e6, iI_1, iI_add]
    exact ih
theorem mSet_wf {S' : gS} (hd : ∀ i j, i < g_tN → j < g_tN → x.2.2.1 i = x.2.2.1 j → i = j) (hS : pSet B0 91 = .inr S') : WF S' := by
  obtain ⟨iV', t1, t2⟩ := mTk (iY := 0) (iF := 0) (iV := 0) fb0_by (by omega) (Nat.zero_le 91)
  have := mSet (x := x) (m := fun _ => 0) (iE := 0) (iP := -1) hd fb0_by (by omega) (iA := iI (tkZ B0 91 0).e) (iY := iI (kM B0 (tkZ B0 91 0))) (iF := iI (tkZ B0 91 0).s) (iV := iV') ⟨rfl, rfl, rfl, t2⟩
  rw [hS] at this
  obtain ⟨m', a1, a2, a3, a4, y1, y2, y3⟩ := this
  exact y2
theorem cCtor (hd : ∀ i j, i < g_tN → j < g_tN → x.2.2.1 i = x.2.2.1 j → i = j) (F : gFr hb n) : ∃ h' n' S' sa', f_X1_init x n (g_up hb n (.inr (3, [.null, .int 0, .int 0, .int 0, .null, .null, .null, .null, .null, .int 0]))) (n + 1) = some (h', n') ∧ n + 12 ≤ n' ∧ gFr h' n' ∧ pSet B0 91 = .inr S' ∧ StAt h' (n + 13) S' sa' ∧ h' n = some (clO n (n + 13) 0 0 (-1) 0) ∧ (∃ f : Nat → Int32, h' (n + 1) = some (.inl (1, 600, .inl f))) ∧ DqAt h' (n + 7) 0 0 (fun _ => 0) ∧ h' (n + 9) = some (.inl (4, 2, .inr (.inr (.inr (.inr fun _ => none))))) ∧ h' (n + 10) = some (.inl (0, 120, .inl fun _ => 0)) ∧ h' (n + 11) = some (.inl (1, 240, .inl fun _ => 0)) := by
  obtain ⟨S', hS'⟩ := s0_ex
  generalize ez : g_up hb n (.inr (3, [.null, .int 0, .int 0, .int 0, .null, .null, .null, .null, .null, .int 0])) = hz
  generalize e1 : g_up hz (n + 1) (.inl (1, 600, .inl fun _ => 0)) = h1
  have q1 : h1 n = some (.inr (3, [.null, .int 0, .int 0, .int 0, .null, .null, .null, .null, .null, .int 0])) := by rw [← e1, g_up_n (by omega), ← ez, g_up_s]
  generalize e2 : g_up h1 n (.inr (3, [.ref (n + 1), .int 0, .int 0, .int 0, .null, .null, .null, .null, .null, .int 0])) = h2
  have q2 : h2 n = some (.inr (3, [.ref (n + 1), .int 0, .int 0, .int 0, .null, .null, .null, .null, .null, .int 0])) := by rw [← e2, g_up_s]
  generalize e3 : g_up h2 n (.inr (3, [.ref (n + 1), .int 0, .int 0, .int (-1), .null, .null, .null, .null, .null, .int 0])) = h3
  generalize e4 : g_up h3 (n + 2) (.inr (0, [.null, .null, .null])) = h4
  have hzz : h4 (n + 2) = some (.inr (0, [.null, .null, .null])) := by rw [← e4, g_up_s]
  have F4 : gFr h4 (n + 2 + 1) := fun b hb => by rw [← e4, g_up_n (by omega), ← e3, g_up_n (by omega), ← e2, g_up_n (by omega), ← e1, g_up_n (by omega), ← ez, g_up_n (by omega)]; exact F b (by omega)
  obtain ⟨h5, z1, z2, z3⟩ := cInit F4 hzz (c := 1) (by omega) (fun _ _ => 0) (fun _ => []) (fun _ => 0)
  have zop : ∀ b, b < n + 2 + 1 → b ≠ n + 2 → h5 b = h4 b := fun b b1 b2 => z3.2.2 b b1 b2
  have z1' : f_X2_init (n + 2) (1 : Int32) h4 (n + 3) = some (h5, n + 7) := z1
  have q3 : h5 n = some (.inr (3, [.ref (n + 1), .int 0, .int 0, .int (-1), .null, .null, .null, .null, .null, .int 0])) := by rw [zop _ (by omega) (by omega), ← e4, g_up_n (by omega), ← e3, g_up_s]
  generalize e6 : g_up h5 n (.inr (3, [.ref (n + 1), .int 0, .int 0, .int (-1), .ref (n + 2), .null, .null, .null, .null, .int 0])) = h6
  generalize e7 : g_up h6 (n + 7) (.inr (8, [.null, .int 0, .int 0])) = h7
  generalize e8 : g_up h7 (n + 8) (.inl (3, 17, .inr (.inr (.inr (.inr fun _ => none))))) = h8
  have qd : h8 (n + 7) = some (.inr (8, [.null, .int 0, .int 0])) := by rw [← e8, g_up_n (by omega), ← e7, g_up_s]
  generalize e9 : g_up h8 (n + 7) (.inr (8, [.ref (n + 8), .int 0, .int 0])) = h9
  have q4 : h9 n = some (.inr (3, [.ref (n + 1), .int 0, .int 0, .int (-1), .ref (n + 2), .null, .null, .null, .null, .int 0])) := by rw [← e9, g_up_n (by omega), ← e8, g_up_n (by omega), ← e7, g_up_n (by omega), ← e6, g_up_s]
  generalize e10 : g_up h9 n (.inr (3, [.ref (n + 1), .int 0, .int 0, .int (-1), .ref (n + 2), .ref (n + 7), .null, .null, .null, .int 0])) = h10
  generalize e11 : g_up h10 (n + 9) (.inl (4, 2, .inr (.inr (.inr (.inr fun _ => none))))) = h11
  have q5 : h11 n = some (.inr (3, [.ref (n + 1), .int 0, .int 0, .int (-1), .ref (n + 2), .ref (n + 7), .null, .null, .null, .int 0])) := by rw [← e11, g_up_n (by omega), ← e10, g_up_s]
  generalize e12 : g_up h11 n (.inr (3, [.ref (n + 1), .int 0, .int 0, .int (-1), .ref (n + 2), .ref (n + 7), .ref (n + 9), .null, .null, .int 0])) = h12
  generalize e13 : g_up h12 (n + 10) (.inl (0, 120, .inl fun _ => 0)) = h13
  have q6 : h13 n = some (.inr (3, [.ref (n + 1), .int 0, .int 0, .int (-1), .ref (n + 2), .ref (n + 7), .ref (n + 9), .null, .null, .int 0])) := by rw [← e13, g_up_n (by omega), ← e12, g_up_s]
  generalize e14 : g_up h13 n (.inr (3, [.ref (n + 1), .int 0, .int 0, .int (-1), .ref (n + 2), .ref (n + 7), .ref (n + 9), .ref (n + 10), .null, .int 0])) = h14
  generalize e15 : g_up h14 (n + 11) (.inl (1, 240, .inl fun _ => 0)) = h15
  have q7 : h15 n = some (.inr (3, [.ref (n + 1), .int 0, .int 0, .int (-1), .ref (n + 2), .ref (n + 7), .ref (n + 9), .ref (n + 10), .null, .int 0])) := by rw [← e15, g_up_n (by omega), ← e14, g_up_s]
  generalize e16 : g_up h15 n (.inr (3, [.ref (n + 1), .int 0, .int 0, .int (-1), .ref (n + 2), .ref (n + 7), .ref (n + 9), .ref (n + 10), .ref (n + 11), .int 0])) = h16
  have Ff : gFr h16 (n + 12) := fun b hb => by rw [← e16, g_up_n (by omega), ← e15, g_up_n (by omega), ← e14, g_up_n (by omega), ← e13, g_up_n (by omega), ← e12, g_up_n (by omega), ← e11, g_up_n (by omega), ← e10, g_up_n (by omega), ← e9, g_up_n (by omega), ← e8, g_up_n (by omega), ← e7, g_up_n (by omega), ← e6, g_up_n (by omega)]; exact z3.2.1 b (by omega)
  have r0 : h16 n = some (clO n (n + 2) 0 0 (-1) 0) := by rw [← e16, g_up_s]; rfl
  have r1 : h16 (n + 1) = some (.inl (1, 600, .inl fun _ => 0)) := by rw [← e16, g_up_n (by omega), ← e15, g_up_n (by omega), ← e14, g_up_n (by omega), ← e13, g_up_n (by omega), ← e12, g_up_n (by omega), ← e11, g_up_n (by omega), ← e10, g_up_n (by omega), ← e9, g_up_n (by omega), ← e8, g_up_n (by omega), ← e7, g_up_n (by omega), ← e6, g_up_n (by omega), zop _ (by omega) (by omega), ← e4, g_up_n (by omega), ← e3, g_up_n (by omega), ← e2, g_up_n (by omega), ← e1, g_up_s]
  have r7 : h16 (n + 7) = some (.inr (8, [.ref (n + 8), .int 0, .int 0])) := by rw [← e16, g_up_n (by omega), ← e15, g_up_n (by omega), ← e14, g_up_n (by omega), ← e13, g_up_n (by omega), ← e12, g_up_n (by omega), ← e11, g_up_n (by omega), ← e10, g_up_n (by omega), ← e9, g_up_s]
  have r8 : h16 (n + 8) = some (.inl (3, 17, .inr (.inr (.inr (.inr fun _ => none))))) := by rw [← e16, g_up_n (by omega), ← e15, g_up_n (by omega), ← e14, g_up_n (by omega), ← e13, g_up_n (by omega), ← e12, g_up_n (by omega), ← e11, g_up_n (by omega), ← e10, g_up_n (by omega), ← e9, g_up_n (by omega), ← e8, g_up_s]
  have r9 : h16 (n + 9) = some (.inl (4, 2, .inr (.inr (.inr (.inr fun _ => none))))) := by rw [← e16, g_up_n (by omega), ← e15, g_up_n (by omega), ← e14, g_up_n (by omega), ← e13, g_up_n (by omega), ← e12, g_up_n (by omega), ← e11, g_up_s]
  have r10 : h16 (n + 10) = some (.inl (0, 120, .inl fun _ => 0)) := by rw [← e16, g_up_n (by omega), ← e15, g_up_n (by omega), ← e14, g_up_n (by omega), ← e13, g_up_s]
  have r11 : h16 (n + 11) = some (.inl (1, 240, .inl fun _ => 0)) := by rw [← e16, g_up_n (by omega), ← e15, g_up_s]
  have eJ : ∀ y, f_J0_init (n + 7) y = some () := fun y => rfl
  -- the text
  have fc0 : fb0 0 = fun _ => 0 := by funext j; unfold fb0; rw [if_neg (Nat.not_lt_zero j)]
  have ea : apH h16 n (n + 2) 0 (-1) 0 0 (fb0 0) = h16 := by
    unfold apH
    rw [fc0, show iI ((0 : Nat) : Int) = 0 from rfl, g_up_id (h := h16) r0, g_up_id r1]
  have hloop := ctL (cd := n) (st := n + 2) (n := n + 12) (hb := h16) hd 91 0 gN (by omega) (by unfold gN; omega)
  rw [ea] at hloop
  have hloop' : gL2 (f_X1_init_2_L68 x n (x.2.2.1 0) (n + 12)) gN (0 : Int32) h16 = f_X1_init_2_J104 x n (apH h16 n (n + 2) 0 (-1) 0 91 (fb0 91)) (n + 12) := hloop
  have hot : ∀ b, b ≠ n → b ≠ n + 1 → apH h16 n (n + 2) 0 (-1) 0 91 (fb0 91) b = h16 b := fun b b1 b2 => apH_n b1 b2
  have ha0 : apH h16 n (n + 2) 0 (-1) 0 91 (fb0 91) n = some (clO n (n + 2) (iI (91 : Nat)) 0 (-1) 0) := apH_0
  have ha1 : apH h16 n (n + 2) 0 (-1) 0 91 (fb0 91) (n + 1) = some (.inl (1, 600, .inl (fb0 91))) := apH_1
  generalize eA : apH h16 n (n + 2) 0 (-1) 0 91 (fb0 91) = hA at hloop' hot ha0 ha1
  have FA : gFr hA (n + 12) := fun b hb => by rw [hot b (by omega) (by omega)]; exact Ff b hb
  obtain ⟨g5, eg5, s5, u5⟩ := cNewSc FA ha0 ha1 fb0_by (by omega)
  have hset := cSetup (z0 := n) hd fb0_by (by omega) s5 u5.2.1
  rw [hS'] at hset
  obtain ⟨g6, n6, sa6, eg6, t6, u6⟩ := hset
  have U6 : gPas hA (n + 12) g6 n6 noD := u5.tr u6 fun b hb hD => by
    have hD : b = n + 12 := hD
    omega
  have k6 := U6.c0 FA ha0
  obtain ⟨fs5, o5⟩ : ∃ fs, g_obj g5 n 3 = some fs := ⟨_, g_obj_s (u5.c0 FA ha0)⟩
  generalize ey : g_up g6 n (clO n (n + 13) (iI (91 : Nat)) 0 (-1) 0) = hy
  have ky : hy n = some (clO n (n + 13) (iI (91 : Nat)) 0 (-1) 0) := by rw [← ey, g_up_s]
  generalize ew : g_up hy n (clO n (n + 13) 0 0 (-1) 0) = hw
  have same : ∀ b, b ≠ n → hw b = g6 b := fun b b1 => by rw [← ew, g_up_n b1, ← ey, g_up_n b1]
  have old : ∀ b e, h16 b = some e → b ≠ n → b ≠ n + 1 → hw b = some e := fun b e he b1 b2 => by
    rw [same b b1]
    exact U6.c0 FA (by rw [hot b b1 b2]; exact he)
  have hn6 := U6.1
  refine ⟨hw, n6, S', sa6, ?_, hn6, fun b hb => ?_, hS', ?_, by rw [← ew, g_up_s], ⟨fb0 91, ?_⟩, ⟨by omega, by omega, ?_, fun _ => none, ?_, fun j hj => absurd hj (Nat.not_lt_zero j)⟩, ?_, ?_, ?_⟩
  · unfold f_X1_init f_X1_init_2 f_J17_init
    rw [show g_nI hz (n + 1) 1 600 (600 : Int32) = some ((n + 1), h1, n + 2) from by rw [← e1]; exact nI_at (z := 600) (by decide) (by decide) (by decide), gT3_s, show g_pf h1 n 3 0 (.ref (n + 1)) = some h2 from by rw [pf_at q1 (by show _ < 10; decide), ← e2]; rfl, gB_s, show g_pf h2 n 3 3 (.int (-1)) = some h3 from by rw [pf_at q2 (by show _ < 10; decide), ← e3]; rfl, gB_s, show g_new h3 (n + 2) (.inr (0, [.null, .null, .null])) = some ((n + 2), h4, n + 3) from by rw [← e4]; rfl, gT3_s, z1', gT2_s, show g_pf h5 n 3 4 (.ref (n + 2)) = some h6 from by rw [pf_at q3 (by show _ < 10; decide), ← e6]; rfl, gB_s, show g_new h6 (n + 7) (.inr (8, [.null, .int 0, .int 0])) = some ((n + 7), h7, n + 8) from by rw [← e7]; rfl, gT3_s, eJ, gB_s, show g_nQ h7 (n + 8) 3 17 (17 : Int32) = some ((n + 8), h8, n + 9) from by rw [← e8]; exact nQ_at (z := 17) (by decide) (by decide) (by decide), gT3_s, show g_pf h8 (n + 7) 8 0 (.ref (n + 8)) = some h9 from by rw [pf_at qd (by show _ < 3; decide), ← e9]; rfl, gB_s, gT2_s, show g_pf h9 n 3 5 (.ref (n + 7)) = some h10 from by rw [pf_at q4 (by show _ < 10; decide), ← e10]; rfl, gB_s, show g_nQ h10 (n + 9) 4 2 (2 : Int32) = some ((n + 9), h11, n + 10) from by rw [← e11]; exact nQ_at (z := 2) (by decide) (by decide) (by decide), gT3_s, show g_pf h11 n 3 6 (.ref (n + 9)) = some h12 from by rw [pf_at q5 (by show _ < 10; decide), ← e12]; rfl, gB_s, show g_nI h12 (n + 10) 0 120 (120 : Int32) = some ((n + 10), h13, n + 11) from by rw [← e13]; exact nI_at (z := 120) (by decide) (by decide) (by decide), gT3_s, show g_pf h13 n 3 7 (.ref (n + 10)) = some h14 from by rw [pf_at q6 (by show _ < 10; decide), ← e14]; rfl, gB_s, show g_nI h14 (n + 11) 1 240 (240 : Int32) = some ((n + 11), h15, n + 12) from by rw [← e15]; exact nI_at (z := 240) (by decide) (by decide) (by decide), gT3_s, show g_pf h15 n 3 8 (.ref (n + 11)) = some h16 from by rw [pf_at q7 (by show _ < 10; decide), ← e16]; rfl, gB_s, hloop']
    unfold f_X1_init_2_J104
    rw [show g_new hA (n + 12) (.inr (2, [.int 0, .int 0, .int 0, .int 0, .null])) = some (n + 12, g_up hA (n + 12) (.inr (2, [.int 0, .int 0, .int 0, .int 0, .null])), n + 12 + 1) from rfl, gT3_s, eg5, gB_s, o5, gB_s, eg6, gTX_l, show g_pf g6 n 3 4 (.ref (n + 12 + 1)) = some hy from by rw [pf_at k6 (by show _ < 10; decide), ← ey]; rfl, gB_s, show g_pf hy n 3 1 (.int (0 : Int32)) = some hw from by rw [pf_at ky (by show _ < 10; decide), ← ew]; rfl, gB_s, gTX_l]
  · rw [same b (by omega)]; exact U6.2.1 b hb
  · refine t6.kS (mSet_wf hd hS') fun b e hb he => ?_
    rw [same b (fun z => by rw [z, k6] at hb; cases hb; exact kS_noO ⟨by decide, by decide, by decide⟩ he)]
    exact hb
  · rw [same _ (by omega)]; exact U6.c0 FA ha1
  · exact old _ _ r7 (by omega) (by omega)
  · exact old _ _ r8 (by omega) (by omega)
  · exact old _ _ r9 (by omega) (by omega)
  · exact old _ _ r10 (by omega) (by omega)
  · exact old _ _ r11 (by omega) (by omega)
end CT
