/-! ENVY CYCLES: the class, 2 -/
section EK2
variable {S : gS} {g q da st : Nat} {sa : Nat → Nat} {hb : gH} {h : gH}
theorem cSuc (hE : EcAt h q st g da S) (hS : StAt h st S sa) (hw : WF S) {a : Nat} (ha : a < S.n) : f_X7_successor q (iI a) h = some (iI (scZ S g a S.n)) := by
  obtain ⟨hq, f, hda, hf⟩ := hE
  have hn := hw.2.1
  exact suc_loop hq hda hf hS hw ha S.n 0 gN (by omega) (by unfold gN; omega)
theorem cLen (hE : EcAt h q st g da S) : g_fI h q 5 3 = some (iI (lenE S g)) := fI_at hE.1 rfl
theorem cMem (hE : EcAt h q st g da S) (hS : StAt h st S sa) (hw : WF S) (hg : g < S.n) {p : Nat} (hp : (p : Int) < lenE S g) : f_X7_member q (iI p) h = some (iI (mbE S g p)) := by
  have hl := lenE_b hg
  have hn := hw.2.1
  have key : ∀ d i fu : Nat, i + d = p → d < fu → gL2 (f_X7_member_L7 q (iI p) h) fu (iI (mbE S g i)) (iI i) = some (iI (mbE S g p)) := by
    intro d
    induction d with
    | zero =>
      intro i fu e hfu
      obtain ⟨fu, rfl⟩ : ∃ k', fu = k' + 1 := ⟨fu - 1, by omega⟩
      have e1 : i = p := by omega
      subst e1
      show f_X7_member_L7 q (iI i) h (gL2 (f_X7_member_L7 q (iI i) h) fu) _ _ = _
      unfold f_X7_member_L7
      rw [if_pos (Int32.le_refl _)]
    | succ d ih =>
      intro i fu e hfu
      obtain ⟨fu, rfl⟩ : ∃ k', fu = k' + 1 := ⟨fu - 1, by omega⟩
      have ih := ih (i + 1) fu (by omega) (by omega)
      obtain ⟨m1, -⟩ := mbE_ok hg i (by omega)
      obtain ⟨-, m2⟩ := mbE_ok hg (i + 1) (by omega)
      obtain ⟨-, -, m3, -⟩ := m2.resolve_left (by omega)
      rw [Nat.add_sub_cancel] at m3
      show f_X7_member_L7 q (iI p) h (gL2 (f_X7_member_L7 q (iI p) h) fu) _ _ = _
      generalize gL2 (f_X7_member_L7 q (iI p) h) fu = r at ih ⊢
      unfold f_X7_member_L7
      rw [Int.natCast_add, Int.natCast_one] at ih
      rw [if_neg (by rw [iI_le (by omega) (by omega) (by omega) (by omega)]; omega), g_obj_s hE.1, gB_s, cSuc hE hS hw m1, gB_s, m3, iI_1, iI_add]
      exact ih
  unfold f_X7_member
  rw [fI_at hE.1 rfl, gB_s]
  exact key p 0 gN (by omega) (by unfold gN; omega)
theorem fill_loop (hq0 : g < 6) : ∀ (d i fu : Nat) (f : Nat → Int32), i + d = 6 → d < fu → (∀ k, k < i → f k = iI (Dd S g 0 k)) → ∃ f', gL2 (f_X7_init_2_L22 q st (iI g) da) fu (iI i) (ecH hb da f) = f_X7_init_2_J50 q st (iI g) da (ecH hb da f') ∧ ∀ k, k < 6 → f' k = iI (Dd S g 0 k) := by
  intro d
  induction d with
  | zero =>
    intro i fu f e hfu hf
    obtain ⟨fu, rfl⟩ : ∃ k', fu = k' + 1 := ⟨fu - 1, by omega⟩
    refine ⟨f, ?_, fun k hk => hf k (by omega)⟩
    show f_X7_init_2_L22 q st (iI g) da (gL2 (f_X7_init_2_L22 q st (iI g) da) fu) _ _ = _
    unfold f_X7_init_2_L22
    rw [iI_6, if_pos (by rw [iI_le (by omega) (by omega) (by omega) (by omega)]; omega)]
  | succ d ih =>
    intro i fu f e hfu hf
    obtain ⟨fu, rfl⟩ : ∃ k', fu = k' + 1 := ⟨fu - 1, by omega⟩
    have hda : ecH hb da f da = some (.inl (0, 6, .inl f)) := g_up_s
    have go : ∀ x : Int32, x = iI (Dd S g 0 i) → ∃ f', gL2 (f_X7_init_2_L22 q st (iI g) da) fu (iI i + (1 : Int32)) (ecH hb da (upd f i x)) = f_X7_init_2_J50 q st (iI g) da (ecH hb da f') ∧ ∀ k, k < 6 → f' k = iI (Dd S g 0 k) := fun x hx => by
      rw [iI_1, iI_add]
      refine ih (i + 1) fu _ (by omega) (by omega) fun k hk => ?_
      unfold upd
      by_cases z : k = i
      · subst z; rw [if_pos rfl]; exact hx
      · rw [if_neg z]; exact hf k (by omega)
    show ∃ f', f_X7_init_2_L22 q st (iI g) da (gL2 (f_X7_init_2_L22 q st (iI g) da) fu) _ _ = _ ∧ _
    generalize gL2 (f_X7_init_2_L22 q st (iI g) da) fu = r at go ⊢
    unfold f_X7_init_2_L22
    rw [iI_6, if_neg (by rw [iI_le (by omega) (by omega) (by omega) (by omega)]; omega)]
    by_cases z : i = g
    · rw [if_pos (by rw [z]), sI_at (j := i) hda rfl (by omega) (by decide), gB_s, ecH_up]
      exact go _ (by simp only [Dd]; rw [if_pos z]; rfl)
    · rw [if_neg (by rw [iI_eq (by omega) (by omega) (by omega) (by omega)]; omega), sI_at (j := i) hda rfl (by omega) (by decide), gB_s, ecH_up]
      exact go _ (by simp only [Dd]; rw [if_neg z]; rfl)
theorem spd_loop (hq : ∀ f, ecH hb da f q = some (.inr (5, [.ref st, .int (iI g), .ref da, .int 0]))) (hS : ∀ f, StAt (ecH hb da f) st S sa) (hw : WF S) : ∀ (d s fu : Nat) (f : Nat → Int32), s + d = S.n → d < fu → (∀ k, k < S.n → f k = iI (Dd S g s k)) → ∃ f', gL2 (f_X7_init_2_L53 q st (iI g) da) fu (iI s) (ecH hb da f) = f_X7_init_2_J74 q (iI g) da (ecH hb da f') ∧ ∀ k, k < S.n → f' k = iI (Dd S g S.n k) := by
  have hn := hw.2.1
  intro d
  induction d with
  | zero =>
    intro s fu f e hfu hf
    obtain ⟨fu, rfl⟩ : ∃ k', fu = k' + 1 := ⟨fu - 1, by omega⟩
    have e1 : s = S.n := by omega
    subst e1
    obtain ⟨fs, o3⟩ := a_obj (hS f)
    refine ⟨f, ?_, hf⟩
    show f_X7_init_2_L53 q st (iI g) da (gL2 (f_X7_init_2_L53 q st (iI g) da) fu) _ _ = _
    unfold f_X7_init_2_L53
    rw [o3, gB_s, a_size (hS f), gB_s, if_pos (Int32.le_refl _)]
  | succ d ih =>
    intro s fu f e hfu hf
    obtain ⟨fu, rfl⟩ : ∃ k', fu = k' + 1 := ⟨fu - 1, by omega⟩
    obtain ⟨fs, o3⟩ := a_obj (hS f)
    obtain ⟨f1, e1, hf1⟩ := spK_loop hq hS hw (g := g) (s := s) (by omega) S.n 0 gN f (by omega) (by unfold gN; omega) (fun i hi => by rw [if_neg (Nat.not_lt_zero i)]; exact hf i hi)
    obtain ⟨f2, e2, hf2⟩ := ih (s + 1) fu f1 (by omega) (by omega) hf1
    refine ⟨f2, ?_, hf2⟩
    show f_X7_init_2_L53 q st (iI g) da (gL2 (f_X7_init_2_L53 q st (iI g) da) fu) _ _ = _
    generalize gL2 (f_X7_init_2_L53 q st (iI g) da) fu = r at e2 ⊢
    unfold f_X7_init_2_L53
    rw [Int.natCast_add, Int.natCast_one] at e2
    have e1' : f_X7_spread q (iI s) (ecH hb da f) = some (ecH hb da f1) := e1
    rw [o3, gB_s, a_size (hS f), gB_s, if_neg (by rw [iI_le (by omega) (by omega) (by omega) (by omega)]; omega), g_obj_s (hq f), gB_s, e1', gB_s, iI_1, iI_add]
    exact e2
theorem cEc {n : Nat} (F : gFr h n) (hS : StAt h st S sa) (hw : WF S) (hg : g < S.n) : ∃ h', f_X7_init n st (iI g) (g_up h n (.inr (5, [.null, .int 0, .null, .int 0]))) (n + 1) = some (h', n + 2) ∧ EcAt h' n st g (n + 1) S ∧ gPas h n h' (n + 2) noD := by
  have hn := hw.2.1
  have hlb := lenE_b hg
  have lst := F.lt hS.1
  have u0 := gPas.new (D := noD) (e := .inr (5, [.null, .int 0, .null, .int 0])) F
  have u1 := gPas.new (D := noD) (e := .inl (0, 6, .inl fun _ => 0)) u0.2.1
  generalize eb : g_up (g_up h n (.inr (5, [.null, .int 0, .null, .int 0]))) n (.inr (5, [.ref st, .int (iI g), .ref (n + 1), .int 0])) = hb
  have base : ∀ (e : gE) (f : Nat → Int32), g_up (ecH hb (n + 1) f) n e = ecH (g_up h n e) (n + 1) f := fun e f => by
    funext b
    unfold ecH
    by_cases z : b = n
    · subst z; rw [g_up_s, g_up_n (by omega), g_up_s]
    · rw [g_up_n z]
      by_cases z2 : b = n + 1
      · subst z2; rw [g_up_s, g_up_s]
      · rw [g_up_n z2, g_up_n z2, ← eb, g_up_n z, g_up_n z, g_up_n z]
  have gp : ∀ (e : gE) (f : Nat → Int32), gPas h n (ecH (g_up h n e) (n + 1) f) (n + 2) noD := fun e f => ⟨by omega, fun b hb => by unfold ecH; rw [g_up_n (by omega), g_up_n (by omega)]; exact F b (by omega), fun b hb _ => by unfold ecH; rw [g_up_n (by omega), g_up_n (by omega)]⟩
  have ehb : ∀ f, ecH hb (n + 1) f = ecH (g_up h n (.inr (5, [.ref st, .int (iI g), .ref (n + 1), .int 0]))) (n + 1) f := fun f => by
    rw [← base, g_up_id]
    unfold ecH; rw [g_up_n (by omega), ← eb, g_up_s]
  have hq : ∀ f, ecH hb (n + 1) f n = some (.inr (5, [.ref st, .int (iI g), .ref (n + 1), .int 0])) := fun f => by
    unfold ecH; rw [g_up_n (by omega), ← eb, g_up_s]
  have hSf : ∀ f, StAt (ecH hb (n + 1) f) st S sa := fun f => by rw [ehb]; exact (gp _ f).st F hS
  obtain ⟨f1, e1, hf1⟩ := fill_loop (S := S) (g := g) (st := st) (hb := hb) (q := n) (da := n + 1) (by omega) 6 0 gN (fun _ => 0) (by omega) (by unfold gN; omega) (fun k hk => absurd hk (Nat.not_lt_zero k))
  obtain ⟨f2, e2, hf2⟩ := spd_loop hq hSf hw S.n 0 gN f1 (by omega) (by unfold gN; omega) (fun k hk => hf1 k (by omega))
  have hda : ecH hb (n + 1) f2 (n + 1) = some (.inl (0, 6, .inl f2)) := g_up_s
  have e3 : f_X7_successor n (iI g) (ecH hb (n + 1) f2) = some (iI (scZ S g g S.n)) := suc_loop (hq f2) hda hf2 (hSf f2) hw hg S.n 0 gN (by omega) (by unfold gN; omega)
  have main : f_X7_init n st (iI g) (g_up h n (.inr (5, [.null, .int 0, .null, .int 0]))) (n + 1) = Option.bind (f_X7_init_2_J74 n (iI g) (n + 1) (ecH hb (n + 1) f2)) fun h5 => some (h5, n + 2) := by
    unfold f_X7_init
    rw [iI_6, nI_at (by decide) (by decide) (by decide), gT3_s]
    unfold f_X7_init_2
    have p1 : g_up (g_up h n (.inr (5, [.null, .int 0, .null, .int 0]))) (n + 1) (.inl (0, Int.toNat 6, .inl fun _ => 0)) n = some (.inr (5, [.null, .int 0, .null, .int 0])) := by rw [g_up_n (by omega), g_up_s]
    rw [pf_at p1 (by show _ < 4; decide), gB_s, pf_at g_up_s (by show _ < 4; decide), gB_s, pf_at g_up_s (by show _ < 4; decide), gB_s, g_up_up, g_up_up]
    have p2 : g_up (g_up (g_up h n (.inr (5, [.null, .int 0, .null, .int 0]))) (n + 1) (.inl (0, Int.toNat 6, .inl fun _ => 0))) n (.inr (5, (([Value.null, Value.int 0, Value.null, Value.int 0].set 0 (.ref st)).set 1 (.int (iI g))).set 2 (.ref (n + 1)))) = ecH hb (n + 1) (fun _ => 0) := by
      rw [ehb]
      funext b
      unfold ecH
      by_cases z : b = n
      · subst z; rw [g_up_s, g_up_n (by omega), g_up_s]; rfl
      · rw [g_up_n z]
        by_cases z2 : b = n + 1
        · subst z2; rw [g_up_s, g_up_s]; rfl
        · rw [g_up_n z2, g_up_n z2, g_up_n z, g_up_n z]
    rw [p2]
    show Option.bind (gL2 (f_X7_init_2_L22 n st (iI g) (n + 1)) gN (iI (0 : Nat)) (ecH hb (n + 1) fun _ => 0)) _ = _
    rw [e1]
    unfold f_X7_init_2_J50
    show Option.bind (gL2 (f_X7_init_2_L53 n st (iI g) (n + 1)) gN (iI (0 : Nat)) (ecH hb (n + 1) f1)) _ = _
    rw [e2]
  rw [main]
  unfold f_X7_init_2_J74
  rw [g_obj_s (hq f2), gB_s, e3, gB_s]
  rcases scZ_ok (S := S) (g := g) g S.n with ⟨x1, x2⟩ | ⟨b, x1, x2, x3, -⟩
  · rw [if_pos (by rw [x1]; rfl), pf_at (hq f2) (by show _ < 4; decide), gB_s, gB_s]
    refine ⟨_, rfl, ⟨?_, f2, ?_, hf2⟩, ?_⟩
    · rw [g_up_s]
      have : lenE S g = -1 := by unfold lenE; rw [if_pos x1]
      rw [this]; rfl
    · rw [g_up_n (by omega)]; exact hda
    · rw [base]; exact gp _ _
  · have bb := Dd_b (S := S) (g := g) S.n b
    rw [x1, if_neg (by rw [iI_n1, iI_eq (by omega) (by omega) (by omega) (by omega)]; omega), aI_at (j := b) hda rfl (by omega) (by decide) (hf2 b x2), gB_s, pf_at (hq f2) (by show _ < 4; decide), gB_s, gB_s]
    refine ⟨_, rfl, ⟨?_, f2, ?_, hf2⟩, ?_⟩
    · rw [g_up_s]
      have : lenE S g = Dd S g S.n b + 1 := by unfold lenE; rw [if_neg (by omega), x1, Int.toNat_natCast]
      rw [this, iI_1, iI_add]; rfl
    · rw [g_up_n (by omega)]; exact hda
    · rw [base]; exact gp _ _
end EK2
