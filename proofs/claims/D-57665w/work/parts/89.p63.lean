/-! SCRIPTS: what a command does -/
def xY (S S' : gS) (k : Nat) (u1 u2 u3 w1 w2 w3 : Int32) : Prop := WF S' ∧ S'.n = S.n ∧ (∀ (cd st : Nat) (h : gH) (n : Nat) (sa : Nat → Nat), gFr h n → CurAt h cd st → StAt h st S sa → gRt (f_X1_execute cd (iI k) u1 u2 u3 h n) () h n (DS st) fun h' _ => ∃ sa', StAt h' st S' sa') ∧ ∀ m aT aC aH : Nat → Int32, BlkAt m 0 S → ∃ aT1 aC1 m2 aT2 aC2 aH2, f_X6_canDo (iI k) w1 w2 w3 m aT aC = some ((1 : Int32), aT1, aC1) ∧ f_X6_doIt (iI k) w1 w2 w3 m aT1 aC1 aH = some (m2, aT2, aC2, aH2) ∧ BlkUp m m2 S'
def xN (S : gS) (k : Nat) (u1 u2 u3 w1 w2 w3 : Int32) : Prop := (∀ (cd st : Nat) (h : gH) (n : Nat) (sa : Nat → Nat), gFr h n → CurAt h cd st → StAt h st S sa → ∃ k', (k' = 12 ∨ k' = 11 ∨ k' = 10) ∧ gThr (f_X1_execute cd (iI k) u1 u2 u3 h n) k' h n) ∧ ∀ m aT aC : Nat → Int32, BlkAt m 0 S → ∃ aT1 aC1, f_X6_canDo (iI k) w1 w2 w3 m aT aC = some ((0 : Int32), aT1, aC1)
section SX
variable {S : gS} {h : gH} {n st : Nat}
theorem gRt.U {α : Type} {T : Option ((α ⊕ gX) × gH × Nat)} {v : α} {D : Nat → Prop} {Q : gH → Nat → Prop} (t : gRt T v h n D Q) : gRt (gTX T (fun _ h5 n6 => some (.inl (), h5, n6)) fun q4 h7 n8 => some (.inr (q4.1, q4.2), h7, n8)) () h n D Q := by
  obtain ⟨h', n', e, u, p⟩ := t
  exact ⟨h', n', by rw [e, gTX_l], u, p⟩
theorem ex0 {a b e : Int} (hw : WF S) (h1 : 0 ≤ a ∧ a < S.n) (h2 : 0 ≤ b ∧ b ≤ 99) (h3 : 0 ≤ e ∧ e ≤ 99) : (∃ S', xY S S' 0 (iI a) (iI b) (iI e) (iI a) (iI b) (iI e)) ∨ xN S 0 (iI a) (iI b) (iI e) (iI a) (iI b) (iI e) := by
  have hn := hw.2.1
  have hc := hw.1
  obtain ⟨a, rfl⟩ : ∃ z : Nat, a = z := ⟨a.toNat, by omega⟩
  obtain ⟨b, rfl⟩ : ∃ z : Nat, b = z := ⟨b.toNat, by omega⟩
  obtain ⟨e, rfl⟩ : ∃ z : Nat, e = z := ⟨e.toNat, by omega⟩
  by_cases q : b ≤ e ∧ e < S.c
  · exact .inl ⟨owG S a b (e + 1), WF_owG hw ⟨by omega, by omega⟩, rfl, fun cd st h n sa F hO hS => by
        obtain ⟨fs, o⟩ := cur_o hO
        show gRt (f_X1_execute cd (0 : Int32) _ _ _ h n) () h n (DS st) _
        unfold f_X1_execute
        rw [if_pos rfl, o, gB_s]
        exact (rtE (cDoGive_ok F hO hS hw (by omega) q.1 q.2)).U,
      fun m aT aC aH hM => by
        obtain ⟨m2, e2, u2⟩ := mOwn' hM hw (o := a) (a := b) (e := e + 1) (by omega) (by omega)
        have ho : f_X6_own (iI a) (iI b) (iI e) m = some m2 := by
          rw [← e2]; congr 2; omega
        refine ⟨aT, aC, m2, aT, aC, aH, ?_, ?_, u2⟩
        · show f_X6_canDo (0 : Int32) _ _ _ m aT aC = _
          unfold f_X6_canDo
          rw [if_pos rfl, mRg_ok hM hw q.1 q.2, gB_s, if_pos (.inr rfl)]
        · show f_X6_doIt (0 : Int32) _ _ _ m aT aC aH = _
          unfold f_X6_doIt
          rw [if_pos rfl, ho, gB_s]⟩
  · exact .inr ⟨fun cd st h n sa F hO hS => ⟨11, by omega, by
        obtain ⟨fs, o⟩ := cur_o hO
        show gThr (f_X1_execute cd (0 : Int32) _ _ _ h n) 11 h n
        unfold f_X1_execute
        rw [if_pos rfl, o, gB_s]
        exact (cDoGive_n2 (a := (a : Int)) F hO hS hw (by omega) (by omega) (by omega) (by omega)).X⟩,
      fun m aT aC hM => by
        refine ⟨aT, aC, ?_⟩
        show f_X6_canDo (0 : Int32) _ _ _ m aT aC = _
        unfold f_X6_canDo
        rw [if_pos rfl, mRg_no hM hw (by omega) (by omega) (by omega), gB_s, if_pos (.inl rfl)]⟩
theorem ex1 {u1 w1 : Int32} {b e : Int} (hw : WF S) (h2 : 0 ≤ b ∧ b ≤ 99) (h3 : 0 ≤ e ∧ e ≤ 99) : (∃ S', xY S S' 1 u1 (iI b) (iI e) w1 (iI b) (iI e)) ∨ xN S 1 u1 (iI b) (iI e) w1 (iI b) (iI e) := by
  have hn := hw.2.1
  have hc := hw.1
  obtain ⟨b, rfl⟩ : ∃ z : Nat, b = z := ⟨b.toNat, by omega⟩
  obtain ⟨e, rfl⟩ : ∃ z : Nat, e = z := ⟨e.toNat, by omega⟩
  by_cases q : b ≤ e ∧ e < S.c
  · exact .inl ⟨owG S (-1) b (e + 1), WF_owG hw ⟨by omega, by omega⟩, rfl, fun cd st h n sa F hO hS => by
        obtain ⟨fs, o⟩ := cur_o hO
        show gRt (f_X1_execute cd (1 : Int32) _ _ _ h n) () h n (DS st) _
        unfold f_X1_execute
        rw [if_neg (by decide), if_pos rfl, o, gB_s]
        exact (rtE (cDoRel_ok F hO hS hw q.1 q.2)).U,
      fun m aT aC aH hM => by
        obtain ⟨m2, e2, u2⟩ := mOwn' hM hw (o := -1) (a := b) (e := e + 1) (by omega) (by omega)
        have ho : f_X6_own (-1 : Int32) (iI b) (iI e) m = some m2 := by
          rw [← e2]; congr 2; omega
        refine ⟨aT, aC, m2, aT, aC, aH, ?_, ?_, u2⟩
        · show f_X6_canDo (1 : Int32) _ _ _ m aT aC = _
          unfold f_X6_canDo
          rw [if_neg (by decide), if_pos rfl, mRg_ok hM hw q.1 q.2, gB_s, if_pos (.inr rfl)]
        · show f_X6_doIt (1 : Int32) _ _ _ m aT aC aH = _
          unfold f_X6_doIt
          rw [if_neg (by decide), if_pos rfl, ho, gB_s]⟩
  · exact .inr ⟨fun cd st h n sa F hO hS => ⟨11, by omega, by
        obtain ⟨fs, o⟩ := cur_o hO
        show gThr (f_X1_execute cd (1 : Int32) _ _ _ h n) 11 h n
        unfold f_X1_execute
        rw [if_neg (by decide), if_pos rfl, o, gB_s]
        exact (cDoRel_no F hO hS hw (by omega) (by omega) (by omega)).X⟩,
      fun m aT aC hM => by
        refine ⟨aT, aC, ?_⟩
        show f_X6_canDo (1 : Int32) _ _ _ m aT aC = _
        unfold f_X6_canDo
        rw [if_neg (by decide), if_pos rfl, mRg_no hM hw (by omega) (by omega) (by omega), gB_s, if_pos (.inl rfl)]⟩
theorem ex2 {u3 w3 : Int32} {a b : Int} (hw : WF S) (h1 : 0 ≤ a ∧ a < S.n) (h2 : 0 ≤ b ∧ b < S.n) : (∃ S', xY S S' 2 (iI a) (iI b) u3 (iI a) (iI b) w3) ∨ xN S 2 (iI a) (iI b) u3 (iI a) (iI b) w3 := by
  have hn := hw.2.1
  have hc := hw.1
  obtain ⟨a, rfl⟩ : ∃ z : Nat, a = z := ⟨a.toNat, by omega⟩
  obtain ⟨b, rfl⟩ : ∃ z : Nat, b = z := ⟨b.toNat, by omega⟩
  by_cases q : a ≠ b
  · exact .inl ⟨swS S a b, swS_wf hw (by omega) (by omega), rfl, fun cd st h n sa F hO hS => by
        obtain ⟨fs, o⟩ := cur_o hO
        show gRt (f_X1_execute cd (2 : Int32) _ _ _ h n) () h n (DS st) _
        unfold f_X1_execute
        rw [if_neg (by decide), if_neg (by decide), if_pos rfl, o, gB_s]
        exact (rtE (cDoSw_ok F hO hS hw (by omega) (by omega) q)).U,
      fun m aT aC aH hM => by
        obtain ⟨m2, e2, u2⟩ := mSw hM hw (a := a) (b := b) (by omega) (by omega) q
        refine ⟨aT, aC, m2, aT, aC, aH, ?_, ?_, u2⟩
        · show f_X6_canDo (2 : Int32) _ _ _ m aT aC = _
          unfold f_X6_canDo
          rw [if_neg (by decide), if_neg (by decide), if_pos rfl, if_neg (by rw [iI_eq (by omega) (by omega) (by omega) (by omega)]; omega)]
        · show f_X6_doIt (2 : Int32) _ _ _ m aT aC aH = _
          unfold f_X6_doIt
          rw [if_neg (by decide), if_neg (by decide), if_pos rfl, e2, gB_s]⟩
  · have q : a = b := by omega
    subst q
    exact .inr ⟨fun cd st h n sa F hO hS => ⟨10, by omega, by
        obtain ⟨fs, o⟩ := cur_o hO
        show gThr (f_X1_execute cd (2 : Int32) _ _ _ h n) 10 h n
        unfold f_X1_execute
        rw [if_neg (by decide), if_neg (by decide), if_pos rfl, o, gB_s]
        exact (cDoSw_n2 (a := (a : Int)) F hO hS hw (by omega)).X⟩,
      fun m aT aC hM => by
        refine ⟨aT, aC, ?_⟩
        show f_X6_canDo (2 : Int32) _ _ _ m aT aC = _
        unfold f_X6_canDo
        rw [if_neg (by decide), if_neg (by decide), if_pos rfl, if_pos rfl]⟩
theorem ex4 {u3 w3 : Int32} {a b : Int} (hw : WF S) (h1 : 0 ≤ a ∧ a < S.n) (h2 : 0 ≤ b ∧ b < S.n) : (∃ S', xY S S' 4 (iI a) (iI b) u3 (iI a) (iI b) w3) ∨ xN S 4 (iI a) (iI b) u3 (iI a) (iI b) w3 := by
  have hn := hw.2.1
  have hc := hw.1
  obtain ⟨a, rfl⟩ : ∃ z : Nat, a = z := ⟨a.toNat, by omega⟩
  obtain ⟨b, rfl⟩ : ∃ z : Nat, b = z := ⟨b.toNat, by omega⟩
  by_cases q : a ≠ b
  · exact .inl ⟨dvZ S a b, dvZ_wf hw (by omega) (by omega), rfl, fun cd st h n sa F hO hS => by
        obtain ⟨fs, o⟩ := cur_o hO
        show gRt (f_X1_execute cd (4 : Int32) _ _ _ h n) () h n (DS st) _
        unfold f_X1_execute
        rw [if_neg (by decide), if_neg (by decide), if_neg (by decide), if_neg (by decide), if_pos rfl, o, gB_s]
        exact (rtE (cDoDv_ok F hO hS hw (by omega) (by omega) q)).U,
      fun m aT aC aH hM => by
        obtain ⟨m2, e2, u2⟩ := mDv hM hw (a := a) (b := b) (by omega) (by omega)
        refine ⟨aT, aC, m2, aT, aC, aH, ?_, ?_, u2⟩
        · show f_X6_canDo (4 : Int32) _ _ _ m aT aC = _
          unfold f_X6_canDo
          rw [if_neg (by decide), if_neg (by decide), if_neg (by decide), if_neg (by decide), if_pos rfl, if_neg (by rw [iI_eq (by omega) (by omega) (by omega) (by omega)]; omega)]
        · show f_X6_doIt (4 : Int32) _ _ _ m aT aC aH = _
          unfold f_X6_doIt
          rw [if_neg (by decide), if_neg (by decide), if_neg (by decide), if_neg (by decide), if_pos rfl, e2, gT2_s]⟩
  · have q : a = b := by omega
    subst q
    exact .inr ⟨fun cd st h n sa F hO hS => ⟨10, by omega, by
        obtain ⟨fs, o⟩ := cur_o hO
        show gThr (f_X1_execute cd (4 : Int32) _ _ _ h n) 10 h n
        unfold f_X1_execute
        rw [if_neg (by decide), if_neg (by decide), if_neg (by decide), if_neg (by decide), if_pos rfl, o, gB_s]
        exact (cDoDv_n2 (a := (a : Int)) F hO hS hw (by omega)).X⟩,
      fun m aT aC hM => by
        refine ⟨aT, aC, ?_⟩
        show f_X6_canDo (4 : Int32) _ _ _ m aT aC = _
        unfold f_X6_canDo
        rw [if_neg (by decide), if_neg (by decide), if_neg (by decide), if_neg (by decide), if_pos rfl, if_pos rfl]⟩
theorem ex3 {a b e : Int} (hw : WF S) (h1 : 0 ≤ a ∧ a < S.n) (h2 : 0 ≤ b ∧ b ≤ 99) (h3 : 0 ≤ e ∧ e ≤ 99) : (∃ S', xY S S' 3 (iI a) (iI b) (iI e) (iI a) (iI b) (iI e)) ∨ xN S 3 (iI a) (iI b) (iI e) (iI a) (iI b) (iI e) := by
  have hn := hw.2.1
  have hc := hw.1
  obtain ⟨a, rfl⟩ : ∃ z : Nat, a = z := ⟨a.toNat, by omega⟩
  obtain ⟨b, rfl⟩ : ∃ z : Nat, b = z := ⟨b.toNat, by omega⟩
  by_cases q : b < S.c
  · by_cases r : e ≤ 9
    · exact .inl ⟨valS S a b e, valS_wf hw (by omega), rfl, fun cd st h n sa F hO hS => by
        obtain ⟨fs, o⟩ := cur_o hO
        show gRt (f_X1_execute cd (3 : Int32) _ _ _ h n) () h n (DS st) _
        unfold f_X1_execute
        rw [if_neg (by decide), if_neg (by decide), if_neg (by decide), if_pos rfl, o, gB_s]
        exact (cDoSv_ok F hO hS hw (by omega) q (by omega)).U,
      fun m aT aC aH hM => by
        obtain ⟨m2, e2, u2⟩ := mSv (x := e) hM hw (s := a) (k := b) (by omega) q
        refine ⟨aT, aC, m2, aT, aC, aH, ?_, ?_, u2⟩
        · show f_X6_canDo (3 : Int32) _ _ _ m aT aC = _
          unfold f_X6_canDo
          rw [if_neg (by decide), if_neg (by decide), if_neg (by decide), if_pos rfl, mCell_ok hM hw q, gB_s, if_neg (by decide), iI_9, if_neg (by rw [iI_lt (by omega) (by omega) (by omega) (by omega)]; omega)]
        · show f_X6_doIt (3 : Int32) _ _ _ m aT aC aH = _
          unfold f_X6_doIt
          rw [if_neg (by decide), if_neg (by decide), if_neg (by decide), if_pos rfl, e2, gB_s]⟩
    · exact .inr ⟨fun cd st h n sa F hO hS => ⟨11, by omega, by
        obtain ⟨fs, o⟩ := cur_o hO
        show gThr (f_X1_execute cd (3 : Int32) _ _ _ h n) 11 h n
        unfold f_X1_execute
        rw [if_neg (by decide), if_neg (by decide), if_neg (by decide), if_pos rfl, o, gB_s]
        exact (cDoSv_n3 F hO hS hw (by omega) q (by omega) (by omega)).X⟩,
      fun m aT aC hM => by
        refine ⟨aT, aC, ?_⟩
        show f_X6_canDo (3 : Int32) _ _ _ m aT aC = _
        unfold f_X6_canDo
        rw [if_neg (by decide), if_neg (by decide), if_neg (by decide), if_pos rfl, mCell_ok hM hw q, gB_s, if_neg (by decide), iI_9, if_pos (by rw [iI_lt (by omega) (by omega) (by omega) (by omega)]; omega)]⟩
  · exact .inr ⟨fun cd st h n sa F hO hS => ⟨12, by omega, by
        obtain ⟨fs, o⟩ := cur_o hO
        show gThr (f_X1_execute cd (3 : Int32) _ _ _ h n) 12 h n
        unfold f_X1_execute
        rw [if_neg (by decide), if_neg (by decide), if_neg (by decide), if_pos rfl, o, gB_s]
        exact (cDoSv_n2 (s := a) F hO hS hw (by omega) (by omega) (by omega)).X⟩,
      fun m aT aC hM => by
        refine ⟨aT, aC, ?_⟩
        show f_X6_canDo (3 : Int32) _ _ _ m aT aC = _
        unfold f_X6_canDo
        rw [if_neg (by decide), if_neg (by decide), if_neg (by decide), if_pos rfl, mCell_no hM hw (by omega) (by omega), gB_s, if_pos rfl]⟩
theorem ex5 {u1 u2 u3 w1 w2 w3 : Int32} (hw : WF S) : (∃ S', xY S S' 5 u1 u2 u3 w1 w2 w3) ∨ xN S 5 u1 u2 u3 w1 w2 w3 := by
  have hn := hw.2.1
  have hc := hw.1
  exact .inl ⟨knS S, knS_wf hw, (knS_n S).1, fun cd st h n sa F hO hS => by
        obtain ⟨fs, o1, o2⟩ := hO
        obtain ⟨fs2, o3⟩ := a_obj hS
        obtain ⟨h', x1, x2, x3⟩ := cKn hS hw
        show gRt (f_X1_execute cd (5 : Int32) _ _ _ h n) () h n (DS st) _
        unfold f_X1_execute
        rw [if_neg (by decide), if_neg (by decide), if_neg (by decide), if_neg (by decide), if_neg (by decide), if_pos rfl, fA_at o1 o2, gB_s, o3, gB_s, x1, gT2_s]
        exact ⟨h', n, rfl, x3.pas F hS, sa, x2⟩,
      fun m aT aC aH hM => by
        obtain ⟨m2, a2, e2, u2⟩ := mKn (a := aH) hM hw
        refine ⟨aT, aC, m2, aT, aC, a2, ?_, ?_, u2⟩
        · show f_X6_canDo (5 : Int32) _ _ _ m aT aC = _
          unfold f_X6_canDo
          rw [if_neg (by decide), if_neg (by decide), if_neg (by decide), if_neg (by decide), if_neg (by decide), if_pos rfl]
        · show f_X6_doIt (5 : Int32) _ _ _ m aT aC aH = _
          unfold f_X6_doIt
          rw [if_neg (by decide), if_neg (by decide), if_neg (by decide), if_neg (by decide), if_neg (by decide), if_pos rfl, e2, gT3_s]⟩
theorem ex6 {u2 u3 w2 w3 : Int32} {a : Int} (hw : WF S) (h1 : 0 ≤ a ∧ a < S.n) : (∃ S', xY S S' 6 (iI a) u2 u3 (iI a) w2 w3) ∨ xN S 6 (iI a) u2 u3 (iI a) w2 w3 := by
  have hn := hw.2.1
  have hc := hw.1
  obtain ⟨a, rfl⟩ : ∃ z : Nat, a = z := ⟨a.toNat, by omega⟩
  exact .inl ⟨(rrZ 24 S a 0).1, rrZ_wf _ _ _ _ hw (by omega), by obtain ⟨g, e⟩ := rrZ_ow 24 S a 0; rw [e]; rfl, fun cd st h n sa F hO hS => by
        obtain ⟨fs, o⟩ := cur_o hO
        show gRt (f_X1_execute cd (6 : Int32) _ _ _ h n) () h n (DS st) _
        unfold f_X1_execute
        rw [if_neg (by decide), if_neg (by decide), if_neg (by decide), if_neg (by decide), if_neg (by decide), if_neg (by decide), if_pos rfl, o, gB_s]
        exact (rtE (cDoRr_ok F hO hS hw (by omega))).U,
      fun m aT aC aH hM => by
        obtain ⟨m2, e2, u2⟩ := mRr hM hw (s := a) (by omega)
        refine ⟨aT, aC, m2, aT, aC, aH, ?_, ?_, u2⟩
        · show f_X6_canDo (6 : Int32) _ _ _ m aT aC = _
          unfold f_X6_canDo
          rw [if_neg (by decide), if_neg (by decide), if_neg (by decide), if_neg (by decide), if_neg (by decide), if_neg (by decide), if_pos rfl]
        · show f_X6_doIt (6 : Int32) _ _ _ m aT aC aH = _
          unfold f_X6_doIt
          rw [if_neg (by decide), if_neg (by decide), if_neg (by decide), if_neg (by decide), if_neg (by decide), if_neg (by decide), if_pos rfl, e2, gT2_s]⟩
theorem ex7 {u2 u3 w2 w3 : Int32} {a : Int} (hw : WF S) (h1 : 0 ≤ a ∧ a < S.n) : (∃ S', xY S S' 7 (iI a) u2 u3 (iI a) w2 w3) ∨ xN S 7 (iI a) u2 u3 (iI a) w2 w3 := by
  have hn := hw.2.1
  have hc := hw.1
  obtain ⟨a, rfl⟩ : ∃ z : Nat, a = z := ⟨a.toNat, by omega⟩
  have hl := lenE_b (S := S) (g := a) (by omega)
  by_cases q : lenE S a = -1
  · exact .inr ⟨fun cd st h n sa F hO hS => ⟨10, by omega, by
        obtain ⟨fs, o⟩ := cur_o hO
        show gThr (f_X1_execute cd (7 : Int32) _ _ _ h n) 10 h n
        unfold f_X1_execute
        rw [if_neg (by decide), if_neg (by decide), if_neg (by decide), if_neg (by decide), if_neg (by decide), if_neg (by decide), if_neg (by decide), o, gB_s]
        exact (cDoRo_n2 F hO hS hw (by omega) q).X⟩,
      fun m aT aC hM => by
        obtain ⟨aT1, aC1, x1, x2⟩ := mFc hM hw (g := a) (by omega) aT aC
        refine ⟨aT1, aC1, ?_⟩
        show f_X6_canDo (7 : Int32) _ _ _ m aT aC = _
        unfold f_X6_canDo
        rw [if_neg (by decide), if_neg (by decide), if_neg (by decide), if_neg (by decide), if_neg (by decide), if_neg (by decide), if_neg (by decide), if_pos rfl, x1, gT3_s, if_pos (by rw [q]; rfl)]⟩
  · exact .inl ⟨roS S a, roS_wf hw (by omega) (by omega), rfl, fun cd st h n sa F hO hS => by
        obtain ⟨fs, o⟩ := cur_o hO
        show gRt (f_X1_execute cd (7 : Int32) _ _ _ h n) () h n (DS st) _
        unfold f_X1_execute
        rw [if_neg (by decide), if_neg (by decide), if_neg (by decide), if_neg (by decide), if_neg (by decide), if_neg (by decide), if_neg (by decide), o, gB_s]
        exact (rtE (cDoRo_ok F hO hS hw (by omega) (by omega))).U,
      fun m aT aC aH hM => by
        obtain ⟨aT1, aC1, x1, x2⟩ := mFc hM hw (g := a) (by omega) aT aC
        obtain ⟨m2, aT2, aC2, e2, u2⟩ := mTurn hM hw (g := a) (by omega) (by omega) aT1 aC1
        refine ⟨aT1, aC1, m2, aT2, aC2, aH, ?_, ?_, u2⟩
        · show f_X6_canDo (7 : Int32) _ _ _ m aT aC = _
          unfold f_X6_canDo
          rw [if_neg (by decide), if_neg (by decide), if_neg (by decide), if_neg (by decide), if_neg (by decide), if_neg (by decide), if_neg (by decide), if_pos rfl, x1, gT3_s, if_neg (by rw [iI_n1, iI_eq (by omega) (by omega) (by omega) (by omega)]; exact q)]
        · show f_X6_doIt (7 : Int32) _ _ _ m aT1 aC1 aH = _
          unfold f_X6_doIt
          rw [if_neg (by decide), if_neg (by decide), if_neg (by decide), if_neg (by decide), if_neg (by decide), if_neg (by decide), if_neg (by decide), e2, gT4_s]⟩
theorem exAll {f aK : Nat → Int32} {j : Nat} {c : gCm} (hw : WF S) (hv : cmV S c) (hf : cmA f j c) (hk : cmA aK j c) : (∃ S', xY S S' c.1 (f (j + 1)) (f (j + 2)) (f (j + 3)) (aK (j + 1)) (aK (j + 2)) (aK (j + 3))) ∨ xN S c.1 (f (j + 1)) (f (j + 2)) (f (j + 3)) (aK (j + 1)) (aK (j + 2)) (aK (j + 3)) := by
  obtain ⟨k, a, b, e⟩ := c
  obtain ⟨v1, v2, v3, v4, v5⟩ := hv
  obtain ⟨f1, f2, f3⟩ := hf
  obtain ⟨k1, k2, k3⟩ := hk
  simp only at v1 v2 v3 v4 v5 f1 f2 f3 k1 k2 k3
  have hk8 : k = 0 ∨ k = 1 ∨ k = 2 ∨ k = 3 ∨ k = 4 ∨ k = 5 ∨ k = 6 ∨ k = 7 := by omega
  rcases hk8 with z | z | z | z | z | z | z | z <;> subst z
  · rw [f1 (by decide) (by decide), f2 (by decide), f3 (by decide) (by decide), k1 (by decide) (by decide), k2 (by decide), k3 (by decide) (by decide)]
    exact ex0 hw (v2 (by decide) (by decide)) v4 v5
  · rw [f2 (by decide), f3 (by decide) (by decide), k2 (by decide), k3 (by decide) (by decide)]
    exact ex1 hw v4 v5
  · rw [f1 (by decide) (by decide), f2 (by decide), k1 (by decide) (by decide), k2 (by decide)]
    exact ex2 hw (v2 (by decide) (by decide)) (v3 (.inl rfl))
  · rw [f1 (by decide) (by decide), f2 (by decide), f3 (by decide) (by decide), k1 (by decide) (by decide), k2 (by decide), k3 (by decide) (by decide)]
    exact ex3 hw (v2 (by decide) (by decide)) v4 v5
  · rw [f1 (by decide) (by decide), f2 (by decide), k1 (by decide) (by decide), k2 (by decide)]
    exact ex4 hw (v2 (by decide) (by decide)) (v3 (.inr rfl))
  · exact ex5 hw
  · rw [f1 (by decide) (by decide), k1 (by decide) (by decide)]
    exact ex6 hw (v2 (by decide) (by decide))
  · rw [f1 (by decide) (by decide), k1 (by decide) (by decide)]
    exact ex7 hw (v2 (by decide) (by decide))
end SX
