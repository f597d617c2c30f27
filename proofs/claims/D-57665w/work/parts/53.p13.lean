/-! CHANGES, 6: new cells, frames, copies of states -/
def gFr (h : gH) (n : Nat) : Prop := ∀ b, n ≤ b → h b = none
theorem gFr.lt {h : gH} {n b : Nat} {e : gE} (F : gFr h n) (hb : h b = some e) : b < n := by
  rcases Nat.lt_or_ge b n with q | q
  · exact q
  · rw [F b q] at hb; cases hb
def gPas (h : gH) (n : Nat) (h' : gH) (n' : Nat) (D : Nat → Prop) : Prop := n ≤ n' ∧ gFr h' n' ∧ ∀ b, b < n → ¬ D b → h' b = h b
abbrev noD : Nat → Prop := fun _ => False
theorem gPas.rf {h : gH} {n : Nat} {D : Nat → Prop} (F : gFr h n) : gPas h n h n D := ⟨Nat.le_refl _, F, fun _ _ _ => rfl⟩
theorem gPas.tr {h h1 h2 : gH} {n n1 n2 : Nat} {D D2 : Nat → Prop} (u : gPas h n h1 n1 D) (v : gPas h1 n1 h2 n2 D2) (hD : ∀ b, b < n → D2 b → D b) : gPas h n h2 n2 D :=
  ⟨Nat.le_trans u.1 v.1, v.2.1, fun b q1 q2 => (v.2.2 b (Nat.lt_of_lt_of_le q1 u.1) (fun z => q2 (hD b q1 z))).trans (u.2.2 b q1 q2)⟩
theorem gPas.tr' {h h1 h2 : gH} {n n1 n2 : Nat} {D : Nat → Prop} (u : gPas h n h1 n1 D) (v : gPas h1 n1 h2 n2 D) : gPas h n h2 n2 D := u.tr v fun _ _ q => q
theorem gPas.mo {h h1 : gH} {n n1 : Nat} {D D2 : Nat → Prop} (u : gPas h n h1 n1 D) (hD : ∀ b, b < n → D b → D2 b) : gPas h n h1 n1 D2 := ⟨u.1, u.2.1, fun b q1 q2 => u.2.2 b q1 fun z => q2 (hD b q1 z)⟩
theorem gPas.no {h h1 : gH} {n n1 : Nat} {D2 : Nat → Prop} (u : gPas h n h1 n1 noD) : gPas h n h1 n1 D2 := u.mo fun _ _ q => q.elim
theorem gPas.new {h : gH} {n : Nat} {e : gE} {D : Nat → Prop} (F : gFr h n) : gPas h n (g_up h n e) (n + 1) D :=
  ⟨by omega, fun b q => by rw [g_up_n (by omega)]; exact F b (by omega), fun b q _ => g_up_n (by omega)⟩
theorem gPas.up {h : gH} {n q : Nat} {e : gE} {D : Nat → Prop} (F : gFr h n) (hq : q < n) (hD : D q) : gPas h n (g_up h q e) n D :=
  ⟨Nat.le_refl _, fun b w => by rw [g_up_n (by omega)]; exact F b w, fun b w1 w2 => g_up_n fun z => w2 (z ▸ hD)⟩
/-- what stays: an old cell that isn't written -/
theorem gPas.ce {h h' : gH} {n n' b : Nat} {e : gE} {D : Nat → Prop} (u : gPas h n h' n' D) (F : gFr h n) (hb : h b = some e) (hD : ¬ D b) : h' b = some e := (u.2.2 b (F.lt hb) hD).trans hb
theorem gPas.c0 {h h' : gH} {n n' b : Nat} {e : gE} (u : gPas h n h' n' noD) (F : gFr h n) (hb : h b = some e) : h' b = some e := u.ce F hb fun q => q
theorem StAt.mono {h h' : gH} {st : Nat} {S : gS} {sa : Nat → Nat} (hS : StAt h st S sa) (k : ∀ b e, h b = some e → h' b = some e) : StAt h' st S sa := by
  obtain ⟨h1, ⟨mc, h2⟩, ⟨f3, h3, h3'⟩, ⟨f4, h4⟩, ⟨f5, h5, h5'⟩, h6⟩ := hS
  refine ⟨k _ _ h1, ⟨mc, k _ _ h2⟩, ⟨f3, k _ _ h3, h3'⟩, ⟨f4, k _ _ h4⟩, ⟨f5, k _ _ h5, h5'⟩, fun s hs => ?_⟩
  obtain ⟨na, w1, ⟨f7, w2, w2'⟩, ⟨f8, w3, w3'⟩⟩ := h6 s hs
  exact ⟨na, k _ _ w1, ⟨f7, k _ _ w2, w2'⟩, ⟨f8, k _ _ w3, w3'⟩⟩
theorem SibAt.mono {h h' : gH} {a c : Nat} {vv : Nat → Int} {nm : List Int} (hS : SibAt h a c vv nm) (k : ∀ b e, h b = some e → h' b = some e) : SibAt h' a c vv nm := by
  obtain ⟨na, w1, ⟨f7, w2, w2'⟩, ⟨f8, w3, w3'⟩⟩ := hS
  exact ⟨na, k _ _ w1, ⟨f7, k _ _ w2, w2'⟩, ⟨f8, k _ _ w3, w3'⟩⟩
theorem gPas.st {h h' : gH} {n n' st : Nat} {S : gS} {sa : Nat → Nat} (u : gPas h n h' n' noD) (F : gFr h n) (hS : StAt h st S sa) : StAt h' st S sa := hS.mono fun _ _ hb => u.c0 F hb
theorem gPas.cur {h h' : gH} {n n' cd st : Nat} (u : gPas h n h' n' noD) (F : gFr h n) (hO : CurAt h cd st) : CurAt h' cd st := by
  obtain ⟨fs, h1, h2⟩ := hO
  exact ⟨fs, u.c0 F h1, h2⟩
theorem pf_at {h : gH} {q ci k : Nat} {fs : List Value} {v : Value} (hq : h q = some (.inr (ci, fs))) (hk : k < fs.length) : g_pf h q ci k v = some (g_up h q (.inr (ci, fs.set k v))) := by
  unfold g_pf
  rw [g_obj_s hq, gB_s, if_pos hk]
theorem nI_at {h : gH} {n t b : Nat} {z : Int} (h1 : 0 ≤ z) (h2 : z ≤ (b : Int)) (h3 : (b : Int) < 2147483648) : g_nI h n t b (iI z) = some (n, g_up h n (.inl (t, z.toNat, .inl fun _ => 0)), n + 1) := by
  unfold g_nI
  rw [iI_cl h1 (by omega), if_pos ⟨by rw [iI_0, iI_lt (by omega) (by omega) (by omega) (by omega)]; omega, by omega⟩]
theorem nQ_at {h : gH} {n t b : Nat} {z : Int} (h1 : 0 ≤ z) (h2 : z ≤ (b : Int)) (h3 : (b : Int) < 2147483648) : g_nQ h n t b (iI z) = some (n, g_up h n (.inl (t, z.toNat, .inr (.inr (.inr (.inr fun _ => none))))), n + 1) := by
  unfold g_nQ
  rw [iI_cl h1 (by omega), if_pos ⟨by rw [iI_0, iI_lt (by omega) (by omega) (by omega) (by omega)]; omega, by omega⟩]
theorem cpy_at {h : gH} {a0 a1 N0 N1 c : Nat} {f g : Nat → Int32} (h0 : h a0 = some (.inl (0, N0, .inl f))) (h1 : h a1 = some (.inl (0, N1, .inl g))) (c0 : c ≤ N0) (c1 : c ≤ N1) (hc : c ≤ 600) : g_cpy h 0 a0 (0 : Int32) a1 (0 : Int32) (iI c) = some (g_up h a1 (.inl (0, N1, .inl (va_cpy f g 0 0 c)))) := by
  unfold g_cpy
  rw [g_arr_s h0, gB_s]
  show Option.bind (some f) _ = _
  rw [gB_s, g_arr_s h1, gB_s]
  show Option.bind (some g) _ = _
  have e0 : (0 : Int32).toNatClampNeg = 0 := rfl
  have ec : (iI (c : Int)).toNatClampNeg = c := by rw [iI_cl (by omega) (by omega)]; omega
  rw [gB_s, e0, ec, if_pos ⟨by decide, by decide, by rw [iI_0, iI_lt (by omega) (by omega) (by omega) (by omega)]; omega, by show 0 + c ≤ N0; omega, by show 0 + c ≤ N1; omega, fun q => by cases q⟩]

section CH13
theorem cInit {h : gH} {z : Nat} {c : Nat} (F : gFr h (z + 1)) (hz : h z = some (.inr (0, [.null, .null, .null]))) (hc : 1 ≤ c ∧ c ≤ 24) (v : Nat → Nat → Int) (nm : Nat → List Int) (sa : Nat → Nat) : ∃ h', f_X2_init z (iI c) h (z + 1) = some (h', z + 5) ∧ StAt h' z (c, 0, fun _ => -1, v, nm) sa ∧ gPas h (z + 1) h' (z + 5) (fun b => b = z) := by
  unfold f_X2_init
  rw [show g_new h (z + 1) (.inr (7, [.int 0, .null, .int 0])) = some (z + 1, g_up h (z + 1) (.inr (7, [.int 0, .null, .int 0])), z + 1 + 1) from rfl, gT3_s]
  generalize e1 : g_up h (z + 1) (.inr (7, [.int 0, .null, .int 0])) = h1
  have q1 : h1 (z + 1) = some (.inr (7, [.int 0, .null, .int 0])) := by rw [← e1]; exact g_up_s
  unfold f_J2_init f_J1_init f_J0_init
  rw [gB_s, pf_at q1 (by show _ < 3; decide), gB_s, gB_s, if_neg (by decide), iI_6, nQ_at (by decide) (by decide) (by decide), gT3_s]
  generalize e2 : g_up (g_up h1 (z + 1) (.inr (7, [Value.int 0, Value.null, Value.int 0].set 0 (.int 0)))) (z + 1 + 1) (.inl (3, Int.toNat 6, .inr (.inr (.inr (.inr fun _ => none))))) = h2
  have q2 : h2 (z + 1) = some (.inr (7, [.int 0, .null, .int 0])) := by rw [← e2, g_up_n (by omega), g_up_s]; rfl
  rw [pf_at q2 (by show _ < 3; decide), gB_s, gT2_s]
  generalize e3 : g_up h2 (z + 1) (.inr (7, [Value.int 0, Value.null, Value.int 0].set 1 (.ref (z + 1 + 1)))) = h3
  have q3 : h3 z = some (.inr (0, [.null, .null, .null])) := by rw [← e3, g_up_n (by omega), ← e2, g_up_n (by omega), g_up_n (by omega), ← e1, g_up_n (by omega)]; exact hz
  rw [pf_at q3 (by show _ < 3; decide), gB_s, nI_at (by decide) (by decide) (by decide), gT3_s]
  generalize e4 : g_up (g_up h3 z (.inr (0, [Value.null, Value.null, Value.null].set 0 (.ref (z + 1))))) (z + 1 + 1 + 1) (.inl (2, Int.toNat 6, .inl fun _ => 0)) = h4
  have q4 : h4 z = some (.inr (0, [.ref (z + 1), .null, .null])) := by rw [← e4, g_up_n (by omega), g_up_s]; rfl
  rw [pf_at q4 (by show _ < 3; decide), gB_s, nI_at (by omega) (by omega) (by decide), gT3_s]
  generalize e5 : g_up (g_up h4 z (.inr (0, [Value.ref (z + 1), Value.null, Value.null].set 2 (.ref (z + 1 + 1 + 1))))) (z + 1 + 1 + 1 + 1) (.inl (0, Int.toNat (c : Int), .inl fun _ => 0)) = h5
  have q5 : h5 z = some (.inr (0, [.ref (z + 1), .null, .ref (z + 3)])) := by rw [← e5, g_up_n (by omega), g_up_s]; rfl
  rw [pf_at q5 (by show _ < 3; decide), gB_s]
  generalize e6 : g_up h5 z (.inr (0, [Value.ref (z + 1), Value.null, Value.ref (z + 3)].set 1 (.ref (z + 1 + 1 + 1 + 1)))) = h6
  have r0 : h6 z = some (.inr (0, [.ref (z + 1), .ref (z + 4), .ref (z + 3)])) := by rw [← e6, g_up_s]; rfl
  have r4 : h6 (z + 4) = some (.inl (0, c, .inl fun _ => 0)) := by rw [← e6, g_up_n (by omega), ← e5, g_up_s]; rfl
  have r3 : h6 (z + 3) = some (.inl (2, 6, .inl fun _ => 0)) := by rw [← e6, g_up_n (by omega), ← e5, g_up_n (by omega), g_up_n (by omega), ← e4, g_up_s]; rfl
  have r1 : h6 (z + 1) = some (.inr (7, [.int 0, .ref (z + 2), .int 0])) := by rw [← e6, g_up_n (by omega), ← e5, g_up_n (by omega), g_up_n (by omega), ← e4, g_up_n (by omega), g_up_n (by omega), ← e3, g_up_s]; rfl
  have r2 : h6 (z + 2) = some (.inl (3, 6, .inr (.inr (.inr (.inr fun _ => none))))) := by rw [← e6, g_up_n (by omega), ← e5, g_up_n (by omega), g_up_n (by omega), ← e4, g_up_n (by omega), g_up_n (by omega), ← e3, g_up_n (by omega), ← e2, g_up_s]; rfl
  have hot : ∀ b, b ≠ z → b ≠ z + 1 → b ≠ z + 2 → b ≠ z + 3 → b ≠ z + 4 → h6 b = h b := by
    intro b b0 b1 b2 b3 b4
    rw [← e6, g_up_n b0, ← e5, g_up_n b4, g_up_n b0, ← e4, g_up_n b3, g_up_n b0, ← e3, g_up_n b1, ← e2, g_up_n b2, g_up_n b1, ← e1, g_up_n b1]
  have hS0 : StAt h6 z (c, 0, fun _ => 0, v, nm) sa := ⟨r0, ⟨0, r1⟩, ⟨_, r2, fun s hs => absurd hs (Nat.not_lt_zero s)⟩, ⟨_, r3⟩, ⟨_, r4, fun _ _ => rfl⟩, fun s hs => absurd hs (Nat.not_lt_zero s)⟩
  obtain ⟨fs, o6⟩ := a_obj hS0
  rw [o6, gB_s]
  have g1 := giveC_loop (st := z) (c := c) hc.2 (o := -1) (e := c) (Nat.le_refl _) c 0 gN h6 (fun _ => 0) (by omega) (by unfold gN; omega) r0 r4
  have g2 : f_X2_release z (0 : Int32) (iI (c : Int) - (1 : Int32)) h6 = some (g_up h6 (z + 4) (.inl (0, c, .inl (fun j => if 0 ≤ j ∧ j < c then iI (-1) else 0)))) := by
    unfold f_X2_release
    rw [o6, gB_s, iI_1, iI_sub]
    show Option.bind (gL2 (f_X2_give_L3 z (iI (-1)) (iI ((c : Int) - 1))) gN (iI ((0 : Nat) : Int)) h6) _ = _
    rw [g1, gB_s]
  rw [g2, gB_s]
  refine ⟨_, rfl, ?_, ?_⟩
  · exact StAt_ow (S := (c, 0, fun _ => 0, v, nm)) (g := fun _ => -1) hS0 fun k hk => by
      have hk : k < c := hk
      show (if 0 ≤ k ∧ k < c then iI (-1) else 0) = iI (-1)
      rw [if_pos (by omega)]
  · refine ⟨by omega, fun b hb => ?_, fun b hb hD => ?_⟩
    · rw [g_up_n (by omega), hot b (by omega) (by omega) (by omega) (by omega) (by omega)]; exact F b (by omega)
    · rw [g_up_n (by omega), hot b hD (by omega) (by omega) (by omega) (by omega)]
theorem cAdd {h : gH} {st c k : Nat} {ow : Nat → Int} {v : Nat → Nat → Int} {nm : Nat → List Int} {sa : Nat → Nat} (hS : StAt h st (c, k, ow, v, nm) sa) (hk : k < 6) (hb : SibAt h (sa k) c (v k) (nm k)) : ∃ h', f_J2_add (st + 1) (sa k) h = some (1, h') ∧ StAt h' st (c, k + 1, ow, v, nm) sa ∧ ∀ b, b ≠ st + 1 → b ≠ st + 2 → h' b = h b := by
  obtain ⟨h1, ⟨mc, h2⟩, ⟨f3, h3, h3'⟩, ⟨f4, h4⟩, ⟨f5, h5, h5'⟩, h6⟩ := hS
  obtain ⟨na, w1, ⟨f7, w2, w2'⟩, ⟨f8, w3, w3'⟩⟩ := hb
  unfold f_J2_add
  rw [fI_at h2 rfl, gB_s, pf_at h2 (by decide : 0 < 3), gB_s]
  generalize e1 : g_up h (st + 1) (.inr (7, [Value.int mc, Value.ref (st + 2), Value.int (iI k)].set 0 (.int (mc + (1 : Int32))))) = g1
  have q1 : g1 (st + 1) = some (.inr (7, [.int (mc + 1), .ref (st + 2), .int (iI k)])) := by rw [← e1]; exact g_up_s
  have q2 : g1 (st + 2) = some (.inl (3, 6, .inr (.inr (.inr (.inr f3))))) := by rw [← e1, g_up_n (by omega)]; exact h3
  have n1 : sa k ≠ st + 1 := fun q => by rw [q, h2] at w1; cases w1
  have n2 : sa k ≠ st + 2 := fun q => by rw [q, h3] at w1; cases w1
  have q3 : g1 (sa k) = some (.inr (1, [.ref na, .ref (sa k + 1)])) := by rw [← e1, g_up_n n1]; exact w1
  rw [fA_at q1 rfl, gB_s, fI_at q1 rfl, gB_s, g_obj_s q1, gB_s]
  unfold f_J2_add_2
  rw [len_at q2, gB_s, if_neg (by rw [iI_eq (by omega) (by omega) (by omega) (by omega)]; show ¬ (k : Int) = ((6 : Nat) : Int); omega), g_obj_s q3, gB_s, sQ_at q2 (j := k) rfl hk (by decide), gB_s]
  generalize e2 : g_up g1 (st + 2) (.inl (3, 6, .inr (.inr (.inr (.inr (va_up f3 k (some (sa k)))))))) = g2
  have q4 : g2 (st + 1) = some (.inr (7, [.int (mc + 1), .ref (st + 2), .int (iI k)])) := by rw [← e2, g_up_n (by omega)]; exact q1
  rw [pf_at q4 (by show _ < 3; decide), gB_s, gB_s]
  have hot : ∀ b, b ≠ st + 1 → b ≠ st + 2 → g_up g2 (st + 1) (.inr (7, [Value.int (mc + 1), Value.ref (st + 2), Value.int (iI k)].set 2 (.int (iI k + (1 : Int32))))) b = h b := by
    intro b b1 b2
    rw [g_up_n b1, ← e2, g_up_n b2, ← e1, g_up_n b1]
  have hsib : ∀ a vv nn, SibAt h a c vv nn → SibAt (g_up g2 (st + 1) (.inr (7, [Value.int (mc + 1), Value.ref (st + 2), Value.int (iI k)].set 2 (.int (iI k + (1 : Int32)))))) a c vv nn := by
    intro a vv nn hs
    obtain ⟨na, w1, ⟨f7, w2, w2'⟩, ⟨f8, w3, w3'⟩⟩ := hs
    exact ⟨na, by rw [hot _ (fun q => by rw [q, h2] at w1; cases w1) (fun q => by rw [q, h3] at w1; cases w1)]; exact w1,
      ⟨f7, by rw [hot _ (fun q => by rw [q, h2] at w2; cases w2) (fun q => by rw [q, h3] at w2; cases w2)]; exact w2, w2'⟩,
      ⟨f8, by rw [hot _ (fun q => by rw [q, h2] at w3; cases w3) (fun q => by rw [q, h3] at w3; cases w3)]; exact w3, w3'⟩⟩
  refine ⟨_, rfl, ⟨by rw [hot _ (by omega) (by omega)]; exact h1, ⟨mc + 1, by rw [g_up_s, iI_1, iI_add]; rfl⟩, ⟨va_up f3 k (some (sa k)), by rw [g_up_n (by omega), ← e2, g_up_s], fun s hs => ?_⟩, ⟨f4, by rw [hot _ (by omega) (by omega)]; exact h4⟩, ⟨f5, by rw [hot _ (by omega) (by omega)]; exact h5, h5'⟩, fun s hs => ?_⟩, hot⟩
  · have hs : s < k + 1 := hs
    by_cases q : s = k
    · subst q; simp [va_up]
    · have : s < k := by omega
      simp only [va_up]
      rw [if_neg q]; exact h3' s this
  · have hs : s < k + 1 := hs
    by_cases q : s = k
    · subst q; exact hsib _ _ _ ⟨na, w1, ⟨f7, w2, w2'⟩, ⟨f8, w3, w3'⟩⟩
    · exact hsib _ _ _ (h6 s (by show s < k; omega))
end CH13
