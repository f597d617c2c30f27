/-! THE LAW, CASES 9: findSibling -/
section FS
variable {h : gH} {cd o n : Nat} {M M' : gMS} {st : Nat} {S : gS} {sa : Nat → Nat} {len hd : Nat} {hs : Nat → Nat} {HS : Nat → gS} {fv : Nat → Option Nat} {VS : Nat → gS}
theorem by256 : ∀ k : Nat, k < 256 → (iI ((k : Int) - 128)).toInt8.toInt32 = iI ((k : Int) - 128) := by decide +kernel
theorem sg8 {z : Int} (h1 : -128 ≤ z) (h2 : z < 128) : (iI z).toInt8.toInt32 = iI z := by
  have := by256 (z + 128).toNat (by omega)
  rw [show (((z + 128).toNat : Nat) : Int) - 128 = z by omega] at this
  exact this
theorem cpyB_at {a0 a1 N0 N1 c sp : Nat} {f g : Nat → Int32} (hb8 : ∀ i, i < sp + c → (f i).toInt8.toInt32 = f i) (h0 : h a0 = some (.inl (1, N0, .inl f))) (h1 : h a1 = some (.inl (1, N1, .inl g))) (c0 : sp + c ≤ N0) (c1 : c ≤ N1) (hc : sp + c ≤ 600) : g_cpy h 1 a0 (iI sp) a1 (0 : Int32) (iI c) = some (g_up h a1 (.inl (1, N1, .inl (va_cpy f g sp 0 c)))) := by
  unfold g_cpy
  rw [g_arr_s h0, gB_s]
  show Option.bind (some f) _ = _
  rw [gB_s, g_arr_s h1, gB_s]
  show Option.bind (some g) _ = _
  have e0 : (0 : Int32).toNatClampNeg = 0 := rfl
  have ec : (iI (c : Int)).toNatClampNeg = c := by rw [iI_cl (by omega) (by omega)]; omega
  have es : (iI (sp : Int)).toNatClampNeg = sp := by rw [iI_cl (by omega) (by omega)]; omega
  rw [gB_s, e0, ec, es, if_pos ⟨by rw [iI_0, iI_lt (by omega) (by omega) (by omega) (by omega)]; omega, by decide, by rw [iI_0, iI_lt (by omega) (by omega) (by omega) (by omega)]; omega, by show sp + c ≤ N0; omega, by show 0 + c ≤ N1; omega, fun _ i hi => hb8 (sp + i) (by omega)⟩]
theorem snZ_b {wl : Nat} {W : Nat → Int} : ∀ d i, snZ S wl W d i = -1 ∨ ((i : Int) ≤ snZ S wl W d i ∧ snZ S wl W d i < (i : Int) + d) := by
  intro d
  induction d with
  | zero => intro i; exact .inl rfl
  | succ d ih =>
    intro i
    simp only [snZ]
    split
    · exact .inr ⟨Int.le_refl _, by omega⟩
    · rcases ih (i + 1) with q | q
      · exact .inl q
      · exact .inr (by omega)
theorem p_findSibling (w : gW cd o h n M st S sa len hd hs HS fv VS) (iT : Int32) : ∃ c v, gRd (f_X0_findSibling cd (o + 11) h n) c v.toInt64 h n o ∧ f_X6_findSibling M.aM M.aB M.iL iT = some (v, c) := by
  obtain ⟨F, w1, w2, w3, w4, ⟨w5, w6, w7⟩, -⟩ := w
  obtain ⟨fs0, ob⟩ := w4.ob
  have w4' := w4
  have hn := w6.2.1
  obtain ⟨c1, ⟨f, L, c2, c3, c4, c5⟩, -⟩ := w4
  have hB := byR_of c5
  have lcd := F.lt c2
  generalize eB : (fun i => (M.aB i).toInt) = B at hB
  have u1 := gPas.new (D := noD) (e := .inl (1, L, .inl fun _ => 0)) F
  have k1 := u1.c0 F c1
  have k2 := u1.c0 F c2
  have u2 : gPas h n (g_up (g_up h n (.inl (1, L, .inl fun _ => 0))) n (.inl (1, L, .inl (va_cpy f (fun _ => 0) 0 0 L)))) (n + 1) noD := u1.tr (D2 := fun b => b = n) (gPas.up u1.2.1 (by omega) rfl) fun b q1 q2 => by omega
  have hS2 := u2.st F w5
  have hO2 := u2.cur F w4'.cur
  obtain ⟨fs2, o1, o2⟩ := hO2
  obtain ⟨fs3, o3⟩ := a_obj hS2
  have hsn := cSn (q := n) (wl := L) (W := B) (F := va_cpy f (fun _ => 0) 0 0 L) hS2 hn.2 w6.2.2.2.2 g_up_s (fun j hj => by
    obtain ⟨b1, -, b3⟩ := hB j hj
    refine ⟨b1, ?_⟩
    show (if 0 ≤ j ∧ j < 0 + L then f (0 + (j - 0)) else 0) = _
    rw [if_pos (by omega), show 0 + (j - 0) = j by omega, b3]) c3
  have hmn := mSn (m := M.aM) (g := M.aB) (a := 0) (wl := L) (W := B) (S := S) (by have := w7.2.1; simpa using this) hn.2 w6.2.2.2.2 (fun s hs => by
    obtain ⟨y1, y2, -⟩ := w7.2.2.2 s hs
    rw [show 212 * 0 + 26 + 31 * s = 26 + 31 * s by omega] at y1 y2
    exact ⟨y1, y2⟩) (fun j hj => by
    obtain ⟨b1, b2, -⟩ := hB j hj
    exact ⟨b1, by rw [Nat.zero_add]; exact b2⟩) (by omega)
  have hmn' : f_X6_siblingNamed (0 : Int32) (iI L) M.aM M.aB = some (iI (snZ S L B S.n 0)) := hmn
  have sb := snZ_b (S := S) (wl := L) (W := B) S.n 0
  unfold f_X0_findSibling f_X6_findSibling f_X6_findSibling_J21 f_X1_findSibling
  rw [ob, gB_s, fI_at c1 rfl, gB_s, c4, nI_at (by omega) (by show ((L : Nat) : Int) ≤ _; omega) (by decide), gT3_s, Int.toNat_natCast]
  show ∃ c v, gRd (gTX (Option.bind (g_fA (g_up h n (.inl (1, L, .inl fun _ => 0))) cd 3 0) _) _ _) c _ h n o ∧ _
  have hcp : g_cpy (g_up h n (.inl (1, L, .inl fun _ => 0))) 1 (cd + 1) (0 : Int32) n (0 : Int32) (iI L) = some (g_up (g_up h n (.inl (1, L, .inl fun _ => 0))) n (.inl (1, L, .inl (va_cpy f (fun _ => 0) 0 0 L)))) := cpyB_at (sp := 0) (fun i hi => by
    obtain ⟨-, -, b3⟩ := hB i (by omega)
    rw [b3]
    have : -128 ≤ sgB (B i) ∧ sgB (B i) < 128 := by
      obtain ⟨b1, -⟩ := hB i (by omega)
      unfold sgB; split <;> omega
    exact sg8 this.1 this.2) k2 g_up_s (by omega) (Nat.le_refl _) (by omega)
  rw [fA_at k1 rfl, gB_s, fI_at k1 rfl, gB_s, c4, hcp, gB_s, fA_at o1 o2, gB_s, o3, gB_s, hsn, gB_s, hmn', gB_s]
  by_cases q : snZ S L B S.n 0 = -1
  · rw [if_pos (by rw [q]; rfl), if_pos (by rw [q]; rfl), mF1, gT2_s, if_neg (by decide)]
    exact ⟨1, 0, gRd_t (k := 13) ((thr_new u2.2.1 ⟨by decide, by decide⟩).pre u2) w3 F (fun _ _ _ => rfl) (by decide), rfl⟩
  · rw [if_neg (by rw [iI_n1, iI_eq (by omega) (by omega) (by omega) (by omega)]; exact q), if_neg (by rw [iI_n1, iI_eq (by omega) (by omega) (by omega) (by omega)]; exact q), mF0, gT2_s, if_pos rfl]
    exact ⟨0, _, gRd_ok ⟨_, _, rfl, u2, trivial⟩ w3 F, rfl⟩
end FS
theorem lc_findSibling {x : gV} {zL : Nat} {zx : Nat → Int32} {r28 : Int32 → gH → Nat → Option Int32} {cd o i : Nat} {h : gH} {n : Nat} (w : gWx cd o h n) (hi : i + 6 ≤ zL) (hz : zL ≤ 144) (hr : ∀ h n, gWx cd o h n → r28 (iI i + (6 : Int32)) h n = some (1 : Int32)) : f_L_law_J612 x zL zx r28 cd o (o + 11) (o + 12) (iI i) h n = some (1 : Int32) := by
  obtain ⟨M, st, S, sa, len, hd, hs, HS, fv, VS, w⟩ := w
  obtain ⟨c, v, r, e5⟩ := p_findSibling w M.iT
  obtain ⟨h', n', e1, e2, e3, e4⟩ := rd_pr (M' := (M.aM, M.aS, M.iU, M.aB, M.iL, M.iE, M.iP, M.aR, M.iW, c, M.aT, M.aC, M.aH, M.aE, M.aQ, M.iA, M.iY, M.iF, M.iV, M.aK)) w r ⟨fun _ _ => rfl, rfl, rfl, rfl, rfl, rfl, rfl, rfl, rfl⟩
  unfold f_L_law_J612
  simp only [gB_s, e1, gTX_l, e2, e5, gT2_s]
  exact tlI rfl (fun hc => (aL_H (M := (M.aM, M.aS, M.iU, M.aB, M.iL, M.iE, M.iP, M.aR, M.iW, c, M.aT, M.aC, M.aH, M.aE, M.aQ, M.iA, M.iY, M.iF, M.iV, M.aK)) (by omega)).trans (e3 hc)) (hr _ _ e4)

