/-! LOAD -/
section LD
variable {h : gH} {cd o n : Nat} {M M' : gMS} {st : Nat} {S S' : gS} {sa : Nat → Nat} {len hd : Nat} {hs : Nat → Nat} {HS : Nat → gS} {fv : Nat → Option Nat} {VS : Nat → gS} {x : gV}
theorem cNewSc {B : Nat → Int} {L : Nat} {f g : Nat → Int32} {ec ep wr : Int32} (F : gFr h n) (c1 : h cd = some (clO cd st (iI L) ec ep wr)) (c2 : h (cd + 1) = some (.inl (1, 600, .inl f))) (hB : byR f g B L) (hL : L ≤ 600) : ∃ h5, f_X3_init n cd (g_up h n (.inr (2, [.int 0, .int 0, .int 0, .int 0, .null]))) = some h5 ∧ scP B h5 n cd st ec ep wr f L (tkZ B L 0) ∧ gPas h n h5 (n + 1) noD := by
  have l1 := F.lt c1
  have l2 := F.lt c2
  have w : scB h n cd st ec ep wr f L := ⟨by omega, by omega, c1, c2⟩
  obtain ⟨v', e1, e2⟩ := cAdv (k := 0) (s := 0) (v := 0) w hB hL (Nat.zero_le L)
  have hq : g_up h n (.inr (2, [.int 0, .int 0, .int 0, .int 0, .null])) n = some (.inr (2, [.int 0, .int 0, .int 0, .int 0, .null])) := g_up_s
  have u := gPas.new (D := noD) (e := scO cd (iI (tkZ B L 0).k) (iI (tkZ B L 0).s) (iI (tkZ B L 0).e) v') F
  refine ⟨scH h n cd (iI (tkZ B L 0).k) (iI (tkZ B L 0).s) (iI (tkZ B L 0).e) v', ?_, ⟨⟨w.1, w.2.1, u.c0 F c1, u.c0 F c2⟩, v', scH_q, e2⟩, u⟩
  unfold f_X3_init
  rw [pf_at hq (by show _ < 5; decide), gB_s, g_up_up]
  have e1' : f_X3_advance n (g_up h n (.inr (2, [Value.int 0, Value.int 0, Value.int 0, Value.int 0, Value.null].set 4 (.ref cd)))) = some (scH h n cd (iI (tkZ B L 0).k) (iI (tkZ B L 0).s) (iI (tkZ B L 0).e) v') := e1
  have o1 : g_obj (g_up h n (.inr (2, [Value.int 0, Value.int 0, Value.int 0, Value.int 0, Value.null].set 4 (.ref cd)))) n 2 = some ([Value.int 0, Value.int 0, Value.int 0, Value.int 0, Value.null].set 4 (.ref cd)) := g_obj_s g_up_s
  rw [o1, gB_s, e1', gB_s]
theorem p_load (hdd : ∀ i j, i < g_tN → j < g_tN → x.2.2.1 i = x.2.2.1 j → i = j) (w : gW cd o h n M st S sa len hd hs HS fv VS) (iT : Int32) : ∃ c v aM' aS' iU' iL' iE' iP' iA' iY' iF' iV', gPr (f_X0_load x cd (o + 11) h n) cd o M (aM', aS', iU', M.aB, iL', iE', iP', M.aR, M.iW, c, M.aT, M.aC, M.aH, M.aE, M.aQ, iA', iY', iF', iV', M.aK) c v.toInt64 ∧ f_X6_load x M.aM M.aS M.iU M.aB M.iL M.iE M.iP iT M.iA M.iY M.iF M.iV = some (v, aM', aS', iU', iL', iE', iP', c, iA', iY', iF', iV') := by
  have w0 := w
  obtain ⟨F, w1, w2, w3, w4, ⟨w5, w6, w7⟩, ⟨w8, w9, w10⟩, ⟨w11, w12⟩, w13⟩ := w
  obtain ⟨fs0, ob⟩ := w4.ob
  have hlt := w3.lt F
  have w4' := w4
  obtain ⟨c1, ⟨f, L, c2, c3, c4, c5⟩, ⟨gg, c6⟩, ⟨kk, W, c7, c8, c9, c10⟩⟩ := w4
  rw [c4] at c1
  have hB := byR_of c5
  generalize (fun i => (M.aB i).toInt) = B at hB
  obtain ⟨h5, e5, s5, u5⟩ := cNewSc F c1 c2 hB c3
  have hset := cSetup (z0 := cd) hdd hB c3 s5 u5.2.1
  obtain ⟨iV', t1, t2⟩ := mTk (iY := M.iY) (iF := M.iF) (iV := M.iV) hB c3 (Nat.zero_le L)
  have t1' : f_X6_token M.aB (iI L) (0 : Int32) M.iY M.iF M.iV = some (iI (tkZ B L 0).e, iI (kM B (tkZ B L 0)), iI (tkZ B L 0).s, iV') := t1
  have mset := mSet (x := x) (m := cpB M.aM 0 9 212) (iE := 0) (iP := -1) hdd hB c3 (iA := iI (tkZ B L 0).e) (iY := iI (kM B (tkZ B L 0))) (iF := iI (tkZ B L 0).s) (iV := iV') ⟨rfl, rfl, rfl, t2⟩
  have cp9 : f_X6_copyBlock (0 : Int32) (9 : Int32) M.aM = some (cpB M.aM 0 9 212) := mCpB (a := 0) (b := 9) (by omega) (by omega) (by omega)
  obtain ⟨fs5, o5⟩ : ∃ fs, g_obj h5 cd 3 = some fs := ⟨_, g_obj_s (u5.c0 F c1)⟩
  unfold f_X0_load f_X6_load f_X6_load_J32 f_X6_load_J42 f_X1_load f_X6_begin
  rw [ob, gB_s, show g_new h n (.inr (2, [.int 0, .int 0, .int 0, .int 0, .null])) = some (n, g_up h n (.inr (2, [.int 0, .int 0, .int 0, .int 0, .null])), n + 1) from rfl, gT3_s, e5, gB_s, o5, gB_s, cp9, gB_s, c4, t1', gT4_s, gT6_s]
  cases hp : pSet B L with
  | inl er =>
    obtain ⟨c, p⟩ := er
    rw [hp] at hset mset
    obtain ⟨m', a1, a2, a3, a4, y1, y2⟩ := mset
    obtain ⟨h6, n6, y, e6, u6, hy⟩ := hset
    rw [e6, gTX_r, if_pos rfl, y1, gT8_s, if_pos rfl]
    have cp0 : f_X6_copyBlock (9 : Int32) (0 : Int32) m' = some (cpB m' 9 0 212) := mCpB (a := 9) (b := 0) (by omega) (by omega) (by omega)
    have U6 : gPas h n h6 n6 noD := u5.tr u6 fun b hb hD => by
      have hD : b = n := hD
      omega
    have k1 := U6.c0 F c1
    have ly := u6.2.1.lt hy
    have yc : y ≠ cd := fun z => by rw [z, k1] at hy; cases hy
    have lc := F.lt c1
    have hn6 := U6.1
    generalize e7 : g_up h6 cd (clO cd st (iI L) (iI c) M.iP M.iW) = h7
    have k7 : h7 cd = some (clO cd st (iI L) (iI c) M.iP M.iW) := by rw [← e7, g_up_s]
    have y7 : h7 y = some (.inr (9, [.int (iI c), .int (iI p)])) := by rw [← e7, g_up_n yc]; exact hy
    generalize e8 : g_up h7 cd (clO cd st (iI L) (iI c) (iI p) M.iW) = h8
    have k8 : h8 cd = some (clO cd st (iI L) (iI c) (iI p) M.iW) := by rw [← e8, g_up_s]
    generalize e9 : g_up h8 n6 (.inr (11, [])) = h9
    have k9 : h9 cd = some (clO cd st (iI L) (iI c) (iI p) M.iW) := by rw [← e9, g_up_n (by omega)]; exact k8
    generalize e10 : g_up h9 cd (clO cd st 0 (iI c) (iI p) M.iW) = h10
    have rj : f_X1_rejected cd y h6 n6 = some (n6, h9, n6 + 1) := by
      unfold f_X1_rejected
      rw [fI_at hy rfl, gB_s, show g_pf h6 cd 3 2 (.int (iI c)) = some h7 from by rw [pf_at k1 (by show _ < 10; decide), ← e7]; rfl, gB_s, fI_at y7 rfl, gB_s, show g_pf h7 cd 3 3 (.int (iI p)) = some h8 from by rw [pf_at k7 (by show _ < 10; decide), ← e8]; rfl, gB_s, show g_new h8 n6 (.inr (11, [])) = some (n6, h9, n6 + 1) from by rw [← e9]; rfl, gT3_s]
    have x9 : g_xcl h9 n6 = some 11 := by rw [← e9]; exact gX_new ⟨by decide, by decide⟩
    have x10 : g_xcl h10 n6 = some 11 := by
      have : h10 n6 = some (.inr (11, [])) := by rw [← e10, g_up_n (by omega), ← e9, g_up_s]
      unfold g_xcl
      rw [this]
      exact if_pos ⟨by decide, by decide⟩
    have same : ∀ b, b ≠ cd → b ≠ n6 → h10 b = h6 b := fun b b1 b2 => by rw [← e10, g_up_n b1, ← e9, g_up_n b2, ← e8, g_up_n b1, ← e7, g_up_n b1]
    have U10 : gPas h n h10 (n6 + 1) (DC cd) := ⟨by omega, fun b hb => by rw [same b (by omega) (by omega)]; exact U6.2.1 b (by omega), fun b hb hD => by
      rw [same b (fun z => hD (.inl z)) (by omega)]; exact U6.2.2 b hb fun z => z⟩
    have k10 : h10 cd = some (clO cd st 0 (iI c) (iI p) M.iW) := by rw [← e10, g_up_s]
    obtain ⟨x1, x2, x3, x4, x5, x6, x7, x8⟩ := w0.cl U10
    have eq := sc_back y2
    have hl6 := w8.2.1
    refine ⟨1, 0, cpB m' 9 0 212, M.aS, M.iU, 0, iI c, iI p, a1, a2, a3, a4, ⟨h10, n6 + 1, ?_, x1, fun z => absurd z (by decide), gW_H (HS' := HS) (VS' := VS) x1 w1 x2 x3 (M' := (cpB m' 9 0 212, M.aS, M.iU, M.aB, 0, iI c, iI p, M.aR, M.iW, 1, M.aT, M.aC, M.aH, M.aE, M.aQ, a1, a2, a3, a4, M.aK)) ⟨k10, ⟨f, 0, ?_, by omega, rfl, fun i hi => absurd hi (Nat.not_lt_zero i)⟩, ⟨gg, ?_⟩, ⟨kk, W, ?_, c8, c9, c10⟩⟩ x4 w6 (BlkAt_sh w6 (fun j hj => eq _ (by omega)) w7) x5 w9 (fun j hj => ?_) x7 (fun i hi => ?_) w13⟩, ?_⟩
    · rw [g_obj_s k1, gB_s, rj, gT3_s, x9, gB_s, show g_pf h9 cd 3 1 (.int (0 : Int32)) = some h10 from by rw [pf_at k9 (by show _ < 10; decide), ← e10]; rfl, gB_s, x10, gB_s, gTX_r, if_pos rfl]
    · rw [same _ (by omega) (by omega)]; exact U6.c0 F c2
    · rw [same _ (by omega) (by have := F.lt c6; omega)]; exact U6.c0 F c6
    · rw [same _ (by omega) (by have := F.lt c7; omega)]; exact U6.c0 F c7
    · obtain ⟨b1, b2, b3⟩ := x6 j hj
      exact ⟨b1, BlkAt_sh b3 (fun k hk => eq _ (by omega)) b2, b3⟩
    · rcases x8 i hi with ⟨b1, b2⟩ | ⟨v, b1, b2, b3, b4, b5⟩
      · exact .inl ⟨b1, b2⟩
      · exact .inr ⟨v, b1, b2, b3, BlkAt_sh b5 (fun k hk => eq _ (by omega)) b4, b5⟩
    · rw [cp0, gB_s, if_pos rfl, mF1, gT2_s, if_neg (by decide)]
  | inr S1 =>
    rw [hp] at hset mset
    obtain ⟨m', a1, a2, a3, a4, y1, hw1, hM1, y2⟩ := mset
    obtain ⟨h6, n6, sa6, e6, t6, u6⟩ := hset
    rw [e6, gTX_l, y1, gT8_s, if_neg (by decide), if_neg (by decide), mF0, gT2_s, if_pos rfl]
    have U6 : gPas h n h6 n6 noD := u5.tr u6 fun b hb hD => by
      have hD : b = n := hD
      omega
    have k1 := U6.c0 F c1
    have lc := F.lt c1
    have hn6 := u6.1
    generalize e7 : g_up h6 cd (clO cd (n + 1) (iI L) M.iE M.iP M.iW) = h7
    have k7 : h7 cd = some (clO cd (n + 1) (iI L) M.iE M.iP M.iW) := by rw [← e7, g_up_s]
    generalize e8 : g_up h7 cd (clO cd (n + 1) 0 M.iE M.iP M.iW) = h8
    have k8 : h8 cd = some (clO cd (n + 1) 0 M.iE M.iP M.iW) := by rw [← e8, g_up_s]
    generalize e9 : g_up h8 cd (clO cd (n + 1) 0 0 M.iP M.iW) = h9
    have k9 : h9 cd = some (clO cd (n + 1) 0 0 M.iP M.iW) := by rw [← e9, g_up_s]
    generalize e10 : g_up h9 cd (clO cd (n + 1) 0 0 (-1) M.iW) = h10
    have k10 : h10 cd = some (clO cd (n + 1) 0 0 (-1) M.iW) := by rw [← e10, g_up_s]
    have same1 : ∀ b, b ≠ cd → h10 b = h6 b := fun b b1 => by rw [← e10, g_up_n b1, ← e9, g_up_n b1, ← e8, g_up_n b1, ← e7, g_up_n b1]
    have d10 : DqAt h10 (cd + 7) hd len hs := (dq_0 F U6 w8).keep fun b e hb z => by rw [same1 b (by omega)]; exact hb
    obtain ⟨h11, e11, d11, f11⟩ := dClr d10
    obtain ⟨gs, g10⟩ := d_obj d10
    have k11 : h11 cd = some (clO cd (n + 1) 0 0 (-1) M.iW) := by rw [f11 _ (by omega) (by omega)]; exact k10
    have v11 : h11 (cd + 9) = some (.inl (4, 2, .inr (.inr (.inr (.inr fv))))) := by rw [f11 _ (by omega) (by omega), same1 _ (by omega)]; exact U6.c0 F w11
    generalize e12 : g_up h11 (cd + 9) (.inl (4, 2, .inr (.inr (.inr (.inr (va_up fv 0 none)))))) = h12
    have k12 : h12 cd = some (clO cd (n + 1) 0 0 (-1) M.iW) := by rw [← e12, g_up_n (by omega)]; exact k11
    have v12 : h12 (cd + 9) = some (.inl (4, 2, .inr (.inr (.inr (.inr (va_up fv 0 none)))))) := by rw [← e12, g_up_s]
    generalize e13 : g_up h12 (cd + 9) (.inl (4, 2, .inr (.inr (.inr (.inr (va_up (va_up fv 0 none) 1 none)))))) = h13
    have k13 : h13 cd = some (clO cd (n + 1) 0 0 (-1) M.iW) := by rw [← e13, g_up_n (by omega)]; exact k12
    have v13 : h13 (cd + 9) = some (.inl (4, 2, .inr (.inr (.inr (.inr (va_up (va_up fv 0 none) 1 none)))))) := by rw [← e13, g_up_s]
    have same : ∀ b, b ≠ cd → b ≠ cd + 7 → b ≠ cd + 8 → b ≠ cd + 9 → h13 b = h6 b := fun b b1 b2 b3 b4 => by rw [← e13, g_up_n b4, ← e12, g_up_n b4, f11 b b2 b3, same1 b b1]
    have d13 : DqAt h13 (cd + 7) 0 0 hs := d11.keep fun b e hb z => by rw [← e13, g_up_n (by omega), ← e12, g_up_n (by omega)]; exact hb
    have kS : ∀ b e, h6 b = some e → kSt e → h13 b = some e := fun b e hb he => by
      obtain ⟨-, -, x3, f3, x4, -⟩ := dq_0 F U6 w8
      have v6 := U6.c0 F w11
      rw [same b (fun z => by rw [z, k1] at hb; cases hb; exact kS_noO ⟨by decide, by decide, by decide⟩ he) (fun z => by rw [z, x3] at hb; cases hb; exact kS_noO ⟨by decide, by decide, by decide⟩ he) (fun z => by rw [z, x4] at hb; cases hb; exact kS_no3 (by decide) he) (fun z => by rw [z, v6] at hb; cases hb; exact kS_no (by decide) he)]
      exact hb
    have t13 := t6.kS hw1 kS
    obtain ⟨fs4, o4⟩ := a_obj t13
    have eqs : (upd (upd M.aS 0 0) 1 0) 0 = 0 ∧ (upd (upd M.aS 0 0) 1 0) 1 = 0 := ⟨rfl, rfl⟩
    refine ⟨0, iI S1.n, m', upd (upd M.aS 0 0) 1 0, 0, 0, 0, -1, a1, a2, a3, a4, pr_of (h' := h13) (n' := n6) (st' := n + 1) (S' := S1) (sa' := sa6) (len' := 0) (hd' := 0) (hs' := hs) (HS' := HS) (fv' := va_up (va_up fv 0 none) 1 none) (VS' := VS) ?_ (mR_st w2 fun b r => by rw [same b (by unfold rgn at r; omega) (by unfold rgn at r; omega) (by unfold rgn at r; omega) (by unfold rgn at r; omega), U6.2.2 b (by unfold rgn at r; omega) fun z => z]) w1 (fun b hb => by rw [same b (by omega) (by omega) (by omega) (by omega)]; exact u6.2.1 b hb) ?_ ⟨k13, ⟨f, 0, ?_, by omega, rfl, fun i hi => absurd hi (Nat.not_lt_zero i)⟩, ⟨gg, ?_⟩, ⟨kk, W, ?_, c8, c9, c10⟩⟩ t13 hw1 hM1 d13 rfl (fun j hj => absurd hj (Nat.not_lt_zero j)) v13 (fun i hi => .inl ?_) ⟨fun j hj => absurd hj (Nat.not_lt_zero j), fun j k hj => absurd hj (Nat.not_lt_zero j), fun i hi => ⟨fun z => ?_, fun j hj => absurd hj (Nat.not_lt_zero j)⟩⟩, ?_⟩
    · rw [show g_pf h6 cd 3 4 (.ref (n + 1)) = some h7 from by rw [pf_at k1 (by show _ < 10; decide), ← e7]; rfl, gB_s, show g_pf h7 cd 3 1 (.int (0 : Int32)) = some h8 from by rw [pf_at k7 (by show _ < 10; decide), ← e8]; rfl, gB_s, show g_pf h8 cd 3 2 (.int (0 : Int32)) = some h9 from by rw [pf_at k8 (by show _ < 10; decide), ← e9]; rfl, gB_s, show g_pf h9 cd 3 3 (.int (-1 : Int32)) = some h10 from by rw [pf_at k9 (by show _ < 10; decide), ← e10]; rfl, gB_s, fA_at k10 rfl, gB_s, g10, gB_s, e11, gB_s, fA_at k11 rfl, gB_s, show g_sQ h11 (cd + 9) 4 (0 : Int32) none = some h12 from by rw [← e12]; exact sQ_at (a := 0) (j := 0) v11 rfl (by omega) (by decide), gB_s, fA_at k12 rfl, gB_s, show g_sQ h12 (cd + 9) 4 (1 : Int32) none = some h13 from by rw [← e13]; exact sQ_at (a := 1) (j := 1) v12 rfl (by omega) (by decide), gB_s, fA_at k13 rfl, gB_s, o4, gB_s, a_size t13, gB_s]
    · obtain ⟨⟨g1, r1⟩, ⟨g2, r2⟩⟩ := w3.mono F U6
      exact ⟨⟨g1, by rw [same _ (by omega) (by omega) (by omega) (by omega)]; exact r1⟩, ⟨g2, by rw [same _ (by omega) (by omega) (by omega) (by omega)]; exact r2⟩⟩
    · rw [same _ (by omega) (by omega) (by omega) (by omega)]; exact U6.c0 F c2
    · rw [same _ (by omega) (by omega) (by omega) (by omega)]; exact U6.c0 F c6
    · rw [same _ (by omega) (by omega) (by omega) (by omega)]; exact U6.c0 F c7
    · have hi : i = 0 ∨ i = 1 := by omega
      rcases hi with z | z <;> subst z <;> exact ⟨rfl, rfl⟩
    · have hi : i = 0 ∨ i = 1 := by omega
      rcases hi with y | y <;> subst y <;> cases z
    · rw [show vp_nar .boolean (0 : Int32) = 0 from by decide, show g_wa 2 M.aS (0 : Int32) (0 : Int32) = some (upd M.aS 0 0) from wa_at (a := 0) (j := 0) rfl (by omega) (by decide), gB_s, show g_wa 2 (upd M.aS 0 0) (1 : Int32) (0 : Int32) = some (upd (upd M.aS 0 0) 1 0) from wa_at (a := 1) (j := 1) rfl (by omega) (by decide), gB_s, show g_ra 2120 m' (1 : Int32) = some (iI S1.n) from b_n hM1, gB_s]
end LD
