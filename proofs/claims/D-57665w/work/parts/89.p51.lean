/-! THE SETUP: the reference's parser, 2 -/
section PM2
variable {B : Nat → Int} {L : Nat} {fc g : Nat → Int32} {x : gV}
theorem mNm (hB : byR fc g B L) (hL : L ≤ 600) {t : gTk} (ht : tkG B L t) {bs : Nat} (hbs : bs + 7 < 2120) (hl6 : t.e ≤ t.s + 6) {iE iP iY iV : Int32} : ∀ (d z fu : Nat) (m : Nat → Int32), z + d = t.e → d < fu → t.s ≤ z → (∀ i, t.s + i < z → m (bs + 1 + i) = iI (B (t.s + i))) → ∃ m', gL2 (f_X6_parseNewSibling_L90 (iI bs) g (iI L) iE iP (iI t.e) iY (iI t.s) iV) fu (iI z) m = f_X6_parseNewSibling_J125 (iI bs) m' g (iI L) iE iP (iI t.e) iY (iI t.s) iV ∧ (∀ i, t.s + i < t.e → m' (bs + 1 + i) = iI (B (t.s + i))) ∧ ∀ j, j < bs + 1 ∨ bs + 7 ≤ j → m' j = m j := by
  intro d
  induction d with
  | zero =>
    intro z fu m e hfu hz hm
    obtain ⟨fu, rfl⟩ : ∃ k', fu = k' + 1 := ⟨fu - 1, by omega⟩
    refine ⟨m, ?_, fun i hi => hm i (by omega), fun _ _ => rfl⟩
    show f_X6_parseNewSibling_L90 (iI bs) g (iI L) iE iP (iI t.e) iY (iI t.s) iV (gL2 (f_X6_parseNewSibling_L90 (iI bs) g (iI L) iE iP (iI t.e) iY (iI t.s) iV) fu) _ _ = _
    have := ht.2.1
    unfold f_X6_parseNewSibling_L90
    rw [if_pos (by rw [iI_le (by omega) (by omega) (by omega) (by omega)]; omega)]
  | succ d ih =>
    intro z fu m e hfu hz hm
    obtain ⟨fu, rfl⟩ : ∃ k', fu = k' + 1 := ⟨fu - 1, by omega⟩
    have := ht.2.1
    obtain ⟨b1, b2, -⟩ := hB z (by omega)
    obtain ⟨m', e1, e2, e3⟩ := ih (z + 1) fu (upd m (bs + 1 + (z - t.s)) (iI (B z))) (by omega) (by omega) (by omega) (fun i hi => by
      unfold upd
      by_cases y : t.s + i = z
      · rw [if_pos (by omega), y]
      · rw [if_neg (by omega)]; exact hm i (by omega))
    refine ⟨m', ?_, e2, fun j hj => by rw [e3 j hj]; unfold upd; rw [if_neg (by omega)]⟩
    show f_X6_parseNewSibling_L90 (iI bs) g (iI L) iE iP (iI t.e) iY (iI t.s) iV (gL2 (f_X6_parseNewSibling_L90 (iI bs) g (iI L) iE iP (iI t.e) iY (iI t.s) iV) fu) _ _ = _
    generalize gL2 (f_X6_parseNewSibling_L90 (iI bs) g (iI L) iE iP (iI t.e) iY (iI t.s) iV) fu = r at e1 ⊢
    unfold f_X6_parseNewSibling_L90
    rw [Int.natCast_add, Int.natCast_one] at e1
    rw [if_neg (by rw [iI_le (by omega) (by omega) (by omega) (by omega)]; omega), ra_at (j := z) rfl (by omega) (by decide) b2, gB_s, iI_1, iI_add, iI_add, iI_sub, wa_at (j := bs + 1 + (z - t.s)) (by omega) (by omega) (by decide), gB_s, iI_add]
    exact e1
theorem mSib (hB : byR fc g B L) (hL : L ≤ 600) {S : gS} (hw : WFp S) {t : gTk} (ht : tkG B L t) {m : Nat → Int32} {iE iP iA iY iF iV : Int32} (hr : tkR B t iA iY iF iV) (hM : BlkAt m 0 S) : match pSib B L S t with
    | .inl (c, p) => ∃ m' a1 a2 a3 a4, f_X6_parseNewSibling m g (iI L) iE iP iA iY iF iV = some ((0 : Int32), m', iI c, iI p, a1, a2, a3, a4) ∧ ∀ j, 212 ≤ j → m' j = m j
    | .inr (t', S') => ∃ m' a1 a2 a3 a4, f_X6_parseNewSibling m g (iI L) iE iP iA iY iF iV = some ((1 : Int32), m', iE, iP, a1, a2, a3, a4) ∧ tkR B t' a1 a2 a3 a4 ∧ tkG B L t' ∧ WFp S' ∧ S'.n = S.n + 1 ∧ BlkAt m' 0 S' ∧ ∀ j, 212 ≤ j → m' j = m j := by
  obtain ⟨r1, r2, r3, r4⟩ := hr
  have hc := hw.1
  have hn := hw.2.1
  have hN : g_ra 2120 m (1 : Int32) = some (iI S.n) := b_n hM
  unfold f_X6_parseNewSibling
  by_cases q6 : S.n = 6
  · have e : pSib B L S t = .inl (4, t.s) := by unfold pSib; rw [if_pos q6]
    rw [e]
    refine ⟨m, iA, iY, iF, iV, ?_, fun _ _ => rfl⟩
    unfold f_X6_wrong
    rw [hN, gB_s, if_pos (by rw [q6]; rfl), gT3_s, if_pos (.inl rfl), r3]
    rfl
  · obtain ⟨a1, a2, a3, a4, e1, n1, n2, n3, n4⟩ := mTkR hB hL ht (iY := iY) (iF := iF) (iV := iV)
    have hg1 : tkG B L (tkZ B L t.e) := tkG_z ht.2.1
    rw [hN, gB_s, if_neg (by rw [iI_6, iI_eq (by omega) (by omega) (by omega) (by omega)]; omega), r1, e1, gT4_s, n1, n2, n3]
    generalize et1 : tkZ B L t.e = t1 at n1 n2 n3 n4 hg1
    obtain ⟨u1, u2, u3, u4, u5, u6⟩ := hg1
    unfold f_X6_isShortWord f_X6_wrong
    by_cases k1 : t1.k = 1
    · obtain ⟨v1, v2, v3⟩ := u6 k1
      rw [if_pos ((kM_1 u3).mpr k1), iI_sub]
      by_cases l6 : t1.e - t1.s ≤ 6
      · have hsn := mSn (m := m) (g := g) (a := t1.s) (wl := t1.e - t1.s) (W := fun j => B (t1.s + j)) (S := S) (by have := hM.2.1; simpa using this) hn hw.2.2.2.2 (fun s hs => by
          obtain ⟨y1, y2, -⟩ := hM.2.2.2 s hs
          rw [show 212 * 0 + 26 + 31 * s = 26 + 31 * s by omega] at y1 y2
          exact ⟨y1, y2⟩) (fun j hj => by
          obtain ⟨b1, b2, -⟩ := hB (t1.s + j) (by omega)
          exact ⟨b1, b2⟩) (by omega)
        have e9 : iI ((t1.e : Int) - (t1.s : Int)) = iI ((t1.e - t1.s : Nat) : Int) := by congr 1; omega
        rw [if_pos (by rw [iI_6, iI_le (by omega) (by omega) (by omega) (by omega)]; omega), gT3_s, if_neg (by decide), e9, hsn, gB_s]
        by_cases qn : snZ S (t1.e - t1.s) (fun j => B (t1.s + j)) S.n 0 = -1
        · rw [if_pos (by rw [qn]; rfl), gB_s]
          have e26 : iI 26 + iI (S.n : Int) * iI 31 = iI ((26 + 31 * S.n : Nat) : Int) := by rw [iI_mul, iI_add]; congr 1; omega
          rw [iI_26, iI_31, e26, wa_at (j := 26 + 31 * S.n) rfl (by omega) (by decide), gB_s]
          obtain ⟨m2, x1, x2, x3⟩ := mNm (iE := iE) (iP := iP) (iY := iI (kM B t1 : Nat)) (iV := a4) hB hL ⟨u1, u2, u3, u4, u5, u6⟩ (bs := 26 + 31 * S.n) (by omega) (by omega) (t1.e - t1.s) t1.s gN (upd m (26 + 31 * S.n) (iI (t1.e - t1.s : Nat))) (by omega) (by unfold gN; omega) (Nat.le_refl _) (fun i hi => by omega)
          rw [x1]
          unfold f_X6_parseNewSibling_J125
          obtain ⟨b1, b2, b3, b4, y1, y2⟩ := mTkR hB hL ⟨u1, u2, u3, u4, u5, u6⟩ (iY := iI (kM B t1 : Nat)) (iF := iI t1.s) (iV := a4)
          have hg2 : tkG B L (tkZ B L t1.e) := tkG_z u2
          have hm0 : m2 0 = iI S.c := by
            rw [x3 0 (by omega)]; unfold upd; rw [if_neg (by omega)]
            have := hM.1; simpa using this
          have hv := mVal hB hL (c := S.c) (n := S.n) hc.2 (by omega) S.c 0 gN (tkZ B L t1.e) (fun _ => 0) m2 iE iP b1 b2 b3 b4 (by omega) (by unfold gN; omega) hm0 hg2 y2 (fun i hi => absurd hi (Nat.not_lt_zero i))
          have ep : pSib B L S t = bE (pVal B L S.c 0 (tkZ B L t1.e) fun _ => 0) fun r => bE (pSem B L r.1) fun t4 => .inr (t4, addS S r.2 (nmL B t1.s (t1.e - t1.s))) := by
            unfold pSib pNam
            rw [if_neg q6, et1, if_pos k1, if_pos l6, if_pos qn]
            rfl
          rw [ep, y1, gT4_s]
          have old : ∀ m3 : Nat → Int32, (∀ j, j < 26 + 31 * S.n + 7 ∨ 26 + 31 * S.n + 7 + S.c ≤ j → m3 j = m2 j) → ∀ j, j < 26 + 31 * S.n ∨ 26 + 31 * S.n + 31 ≤ j → m3 j = m j := fun m3 h3 j hj => by
            rw [h3 j (by omega), x3 j (by omega)]; unfold upd; rw [if_neg (by omega)]
          cases hp : pVal B L S.c 0 (tkZ B L t1.e) (fun _ => 0) with
          | inl er =>
            obtain ⟨ec, p⟩ := er
            rw [hp] at hv
            obtain ⟨m3, c1, c2, c3, c4, z1, z2⟩ := hv
            exact ⟨m3, c1, c2, c3, c4, z1, fun j hj => by rw [z2 j hj, x3 j (by omega)]; unfold upd; rw [if_neg (by omega)]⟩
          | inr rr =>
            obtain ⟨t3, f3⟩ := rr
            rw [hp] at hv
            obtain ⟨m3, c1, c2, c3, c4, z1, z2, z3, z4⟩ := hv
            have hpb := pVal_b S.c 0 (tkZ B L t1.e) _ t3 f3 hp (fun i hi => absurd hi (Nat.not_lt_zero i)) hg2
            have hse := mSem (iE := iE) (iP := iP) hB hL hpb.1 z2
            have z1' : gL8 (f_X6_parseNewSibling_L131 (iI (26 + 31 * S.n : Nat)) g (iI L)) gN (0 : Int32) m2 iE iP b1 b2 b3 b4 = f_X6_parseNewSibling_J165 m3 g (iI L) iE iP c1 c2 c3 c4 := z1
            rw [z1']
            unfold f_X6_parseNewSibling_J165
            show match bE (pSem B L t3) fun t4 => .inr (t4, addS S f3 (nmL B t1.s (t1.e - t1.s))) with | .inl (c, p) => _ | .inr (t', S') => _
            cases hq : pSem B L t3 with
            | inl er =>
              obtain ⟨ec, p⟩ := er
              rw [hq] at hse
              have hse' : f_X6_semicolon g (iI L) iE iP c1 c2 c3 c4 = some ((0 : Int32), iI ec, iI p, c1, c2, c3, c4) := hse
              refine ⟨m3, c1, c2, c3, c4, ?_, fun j hj => old m3 z4 j (by omega)⟩
              rw [hse', gT7_s, if_pos rfl]
            | inr t4 =>
              rw [hq] at hse
              obtain ⟨d1, d2, d3, d4, w1, w2⟩ := hse
              have et4 : t4 = tkZ B L t3.e := by
                unfold pSem at hq
                split at hq
                · cases hq; rfl
                · cases hq
              have hm1 : m3 1 = iI S.n := by rw [old m3 z4 1 (by omega)]; have := hM.2.1; simpa using this
              refine ⟨upd m3 1 (iI (S.n + 1 : Nat)), d1, d2, d3, d4, ?_, w2, by rw [et4]; exact tkG_z hpb.1.2.1, addS_wf hw (by omega) (fun k hk => hpb.2 k (by omega)) ⟨by omega, l6⟩ (fun i hi => v3 _ (by omega) (by omega)), rfl, ⟨?_, ?_, ?_, ?_⟩, fun j hj => by unfold upd; rw [if_neg (by omega)]; exact old m3 z4 j (by omega)⟩
              · rw [w1, gT7_s, if_neg (by decide), show g_ra 2120 m3 (1 : Int32) = some (iI S.n) from ra_at (a := 1) (j := 1) rfl (by decide) (by decide) hm1, gB_s, iI_1, iI_add, wa_at (a := 1) (j := 1) rfl (by decide) (by decide), gB_s, Int.natCast_add]
                rfl
              · show upd m3 1 _ 0 = iI S.c
                unfold upd; rw [if_neg (by omega), old m3 z4 0 (by omega)]
                have := hM.1; simpa using this
              · show upd m3 1 _ 1 = iI (S.n + 1 : Nat)
                unfold upd; rw [if_pos rfl]
              · intro k hk
                have hk : k < S.c := hk
                show upd m3 1 _ (212 * 0 + 2 + k) = iI (S.ow k)
                unfold upd; rw [if_neg (by omega), old m3 z4 _ (by omega)]
                exact hM.2.2.1 k hk
              · intro s hs
                have hs : s < S.n + 1 := hs
                by_cases y : s = S.n
                · subst y
                  have nme : (addS S f3 (nmL B t1.s (t1.e - t1.s))).nm S.n = nmL B t1.s (t1.e - t1.s) := if_pos rfl
                  have nve : (addS S f3 (nmL B t1.s (t1.e - t1.s))).v S.n = f3 := if_pos rfl
                  rw [nme, nve, nmL_l]
                  refine ⟨?_, fun i hi => ?_, fun k hk => ?_⟩
                  · show upd m3 1 _ (212 * 0 + 26 + 31 * S.n) = _
                    unfold upd; rw [if_neg (by omega), show 212 * 0 + 26 + 31 * S.n = 26 + 31 * S.n by omega, z4 _ (by omega), x3 _ (by omega)]
                    unfold upd; rw [if_pos rfl]
                  · show upd m3 1 _ (212 * 0 + 26 + 31 * S.n + 1 + i) = _
                    unfold upd; rw [if_neg (by omega), show 212 * 0 + 26 + 31 * S.n + 1 + i = 26 + 31 * S.n + 1 + i by omega, z4 _ (by omega), x2 i (by omega), nmL_g hi]
                  · have hk : k < S.c := hk
                    show upd m3 1 _ (212 * 0 + 26 + 31 * S.n + 7 + k) = _
                    unfold upd; rw [if_neg (by omega), show 212 * 0 + 26 + 31 * S.n + 7 + k = 26 + 31 * S.n + 7 + k by omega]
                    exact z3 k hk
                · have hs2 : s < S.n := by omega
                  have nme : (addS S f3 (nmL B t1.s (t1.e - t1.s))).nm s = S.nm s := if_neg y
                  have nve : (addS S f3 (nmL B t1.s (t1.e - t1.s))).v s = S.v s := if_neg y
                  obtain ⟨o1, o2, o3⟩ := hM.2.2.2 s hs2
                  have hls := (hw.2.2.2.2 s hs2).1
                  rw [nme, nve]
                  refine ⟨?_, fun i hi => ?_, fun k hk => ?_⟩
                  · show upd m3 1 _ (212 * 0 + 26 + 31 * s) = _
                    unfold upd; rw [if_neg (by omega), old m3 z4 _ (by omega)]; exact o1
                  · show upd m3 1 _ (212 * 0 + 26 + 31 * s + 1 + i) = _
                    unfold upd; rw [if_neg (by omega), old m3 z4 _ (by omega)]; exact o2 i hi
                  · have hk : k < S.c := hk
                    show upd m3 1 _ (212 * 0 + 26 + 31 * s + 7 + k) = _
                    unfold upd; rw [if_neg (by omega), old m3 z4 _ (by omega)]; exact o3 k hk
        · have e : pSib B L S t = .inl (3, t1.s) := by
            unfold pSib pNam; rw [if_neg q6, et1, if_pos k1, if_pos l6, if_neg qn]; rfl
          rw [e]
          have sb := snZ_b (S := S) (wl := t1.e - t1.s) (W := fun j => B (t1.s + j)) S.n 0
          refine ⟨m, iI t1.e, iI (kM B t1 : Nat), iI t1.s, a4, ?_, fun _ _ => rfl⟩
          rw [if_neg (by rw [iI_n1, iI_eq (by omega) (by omega) (by omega) (by omega)]; exact qn), gT3_s, if_pos (.inl rfl)]
          rfl
      · have e : pSib B L S t = .inl (3, t1.s) := by
          unfold pSib pNam; rw [if_neg q6, et1, if_pos k1, if_neg l6]; rfl
        rw [e]
        refine ⟨m, iI t1.e, iI (kM B t1 : Nat), iI t1.s, a4, ?_, fun _ _ => rfl⟩
        rw [if_neg (by rw [iI_6, iI_le (by omega) (by omega) (by omega) (by omega)]; omega), gT3_s, if_pos rfl, gT3_s, if_pos rfl]
        rfl
    · have e : pSib B L S t = .inl (1, t1.s) := by
        unfold pSib pNam; rw [if_neg q6, et1, if_neg k1]; rfl
      rw [e]
      refine ⟨m, iI t1.e, iI (kM B t1 : Nat), iI t1.s, a4, ?_, fun _ _ => rfl⟩
      rw [if_neg (fun w => k1 ((kM_1 u3).mp w)), gT3_s, if_pos (.inl rfl), gT3_s, if_pos rfl]
      rfl
end PM2
