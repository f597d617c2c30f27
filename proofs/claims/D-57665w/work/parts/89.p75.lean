/-! THE LAW'S LOOP -/
theorem nat32 {k : Nat} : Int32.ofNat k = iI (k : Int) := by
  apply Int32.toBitVec_inj.mp
  show BitVec.ofNat 32 k = BitVec.ofInt 32 k
  rw [BitVec.ofInt_natCast]
section LW
variable {x : gV} {zL : Nat} {zx : Nat → Int32} {cd o : Nat}
theorem law_L28 (hd : ∀ i j, i < g_tN → j < g_tN → x.2.2.1 i = x.2.2.1 j → i = j) (hL : zL ≤ 144) : ∀ (fu i : Nat) (h : gH) (n : Nat), i ≤ zL → zL < i + 6 * fu → gWx cd o h n → gL3 (f_L_law_L28 x zL zx cd o (o + 11) (o + 12)) fu (iI i) h n = some (1 : Int32) := by
  intro fu
  induction fu with
  | zero => intro i h n h1 h2; omega
  | succ fu ih =>
    intro i h n h1 h2 w
    rw [gL3_su]
    by_cases hq : i + 6 ≤ zL
    · have hr : ∀ h n, gWx cd o h n → gL3 (f_L_law_L28 x zL zx cd o (o + 11) (o + 12)) fu (iI i + (6 : Int32)) h n = some (1 : Int32) := fun h n w => by
        have := ih (i + 6) h n (by omega) (by omega) w
        rw [iI_6, iI_add]
        exact this
      generalize gL3 (f_L_law_L28 x zL zx cd o (o + 11) (o + 12)) fu = r at hr ⊢
      unfold f_L_law_L28
      rw [nat32, iI_6, iI_sub, if_neg (by rw [iI_lt (by omega) (by omega) (by omega) (by omega)]; omega), ra_at (j := i) (x := zx i) rfl (by omega) (by omega) rfl, gB_s]
      rw [← iI_6] at *
      generalize zx i = v
      by_cases c0 : v &&& (63 : Int32) = 0
      · rw [if_pos c0]; exact lc_append w hq hL hr
      rw [if_neg c0]
      by_cases c1 : v &&& (63 : Int32) = 1
      · rw [if_pos c1]; exact lc_truncate w hq hL hr
      rw [if_neg c1]
      by_cases c2 : v &&& (63 : Int32) = 2
      · rw [if_pos c2]; exact lc_load w hq hL hd hr
      rw [if_neg c2]
      by_cases c3 : v &&& (63 : Int32) = 3
      · rw [if_pos c3]; exact lc_errorCode w hq hL hr
      rw [if_neg c3]
      by_cases c4 : v &&& (63 : Int32) = 4
      · rw [if_pos c4]; exact lc_errorPosition w hq hL hr
      rw [if_neg c4]
      by_cases c5 : v &&& (63 : Int32) = 5
      · rw [if_pos c5]; exact lc_cellCount w hq hL hr
      rw [if_neg c5]
      by_cases c6 : v &&& (63 : Int32) = 6
      · rw [if_pos c6]; exact lc_siblingCount w hq hL hr
      rw [if_neg c6]
      by_cases c7 : v &&& (63 : Int32) = 7
      · rw [if_pos c7]; exact lc_nameByte w hq hL hr
      rw [if_neg c7]
      by_cases c8 : v &&& (63 : Int32) = 8
      · rw [if_pos c8]; exact lc_findSibling w hq hL hr
      rw [if_neg c8]
      by_cases c9 : v &&& (63 : Int32) = 9
      · rw [if_pos c9]; exact lc_value w hq hL hr
      rw [if_neg c9]
      by_cases c10 : v &&& (63 : Int32) = 10
      · rw [if_pos c10]; exact lc_owner w hq hL hr
      rw [if_neg c10]
      by_cases c11 : v &&& (63 : Int32) = 11
      · rw [if_pos c11]; exact lc_worth w hq hL hr
      rw [if_neg c11]
      by_cases c12 : v &&& (63 : Int32) = 12
      · rw [if_pos c12]; exact lc_total w hq hL hr
      rw [if_neg c12]
      by_cases c13 : v &&& (63 : Int32) = 13
      · rw [if_pos c13]; exact lc_worthOfShare w hq hL hr
      rw [if_neg c13]
      by_cases c14 : v &&& (63 : Int32) = 14
      · rw [if_pos c14]; exact lc_shareSize w hq hL hr
      rw [if_neg c14]
      by_cases c15 : v &&& (63 : Int32) = 15
      · rw [if_pos c15]; exact lc_pieceCount w hq hL hr
      rw [if_neg c15]
      by_cases c16 : v &&& (63 : Int32) = 16
      · rw [if_pos c16]; exact lc_freeCount w hq hL hr
      rw [if_neg c16]
      by_cases c17 : v &&& (63 : Int32) = 17
      · rw [if_pos c17]; exact lc_mark w hq hL hr
      rw [if_neg c17]
      by_cases c18 : v &&& (63 : Int32) = 18
      · rw [if_pos c18]; exact lc_favouriteFreeCell w hq hL hr
      rw [if_neg c18]
      by_cases c19 : v &&& (63 : Int32) = 19
      · rw [if_pos c19]; exact lc_envies w hq hL hr
      rw [if_neg c19]
      by_cases c20 : v &&& (63 : Int32) = 20
      · rw [if_pos c20]; exact lc_isMild w hq hL hr
      rw [if_neg c20]
      by_cases c21 : v &&& (63 : Int32) = 21
      · rw [if_pos c21]; exact lc_envyCount w hq hL hr
      rw [if_neg c21]
      by_cases c22 : v &&& (63 : Int32) = 22
      · rw [if_pos c22]; exact lc_strongEnvyCount w hq hL hr
      rw [if_neg c22]
      by_cases c23 : v &&& (63 : Int32) = 23
      · rw [if_pos c23]; exact lc_mostEnvied w hq hL hr
      rw [if_neg c23]
      by_cases c24 : v &&& (63 : Int32) = 24
      · rw [if_pos c24]; exact lc_isSatisfied w hq hL hr
      rw [if_neg c24]
      by_cases c25 : v &&& (63 : Int32) = 25
      · rw [if_pos c25]; exact lc_satisfiedCount w hq hL hr
      rw [if_neg c25]
      by_cases c26 : v &&& (63 : Int32) = 26
      · rw [if_pos c26]; exact lc_envyCycleLength w hq hL hr
      rw [if_neg c26]
      by_cases c27 : v &&& (63 : Int32) = 27
      · rw [if_pos c27]; exact lc_envyCycleMember w hq hL hr
      rw [if_neg c27]
      by_cases c28 : v &&& (63 : Int32) = 28
      · rw [if_pos c28]; exact lc_wouldSwap w hq hL hr
      rw [if_neg c28]
      by_cases c29 : v &&& (63 : Int32) = 29
      · rw [if_pos c29]; exact lc_totalWelfare w hq hL hr
      rw [if_neg c29]
      by_cases c30 : v &&& (63 : Int32) = 30
      · rw [if_pos c30]; exact lc_leastWelfare w hq hL hr
      rw [if_neg c30]
      by_cases c31 : v &&& (63 : Int32) = 31
      · rw [if_pos c31]; exact lc_welfareProduct w hq hL hr
      rw [if_neg c31]
      by_cases c32 : v &&& (63 : Int32) = 32
      · rw [if_pos c32]; exact lc_greatestTotalWelfare w hq hL hr
      rw [if_neg c32]
      by_cases c33 : v &&& (63 : Int32) = 33
      · rw [if_pos c33]; exact lc_greatestContiguousWelfare w hq hL hr
      rw [if_neg c33]
      by_cases c34 : v &&& (63 : Int32) = 34
      · rw [if_pos c34]; exact lc_bestLeastWelfare w hq hL hr
      rw [if_neg c34]
      by_cases c35 : v &&& (63 : Int32) = 35
      · rw [if_pos c35]; exact lc_cutCount w hq hL hr
      rw [if_neg c35]
      by_cases c36 : v &&& (63 : Int32) = 36
      · rw [if_pos c36]; exact lc_satisfaction w hq hL hr
      rw [if_neg c36]
      by_cases c37 : v &&& (63 : Int32) = 37
      · rw [if_pos c37]; exact lc_meanPieces w hq hL hr
      rw [if_neg c37]
      by_cases c38 : v &&& (63 : Int32) = 38
      · rw [if_pos c38]; exact lc_inconsistencies w hq hL hr
      rw [if_neg c38]
      by_cases c39 : v &&& (63 : Int32) = 39
      · rw [if_pos c39]; exact lc_cutFor w hq hL hr
      rw [if_neg c39]
      by_cases c40 : v &&& (63 : Int32) = 40
      · rw [if_pos c40]; exact lc_welfareByKnife w hq hL hr
      rw [if_neg c40]
      by_cases c41 : v &&& (63 : Int32) = 41
      · rw [if_pos c41]; exact lc_welfareByRobin w hq hL hr
      rw [if_neg c41]
      by_cases c42 : v &&& (63 : Int32) = 42
      · rw [if_pos c42]; exact lc_bestFirst w hq hL hr
      rw [if_neg c42]
      by_cases c43 : v &&& (63 : Int32) = 43
      · rw [if_pos c43]; exact lc_give w hq hL hr
      rw [if_neg c43]
      by_cases c44 : v &&& (63 : Int32) = 44
      · rw [if_pos c44]; exact lc_release w hq hL hr
      rw [if_neg c44]
      by_cases c45 : v &&& (63 : Int32) = 45
      · rw [if_pos c45]; exact lc_swapShares w hq hL hr
      rw [if_neg c45]
      by_cases c46 : v &&& (63 : Int32) = 46
      · rw [if_pos c46]; exact lc_setValue w hq hL hr
      rw [if_neg c46]
      by_cases c47 : v &&& (63 : Int32) = 47
      · rw [if_pos c47]; exact lc_divideAndChoose w hq hL hr
      rw [if_neg c47]
      by_cases c48 : v &&& (63 : Int32) = 48
      · rw [if_pos c48]; exact lc_movingKnife w hq hL hr
      rw [if_neg c48]
      by_cases c49 : v &&& (63 : Int32) = 49
      · rw [if_pos c49]; exact lc_roundRobin w hq hL hr
      rw [if_neg c49]
      by_cases c50 : v &&& (63 : Int32) = 50
      · rw [if_pos c50]; exact lc_rotate w hq hL hr
      rw [if_neg c50]
      by_cases c51 : v &&& (63 : Int32) = 51
      · rw [if_pos c51]; exact lc_runScript w hq hL hd hr
      rw [if_neg c51]
      by_cases c52 : v &&& (63 : Int32) = 52
      · rw [if_pos c52]; exact lc_undo w hq hL hr
      rw [if_neg c52]
      by_cases c53 : v &&& (63 : Int32) = 53
      · rw [if_pos c53]; exact lc_save w hq hL hr
      rw [if_neg c53]
      by_cases c54 : v &&& (63 : Int32) = 54
      · rw [if_pos c54]; exact lc_restore w hq hL hr
      rw [if_neg c54]
      by_cases c55 : v &&& (63 : Int32) = 55
      · rw [if_pos c55]; exact lc_writeOwners w hq hL hr
      rw [if_neg c55]
      by_cases c56 : v &&& (63 : Int32) = 56
      · rw [if_pos c56]; exact lc_outputByte w hq hL hr
      rw [if_neg c56]
      unfold f_L_law_J2884
      exact hr _ _ w
    · generalize gL3 (f_L_law_L28 x zL zx cd o (o + 11) (o + 12)) fu = r
      unfold f_L_law_L28
      rw [nat32, iI_6, iI_sub, if_pos (by rw [iI_lt (by omega) (by omega) (by omega) (by omega)]; omega)]
end LW
theorem law_ok (x : gV) (hd : ∀ i j, i < g_tN → j < g_tN → x.2.2.1 i = x.2.2.1 j → i = j) (zL : Nat) (zx : Nat → Int32) (hL : zL ≤ 144) (n : Nat) : f_L_law x zL zx (fun _ => none) n = some (1 : Int32) := by
  obtain ⟨h1, o, S', sa', e1, l1, F1, hS, t1, k0, ⟨f1, k1⟩, d1, k9, k10, k11⟩ := cCtor (x := x) (n := n) (hb := fun _ => none) hd (fun _ _ => rfl)
  obtain ⟨m', aB, a1, a2, a3, a4, e2, rB⟩ := mCtor (x := x) (o := o) (hb := h1) hd hS
  unfold f_L_law
  rw [show g_new (fun _ => none) n (.inr (3, [.null, .int 0, .int 0, .int 0, .null, .null, .null, .null, .null, .int 0])) = some (n, g_up (fun _ => none) n (.inr (3, [.null, .int 0, .int 0, .int 0, .null, .null, .null, .null, .null, .int 0])), n + 1) from rfl, gT3_s, e1, gT2_s, show g_new h1 o (.inr (4, [.null, .null, .int 0, .null, .int 0, .int 0, .int 0, .null, .int 0, .int 0, .null, .null, .null, .null, .null, .int 0, .int 0, .int 0, .int 0, .null])) = some (o, g_up h1 o (.inr (4, [.null, .null, .int 0, .null, .int 0, .int 0, .int 0, .null, .int 0, .int 0, .null, .null, .null, .null, .null, .int 0, .int 0, .int 0, .int 0, .null])), o + 1) from rfl, gT3_s, e2, gT2_s]
  have c1 : ¬ (1 : Int32) < 0 ∧ (1 : Int32).toNatClampNeg ≤ 1 := ⟨by decide, by decide⟩
  rw [if_pos c1, gT3_s, if_pos c1, gT3_s]
  have hM : mR (mH h1 o m' (fun _ => 0) 0 aB 0 0 (-1) (fun _ => 0) 0 0 (fun _ => 0) (fun _ => 0) (fun _ => 0) (fun _ => 0) (fun _ => 0) a1 a2 a3 a4 (fun _ => 0)) o = some (m', fun _ => 0, 0, aB, 0, 0, -1, fun _ => 0, 0, 0, fun _ => 0, fun _ => 0, fun _ => 0, fun _ => 0, fun _ => 0, a1, a2, a3, a4, fun _ => 0) := mR_s (M := (m', fun _ => 0, 0, aB, 0, 0, -1, fun _ => 0, 0, 0, fun _ => 0, fun _ => 0, fun _ => 0, fun _ => 0, fun _ => 0, a1, a2, a3, a4, fun _ => 0))
  have hot : ∀ b, ¬ (o ≤ b ∧ b ≤ o + 10) → mH h1 o m' (fun _ => 0) 0 aB 0 0 (-1) (fun _ => 0) 0 0 (fun _ => 0) (fun _ => 0) (fun _ => 0) (fun _ => 0) (fun _ => 0) a1 a2 a3 a4 (fun _ => 0) b = h1 b := fun b hb => mH_ot2 hb
  generalize mH h1 o m' (fun _ => 0) 0 aB 0 0 (-1) (fun _ => 0) 0 0 (fun _ => 0) (fun _ => 0) (fun _ => 0) (fun _ => 0) (fun _ => 0) a1 a2 a3 a4 (fun _ => 0) = h2 at hM hot ⊢
  generalize e3 : g_up h2 (o + 11) (.inl (5, (1 : Int32).toNatClampNeg, .inr (.inl fun _ => 0))) = h3
  generalize e4 : g_up h3 (o + 11 + 1) (.inl (6, (1 : Int32).toNatClampNeg, .inr (.inr (.inr (.inl fun _ => 0))))) = h4
  have lo : ∀ b, b < o → h4 b = h1 b := fun b hb => by
    rw [← e4, g_up_n (by omega), ← e3, g_up_n (by omega), hot b (by omega)]
  have kp : ∀ b e, h1 b = some e → h4 b = some e := fun b e he => by
    rw [lo b (F1.lt he)]; exact he
  have lt1 := F1.lt t1.1
  have hw := mSet_wf hd hS
  refine law_L28 (cd := n) (o := o) hd hL 26 0 h4 (o + 11 + 1 + 1) (Nat.zero_le _) (by omega) ⟨_, n + 13, S', sa', 0, 0, fun _ => 0, fun _ => S', fun _ => none, fun _ => S', ?_, l1, mR_st hM fun b r => ?_, ⟨⟨fun _ => 0, ?_⟩, ⟨fun _ => 0, ?_⟩⟩, ⟨kp _ _ k0, ⟨f1, 0, kp _ _ k1, by omega, rfl, fun i hi => absurd hi (Nat.not_lt_zero i)⟩, ⟨fun _ => 0, kp _ _ k10⟩, ⟨fun _ => 0, 0, kp _ _ k11, by omega, rfl, fun i hi => absurd hi (Nat.not_lt_zero i)⟩⟩, ⟨t1.mono kp, hw, rB⟩, ⟨d1.keep fun b e hb _ => kp b e hb, rfl, fun j hj => absurd hj (Nat.not_lt_zero j)⟩, ⟨kp _ _ k9, fun i hi => .inl ⟨rfl, rfl⟩⟩, fun j hj => absurd hj (Nat.not_lt_zero j), fun j k hj => absurd hj (Nat.not_lt_zero j), fun i hi => ⟨fun z => (by cases z), fun j hj => absurd hj (Nat.not_lt_zero j)⟩⟩
  · intro b hb
    rw [← e4, g_up_n (by omega), ← e3, g_up_n (by omega), hot b (by omega)]
    exact F1 b (by omega)
  · unfold rgn at r
    rw [← e4, g_up_n (by omega), ← e3, g_up_n (by omega)]
  · rw [← e4, g_up_n (by omega), ← e3, g_up_s]; rfl
  · rw [← e4, show o + 12 = o + 11 + 1 from rfl, g_up_s]; rfl
