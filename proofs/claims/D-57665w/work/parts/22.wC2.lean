/-! printed: the walks of the class, 2 -/
set_option maxRecDepth 100000
section GENW
variable {p : Program} {l : Launch} {e : Env} {s : State} {m : MethodId} {args : Array Value} {below : List Frame} {meth : Method} {c : Code} {x : gV} {base : Nat}
abbrev rm_X1_checkIndex : Room := { frames := 8, cells := 1, slots := 6, locals := 160 }
theorem hd_X1_checkIndex : yX1_checkIndex.cls ≠ "java/lang/invoke/MethodHandle" ∧ yX1_checkIndex.cls ≠ "java/lang/invoke/VarHandle" ∧ (parseMethodDescriptor yX1_checkIndex.desc).map (fun d => d.parameters.length) = some 2 := by decide +kernel
set_option maxHeartbeats 2000000 in
theorem w_X1_checkIndex {l : Launch} {x : gV} {base : Nat} (hst : l.stackTraces = false) {z0 : Int32} {z1 : Int32} {h : gH} {n : Nat} {res : (Unit ⊕ gX) × gH × Nat} (hr : f_X1_checkIndex z0 z1 h n = some res) : gMX l yX1_checkIndex (ws_ yX1_checkIndex cX1_checkIndex 2 none) rm_X1_checkIndex x base (fun _ => none) [.int z0, .int z1] h n res 1 6 := by
  refine g_metX (cc := cX1_checkIndex) (nL := 2) (ret := none) (by decide) (Nat.le_of_ble_eq_true rfl) (fun p e s m below meth c ls X hnm hxt hl hI => ?_)
  have hl : lv_has ls 2 [(0, .int z0), (1, .int z1)] := hl
  have hx := X.1
  have hb := X.2.1
  have hcc : 0 + 1 ≤ 1 ∧ 0 + 6 ≤ 6 := ⟨Nat.le_refl _, Nat.le_refl _⟩
  unfold f_X1_checkIndex at hr
  refine lv_iload_n hx hb dX1_checkIndex_0 rfl (lv_at hl 0 rfl) ?_
  refine lv_if_lt (tgt := 9) hx hb dX1_checkIndex_1 (by decide) (fun c9 => ?_) (fun c9 => ?_)
  · replace hr := gIf_t c9 hr
    refine g_mk0 (cls := "java/lang/IndexOutOfBoundsException") (names := ["java/lang/RuntimeException", "java/lang/Exception"]) (ik := 148) (ic := 150) (ci := 12) X hst hI hl (by decide) (by decide) q1181 q124 gxs_IOE_150 rfl dX1_checkIndex_9 dX1_checkIndex_12 dX1_checkIndex_13 (Nat.le_of_ble_eq_true rfl) (Nat.le_of_ble_eq_true rfl) (show 0 + 1 ≤ 1 from by omega) (show 0 + 6 ≤ 6 from by omega) hr (fun q4 h5 n6 H locs hI hr => ?_)
    obtain ⟨k7, hk8, hr⟩ := gB_i hr
    refine g_athrow X hI hk8 dX1_checkIndex_16 (fun hxc => ?_)
    have hr := gS_i hr
    subst hr
    exact g_xout X hI hxc hxt gPs_0 (show (0 + 1) ≤ 1 from by omega) (show (0 + 6) ≤ 6 from by omega)
  · replace hr := gIf_f c9 hr
    refine lv_iload_n hx hb dX1_checkIndex_4 rfl (lv_at hl 0 rfl) ?_
    refine lv_iload_n hx hb dX1_checkIndex_5 rfl (lv_at hl 1 rfl) ?_
    refine lv_icmp_lt (tgt := 17) hx hb dX1_checkIndex_6 (by decide) (fun c9 => ?_) (fun c9 => ?_)
    · replace hr := gIf_t c9 hr
      have hr := gS_i hr
      subst hr
      exact g_xvret X hI (show 0 ≤ 1 from by omega) (show 0 ≤ 6 from by omega) dX1_checkIndex_17
    · replace hr := gIf_f c9 hr
      refine g_mk0 (cls := "java/lang/IndexOutOfBoundsException") (names := ["java/lang/RuntimeException", "java/lang/Exception"]) (ik := 148) (ic := 150) (ci := 12) X hst hI hl (by decide) (by decide) q1181 q124 gxs_IOE_150 rfl dX1_checkIndex_9 dX1_checkIndex_12 dX1_checkIndex_13 (Nat.le_of_ble_eq_true rfl) (Nat.le_of_ble_eq_true rfl) (show 0 + 1 ≤ 1 from by omega) (show 0 + 6 ≤ 6 from by omega) hr (fun q12 h13 n14 H locs hI hr => ?_)
      obtain ⟨k15, hk16, hr⟩ := gB_i hr
      refine g_athrow X hI hk16 dX1_checkIndex_16 (fun hxc => ?_)
      have hr := gS_i hr
      subst hr
      exact g_xout X hI hxc hxt gPs_0 (show (0 + 1) ≤ 1 from by omega) (show (0 + 6) ≤ 6 from by omega)
abbrev rm_X1_checkSiblings : Room := { frames := 9, cells := 4, slots := 24, locals := 181 }
theorem hd_X1_checkSiblings : yX1_checkSiblings.cls = RX1 ∧ yX1_checkSiblings.cls ≠ "java/lang/invoke/MethodHandle" ∧ yX1_checkSiblings.cls ≠ "java/lang/invoke/VarHandle" ∧ (parseMethodDescriptor yX1_checkSiblings.desc).map (fun d => d.parameters.length) = some 1 := by decide +kernel
set_option maxHeartbeats 2000000 in
theorem w_X1_checkSiblings_L2 {z0 : Nat} {z1 : Nat} {res : (Unit ⊕ gX) × gH × Nat} (X : gXX x base RX1 cX1_checkSiblings 3 none p l s m args meth c) (hst : l.stackTraces = false) (hxt : c.exceptionTable.toList = tableOf []) : ∀ (k : Nat) {z2 : Int32} {h : gH} {n : Nat} {H : Heap} {locs : List Loc} {ls : Array Slot} {cells slots : Nat}, gL3 (f_X1_checkSiblings_L2 z0 z1) k z2 h n = some res → gI x base s.heap h n H locs → lv_has ls 3 [(0, .ref z0), (1, .ref z1), (2, .int z2)] → (cells + (k * 1 + (1)) ≤ 4 ∧ slots + (k * 6 + (6)) ≤ 24) → W p l e rm_X1_checkSiblings s m args below meth c H locs cells slots (vx_MQ below (gXQ x base (fun _ => none) res) (gXC x base res) args s 4 24 (fun q => base ≤ q)) (F0 m 2 ls []) := by
  have hx := X.1
  have hb := X.2.1
  intro k
  induction k with
  | zero =>
    intros
    rename_i hr _ _ _
    exact nomatch (show (none : Option _) = some _ from hr)
  | succ k ih =>
    intro z2 h n H locs ls cells slots hr hI hl hcc
    replace hr : f_X1_checkSiblings_L2 z0 z1 (gL3 (f_X1_checkSiblings_L2 z0 z1) k) z2 h n = some res := hr
    unfold f_X1_checkSiblings_L2 at hr
    refine lv_iload_n hx hb dX1_checkSiblings_2 rfl (lv_at hl 2 rfl) ?_
    refine lv_aload_n hx hb dX1_checkSiblings_3 rfl (lv_at hl 1 rfl) ?_
    refine g_alen X hI (t := 0) rfl hr dX1_checkSiblings_4 (fun v1 hr => ?_)
    refine lv_icmp_ge (tgt := 27) hx hb dX1_checkSiblings_5 (by decide) (fun c9 => ?_) (fun c9 => ?_)
    · replace hr := gIf_t c9 hr
      have hr := gS_i hr
      subst hr
      exact g_xvret X hI (show cells ≤ 4 from by omega) (show slots ≤ 24 from by omega) dX1_checkSiblings_27
    · replace hr := gIf_f c9 hr
      refine lv_aload_n hx hb dX1_checkSiblings_8 rfl (lv_at hl 1 rfl) ?_
      refine lv_iload_n hx hb dX1_checkSiblings_9 rfl (lv_at hl 2 rfl) ?_
      refine g_iald X hI hr dX1_checkSiblings_10 (fun v2 hr => ?_)
      refine lv_aload_n hx hb dX1_checkSiblings_11 rfl (lv_at hl 0 rfl) ?_
      refine g_getA (C := RX1) (T := TX1) (N := 10) X hI in_X1 rfl 4 (by decide) q760 (fun _ h9 => h9) hr dX1_checkSiblings_12 (fun v3 hr => ?_)
      obtain ⟨_, ho4, hr⟩ := gB_i hr
      obtain ⟨v6, hc5, hr⟩ := gB_i hr
      refine gRun_i (g_runV X hI (w_X2_size hc5) ho4 rfl hl (lw_V q642 q643 q644 q97 q645) rfl rfl hd_X2_size ⟨Nat.le_of_ble_eq_true rfl, Nat.le_of_ble_eq_true rfl⟩ (as := []) (rest := [.int v2]) rfl rfl (Nat.le_of_ble_eq_true rfl) ⟨(show cells + 0 ≤ 4 from by omega), (show slots + 0 ≤ 24 from by omega)⟩ dX1_checkSiblings_15) (fun H locs hI => ?_)
      rcases gTX_i hr with ⟨u9, h9, n10, hc7, hr⟩ | ⟨q8, h11, n12, hc7, hr⟩
      · refine gXRet_v (g_xrunS X hI (w_X1_checkIndex hst hc7) hl (lw_S q1178 q1179 q96 q1180) rfl rfl hd_X1_checkIndex ⟨Nat.le_of_ble_eq_true rfl, Nat.le_of_ble_eq_true rfl⟩ (as := [.int v2, .int v6]) (rest := []) rfl rfl (Nat.le_of_ble_eq_true rfl) ⟨(show (cells + 0) + 1 ≤ 4 from by omega), (show (slots + 0) + 6 ≤ 24 from by omega)⟩ dX1_checkSiblings_18) (fun H locs hI => ?_)
        refine lv_iinc (v := (z2 + (1 : Int32))) (lv' := [(2, .int (z2 + (1 : Int32))), (0, .ref z0), (1, .ref z1)]) hx hb dX1_checkSiblings_21 hl (k := 2) rfl (g_inc (by decide)) (by decide) rfl (fun ls hl => ?_)
        refine lv_goto (tgt := 2) hx hb dX1_checkSiblings_24 (by decide) ?_
        exact ih hr hI (lv_sub hl [1, 2, 0] rfl) (by omega)
      · refine gXThr (k := q8.1) (q := q8.2) (g_xrunS X hI (w_X1_checkIndex hst hc7) hl (lw_S q1178 q1179 q96 q1180) rfl rfl hd_X1_checkIndex ⟨Nat.le_of_ble_eq_true rfl, Nat.le_of_ble_eq_true rfl⟩ (as := [.int v2, .int v6]) (rest := []) rfl rfl (Nat.le_of_ble_eq_true rfl) ⟨(show (cells + 0) + 1 ≤ 4 from by omega), (show (slots + 0) + 6 ≤ 24 from by omega)⟩ dX1_checkSiblings_18) (fun H locs hI hxc => ?_)
        have hr := gS_i hr
        subst hr
        exact g_xout X hI hxc hxt gPs_0 (show ((cells + 0) + 1) ≤ 4 from by omega) (show ((slots + 0) + 6) ≤ 24 from by omega)
set_option maxHeartbeats 2000000 in
theorem w_X1_checkSiblings {l : Launch} {x : gV} {base : Nat} (hst : l.stackTraces = false) {z0 : Nat} {z1 : Nat} {h : gH} {n : Nat} {res : (Unit ⊕ gX) × gH × Nat} (hr : f_X1_checkSiblings z0 z1 h n = some res) : gMX l yX1_checkSiblings (ws_ yX1_checkSiblings cX1_checkSiblings 3 none) rm_X1_checkSiblings x base (fun _ => none) [.ref z0, .ref z1] h n res 4 24 := by
  refine g_metX (cc := cX1_checkSiblings) (nL := 3) (ret := none) (by decide) (Nat.le_of_ble_eq_true rfl) (fun p e s m below meth c ls X hnm hxt hl hI => ?_)
  have hl : lv_has ls 3 [(0, .ref z0), (1, .ref z1)] := hl
  have hx := X.1
  have hb := X.2.1
  have hcc : 0 + 4 ≤ 4 ∧ 0 + 24 ≤ 24 := ⟨Nat.le_refl _, Nat.le_refl _⟩
  unfold f_X1_checkSiblings at hr
  refine lv_iconst (v := 0) hx hb dX1_checkSiblings_0 (by decide) ?_
  refine lv_istore_n (lv' := [(2, .int (0 : Int32)), (0, .ref z0), (1, .ref z1)]) hx hb dX1_checkSiblings_1 rfl hl (by decide) rfl (fun ls hl => ?_)
  exact w_X1_checkSiblings_L2 X hst hxt 3 hr hI (lv_sub hl [1, 2, 0] rfl) (by omega)
abbrev rm_X1_siblingAt : Room := { frames := 10, cells := 5, slots := 25, locals := 203 }
theorem hd_X1_siblingAt : yX1_siblingAt.cls = RX1 ∧ yX1_siblingAt.cls ≠ "java/lang/invoke/MethodHandle" ∧ yX1_siblingAt.cls ≠ "java/lang/invoke/VarHandle" ∧ (parseMethodDescriptor yX1_siblingAt.desc).map (fun d => d.parameters.length) = some 1 := by decide +kernel
set_option maxHeartbeats 2000000 in
theorem w_X1_siblingAt {l : Launch} {x : gV} {base : Nat} (hst : l.stackTraces = false) {z0 : Nat} {z1 : Int32} {h : gH} {n : Nat} {res : (Nat ⊕ gX) × gH × Nat} (hr : f_X1_siblingAt z0 z1 h n = some res) : gMX l yX1_siblingAt (ws_ yX1_siblingAt cX1_siblingAt 2 (some (.object "CakeDivision$Sibling"))) rm_X1_siblingAt x base (fun v => some (.ref v)) [.ref z0, .int z1] h n res 5 25 := by
  refine g_metX (cc := cX1_siblingAt) (nL := 2) (ret := (some (.object "CakeDivision$Sibling"))) (by decide) (Nat.le_of_ble_eq_true rfl) (fun p e s m below meth c ls X hnm hxt hl hI => ?_)
  have hl : lv_has ls 2 [(0, .ref z0), (1, .int z1)] := hl
  have hx := X.1
  have hb := X.2.1
  have hcc : 0 + 5 ≤ 5 ∧ 0 + 25 ≤ 25 := ⟨Nat.le_refl _, Nat.le_refl _⟩
  unfold f_X1_siblingAt at hr
  refine lv_aload_n hx hb dX1_siblingAt_0 rfl (lv_at hl 0 rfl) ?_
  refine lv_iconst (v := 1) hx hb dX1_siblingAt_1 (by decide) ?_
  refine g_newI (t := 0) (b := 1) (atype := .int) X hI q512 rfl rfl (by decide) (show 0 + 1 ≤ 5 from by omega) (show 0 + 1 ≤ 25 from by omega) hr dX1_siblingAt_2 (fun q1 h2 n3 H locs hI hr => ?_)
  refine lv_dup hx hb dX1_siblingAt_4 rfl ?_
  refine lv_iconst (v := 0) hx hb dX1_siblingAt_5 (by decide) ?_
  refine lv_iload_n hx hb dX1_siblingAt_6 rfl (lv_at hl 1 rfl) ?_
  refine g_iast X hI hr dX1_siblingAt_7 (fun h4 H locs hI hr => ?_)
  obtain ⟨_, ho5, hr⟩ := gB_i hr
  rcases gTX_i hr with ⟨u9, h8, n9, hc6, hr⟩ | ⟨q7, h10, n11, hc6, hr⟩
  · refine gXRet_v (g_xrunV X hI (w_X1_checkSiblings hst hc6) ho5 rfl hl (lw_V q1174 q1176 qs20 q96 q1177) rfl rfl hd_X1_checkSiblings ⟨Nat.le_of_ble_eq_true rfl, Nat.le_of_ble_eq_true rfl⟩ (as := [.ref q1]) (rest := []) rfl rfl (Nat.le_of_ble_eq_true rfl) ⟨(show (0 + 1) + 4 ≤ 5 from by omega), (show (0 + 1) + 24 ≤ 25 from by omega)⟩ dX1_siblingAt_8) (fun H locs hI => ?_)
    refine lv_aload_n hx hb dX1_siblingAt_11 rfl (lv_at hl 0 rfl) ?_
    refine g_getA (C := RX1) (T := TX1) (N := 10) X hI in_X1 rfl 4 (by decide) q760 (fun _ h9 => h9) hr dX1_siblingAt_12 (fun v12 hr => ?_)
    refine lv_iload_n hx hb dX1_siblingAt_15 rfl (lv_at hl 1 rfl) ?_
    obtain ⟨_, ho13, hr⟩ := gB_i hr
    obtain ⟨v15, hc14, hr⟩ := gB_i hr
    refine gRun_a (g_runV X hI (w_X2_sibling hc14) ho13 rfl hl (lw_V q900 q666 q667 q97 q668) rfl rfl hd_X2_sibling ⟨Nat.le_of_ble_eq_true rfl, Nat.le_of_ble_eq_true rfl⟩ (as := [.int z1]) (rest := []) rfl rfl (Nat.le_of_ble_eq_true rfl) ⟨(show ((0 + 1) + 4) + 0 ≤ 5 from by omega), (show ((0 + 1) + 24) + 0 ≤ 25 from by omega)⟩ dX1_siblingAt_16) (fun H locs hI => ?_)
    have hr := gS_i hr
    subst hr
    exact g_xaret X hI (Or.inl ⟨_, rfl⟩) (show (((0 + 1) + 4) + 0) ≤ 5 from by omega) (show (((0 + 1) + 24) + 0) ≤ 25 from by omega) dX1_siblingAt_19
  · refine gXThr (k := q7.1) (q := q7.2) (g_xrunV X hI (w_X1_checkSiblings hst hc6) ho5 rfl hl (lw_V q1174 q1176 qs20 q96 q1177) rfl rfl hd_X1_checkSiblings ⟨Nat.le_of_ble_eq_true rfl, Nat.le_of_ble_eq_true rfl⟩ (as := [.ref q1]) (rest := []) rfl rfl (Nat.le_of_ble_eq_true rfl) ⟨(show (0 + 1) + 4 ≤ 5 from by omega), (show (0 + 1) + 24 ≤ 25 from by omega)⟩ dX1_siblingAt_8) (fun H locs hI hxc => ?_)
    have hr := gS_i hr
    subst hr
    exact g_xout X hI hxc hxt gPs_0 (show ((0 + 1) + 4) ≤ 5 from by omega) (show ((0 + 1) + 24) ≤ 25 from by omega)
abbrev rm_X1_nameByte : Room := { frames := 11, cells := 6, slots := 31, locals := 224 }
theorem hd_X1_nameByte : yX1_nameByte.cls = RX1 ∧ yX1_nameByte.cls ≠ "java/lang/invoke/MethodHandle" ∧ yX1_nameByte.cls ≠ "java/lang/invoke/VarHandle" ∧ (parseMethodDescriptor yX1_nameByte.desc).map (fun d => d.parameters.length) = some 2 := by decide +kernel
set_option maxHeartbeats 2000000 in
theorem w_X1_nameByte {l : Launch} {x : gV} {base : Nat} (hst : l.stackTraces = false) {z0 : Nat} {z1 : Int32} {z2 : Int32} {h : gH} {n : Nat} {res : (Int32 ⊕ gX) × gH × Nat} (hr : f_X1_nameByte z0 z1 z2 h n = some res) : gMX l yX1_nameByte (ws_ yX1_nameByte cX1_nameByte 4 (some .int)) rm_X1_nameByte x base (fun v => some (.int v)) [.ref z0, .int z1, .int z2] h n res 6 31 := by
  refine g_metX (cc := cX1_nameByte) (nL := 4) (ret := (some .int)) (by decide) (Nat.le_of_ble_eq_true rfl) (fun p e s m below meth c ls X hnm hxt hl hI => ?_)
  have hl : lv_has ls 4 [(0, .ref z0), (1, .int z1), (2, .int z2)] := hl
  have hx := X.1
  have hb := X.2.1
  have hcc : 0 + 6 ≤ 6 ∧ 0 + 31 ≤ 31 := ⟨Nat.le_refl _, Nat.le_refl _⟩
  unfold f_X1_nameByte at hr
  refine lv_aload_n hx hb dX1_nameByte_0 rfl (lv_at hl 0 rfl) ?_
  refine lv_iload_n hx hb dX1_nameByte_1 rfl (lv_at hl 1 rfl) ?_
  obtain ⟨_, ho1, hr⟩ := gB_i hr
  rcases gTX_i hr with ⟨v3, h5, n6, hc2, hr⟩ | ⟨q4, h7, n8, hc2, hr⟩
  · refine gXRet_a (g_xrunV X hI (w_X1_siblingAt hst hc2) ho1 rfl hl (lw_V q1170 q1172 qs19 q96 q1173) rfl rfl hd_X1_siblingAt ⟨Nat.le_of_ble_eq_true rfl, Nat.le_of_ble_eq_true rfl⟩ (as := [.int z1]) (rest := []) rfl rfl (Nat.le_of_ble_eq_true rfl) ⟨(show 0 + 5 ≤ 6 from by omega), (show 0 + 25 ≤ 31 from by omega)⟩ dX1_nameByte_2) (fun H locs hI => ?_)
    refine g_getA (C := RX5) (T := TX5) (N := 2) X hI in_X5 rfl 0 (by decide) q698 (fun _ h9 => h9) hr dX1_nameByte_5 (fun v9 hr => ?_)
    refine lv_astore_n (lv' := [(3, .ref v9), (0, .ref z0), (1, .int z1), (2, .int z2)]) hx hb dX1_nameByte_8 rfl hl (by decide) rfl (fun ls hl => ?_)
    refine lv_iload_n hx hb dX1_nameByte_9 rfl (lv_at hl 3 rfl) ?_
    refine lv_aload_n hx hb dX1_nameByte_10 rfl (lv_at hl 0 rfl) ?_
    refine g_alen X hI (t := 1) rfl hr dX1_nameByte_11 (fun v10 hr => ?_)
    rcases gTX_i hr with ⟨u9, h13, n14, hc11, hr⟩ | ⟨q12, h15, n16, hc11, hr⟩
    · refine gXRet_v (g_xrunS X hI (w_X1_checkIndex hst hc11) hl (lw_S q1178 q1179 q96 q1180) rfl rfl hd_X1_checkIndex ⟨Nat.le_of_ble_eq_true rfl, Nat.le_of_ble_eq_true rfl⟩ (as := [.int z2, .int v10]) (rest := []) rfl rfl (Nat.le_of_ble_eq_true rfl) ⟨(show (0 + 5) + 1 ≤ 6 from by omega), (show (0 + 25) + 6 ≤ 31 from by omega)⟩ dX1_nameByte_12) (fun H locs hI => ?_)
      refine lv_aload_n hx hb dX1_nameByte_15 rfl (lv_at hl 0 rfl) ?_
      refine lv_iload_n hx hb dX1_nameByte_16 rfl (lv_at hl 3 rfl) ?_
      refine g_bald X hI hr dX1_nameByte_17 (fun v17 hr => ?_)
      have hr := gS_i hr
      subst hr
      exact g_xiret X hI rfl (show ((0 + 5) + 1) ≤ 6 from by omega) (show ((0 + 25) + 6) ≤ 31 from by omega) dX1_nameByte_18
    · refine gXThr (k := q12.1) (q := q12.2) (g_xrunS X hI (w_X1_checkIndex hst hc11) hl (lw_S q1178 q1179 q96 q1180) rfl rfl hd_X1_checkIndex ⟨Nat.le_of_ble_eq_true rfl, Nat.le_of_ble_eq_true rfl⟩ (as := [.int z2, .int v10]) (rest := []) rfl rfl (Nat.le_of_ble_eq_true rfl) ⟨(show (0 + 5) + 1 ≤ 6 from by omega), (show (0 + 25) + 6 ≤ 31 from by omega)⟩ dX1_nameByte_12) (fun H locs hI hxc => ?_)
      have hr := gS_i hr
      subst hr
      exact g_xout X hI hxc hxt gPs_0 (show ((0 + 5) + 1) ≤ 6 from by omega) (show ((0 + 25) + 6) ≤ 31 from by omega)
  · refine gXThr (k := q4.1) (q := q4.2) (g_xrunV X hI (w_X1_siblingAt hst hc2) ho1 rfl hl (lw_V q1170 q1172 qs19 q96 q1173) rfl rfl hd_X1_siblingAt ⟨Nat.le_of_ble_eq_true rfl, Nat.le_of_ble_eq_true rfl⟩ (as := [.int z1]) (rest := []) rfl rfl (Nat.le_of_ble_eq_true rfl) ⟨(show 0 + 5 ≤ 6 from by omega), (show 0 + 25 ≤ 31 from by omega)⟩ dX1_nameByte_2) (fun H locs hI hxc => ?_)
    have hr := gS_i hr
    subst hr
    exact g_xout X hI hxc hxt gPs_0 (show (0 + 5) ≤ 6 from by omega) (show (0 + 25) ≤ 31 from by omega)
abbrev rm_X1_findSibling : Room := { frames := 8, cells := 2, slots := 606, locals := 160 }
theorem hd_X1_findSibling : yX1_findSibling.cls = RX1 ∧ yX1_findSibling.cls ≠ "java/lang/invoke/MethodHandle" ∧ yX1_findSibling.cls ≠ "java/lang/invoke/VarHandle" ∧ (parseMethodDescriptor yX1_findSibling.desc).map (fun d => d.parameters.length) = some 0 := by decide +kernel
set_option maxHeartbeats 2000000 in
theorem w_X1_findSibling {l : Launch} {x : gV} {base : Nat} (hst : l.stackTraces = false) {z0 : Nat} {h : gH} {n : Nat} {res : (Int32 ⊕ gX) × gH × Nat} (hr : f_X1_findSibling z0 h n = some res) : gMX l yX1_findSibling (ws_ yX1_findSibling cX1_findSibling 3 (some .int)) rm_X1_findSibling x base (fun v => some (.int v)) [.ref z0] h n res 2 606 := by
  refine g_metX (cc := cX1_findSibling) (nL := 3) (ret := (some .int)) (by decide) (Nat.le_of_ble_eq_true rfl) (fun p e s m below meth c ls X hnm hxt hl hI => ?_)
  have hl : lv_has ls 3 [(0, .ref z0)] := hl
  have hx := X.1
  have hb := X.2.1
  have hcc : 0 + 2 ≤ 2 ∧ 0 + 606 ≤ 606 := ⟨Nat.le_refl _, Nat.le_refl _⟩
  unfold f_X1_findSibling at hr
  refine lv_aload_n hx hb dX1_findSibling_0 rfl (lv_at hl 0 rfl) ?_
  refine g_getI (C := RX1) (T := TX1) (N := 10) X hI in_X1 rfl 1 (by decide) q757 (fun _ h9 => h9) hr dX1_findSibling_1 (fun v1 hr => ?_)
  refine g_newI (t := 1) (b := 600) (atype := .byte) X hI q239 rfl rfl (by decide) (show 0 + 1 ≤ 2 from by omega) (show 0 + 600 ≤ 606 from by omega) hr dX1_findSibling_4 (fun q2 h3 n4 H locs hI hr => ?_)
  refine lv_astore_n (lv' := [(1, .ref q2), (0, .ref z0)]) hx hb dX1_findSibling_6 rfl hl (by decide) rfl (fun ls hl => ?_)
  refine lv_aload_n hx hb dX1_findSibling_7 rfl (lv_at hl 1 rfl) ?_
  refine g_getA (C := RX1) (T := TX1) (N := 10) X hI in_X1 rfl 0 (by decide) q754 (fun _ h9 => h9) hr dX1_findSibling_8 (fun v5 hr => ?_)
  refine lv_iconst (v := 0) hx hb dX1_findSibling_11 (by decide) ?_
  refine lv_aload_n hx hb dX1_findSibling_12 rfl (lv_at hl 0 rfl) ?_
  refine lv_iconst (v := 0) hx hb dX1_findSibling_13 (by decide) ?_
  refine lv_aload_n hx hb dX1_findSibling_14 rfl (lv_at hl 1 rfl) ?_
  refine g_getI (C := RX1) (T := TX1) (N := 10) X hI in_X1 rfl 1 (by decide) q757 (fun _ h9 => h9) hr dX1_findSibling_15 (fun v6 hr => ?_)
  refine g_acpy1 X hI hl q1204 q286 q285 q112 (Nat.le_of_ble_eq_true rfl) (Nat.le_of_ble_eq_true rfl) hr dX1_findSibling_18 (fun h7 H locs hI hr => ?_)
  refine lv_aload_n hx hb dX1_findSibling_21 rfl (lv_at hl 1 rfl) ?_
  refine g_getA (C := RX1) (T := TX1) (N := 10) X hI in_X1 rfl 4 (by decide) q760 (fun _ h9 => h9) hr dX1_findSibling_22 (fun v8 hr => ?_)
  refine lv_aload_n hx hb dX1_findSibling_25 rfl (lv_at hl 0 rfl) ?_
  obtain ⟨_, ho9, hr⟩ := gB_i hr
  obtain ⟨v11, hc10, hr⟩ := gB_i hr
  refine gRun_i (g_runV X hI (w_X2_siblingNamed hc10) ho9 rfl hl (lw_V q1205 q661 q662 q97 q663) rfl rfl hd_X2_siblingNamed ⟨Nat.le_of_ble_eq_true rfl, Nat.le_of_ble_eq_true rfl⟩ (as := [.ref q2]) (rest := []) rfl rfl (Nat.le_of_ble_eq_true rfl) ⟨(show (0 + 1) + 0 ≤ 2 from by omega), (show (0 + 600) + 0 ≤ 606 from by omega)⟩ dX1_findSibling_26) (fun H locs hI => ?_)
  refine lv_istore_n (lv' := [(2, .int v11), (1, .ref q2), (0, .ref z0)]) hx hb dX1_findSibling_29 rfl hl (by decide) rfl (fun ls hl => ?_)
  refine lv_iload_n hx hb dX1_findSibling_30 rfl (lv_at hl 0 rfl) ?_
  refine lv_iconst (v := (-1)) hx hb dX1_findSibling_31 (by decide) ?_
  refine lv_icmp_ne (tgt := 43) hx hb dX1_findSibling_32 (by decide) (fun c9 => ?_) (fun c9 => ?_)
  · replace hr := gIf_f c9 hr
    refine lv_iload_n hx hb dX1_findSibling_43 rfl (lv_at hl 0 rfl) ?_
    have hr := gS_i hr
    subst hr
    exact g_xiret X hI rfl (show ((0 + 1) + 0) ≤ 2 from by omega) (show ((0 + 600) + 0) ≤ 606 from by omega) dX1_findSibling_44
  · replace hr := gIf_t c9 hr
    refine g_mk0 (cls := "java/util/NoSuchElementException") (names := ["java/lang/RuntimeException", "java/lang/Exception"]) (ik := 185) (ic := 187) (ci := 13) X hst hI hl (by decide) (by decide) q1206 q126 gxs_NSE_187 rfl dX1_findSibling_35 dX1_findSibling_38 dX1_findSibling_39 (Nat.le_of_ble_eq_true rfl) (Nat.le_of_ble_eq_true rfl) (show ((0 + 1) + 0) + 1 ≤ 2 from by omega) (show ((0 + 600) + 0) + 6 ≤ 606 from by omega) hr (fun q15 h16 n17 H locs hI hr => ?_)
    obtain ⟨k18, hk19, hr⟩ := gB_i hr
    refine g_athrow X hI hk19 dX1_findSibling_42 (fun hxc => ?_)
    have hr := gS_i hr
    subst hr
    exact g_xout X hI hxc hxt gPs_0 (show (((0 + 1) + 0) + 1) ≤ 2 from by omega) (show (((0 + 600) + 0) + 6) ≤ 606 from by omega)
abbrev rm_X1_value : Room := { frames := 11, cells := 6, slots := 31, locals := 224 }
theorem hd_X1_value : yX1_value.cls = RX1 ∧ yX1_value.cls ≠ "java/lang/invoke/MethodHandle" ∧ yX1_value.cls ≠ "java/lang/invoke/VarHandle" ∧ (parseMethodDescriptor yX1_value.desc).map (fun d => d.parameters.length) = some 2 := by decide +kernel
set_option maxHeartbeats 2000000 in
theorem w_X1_value {l : Launch} {x : gV} {base : Nat} (hst : l.stackTraces = false) {z0 : Nat} {z1 : Int32} {z2 : Int32} {h : gH} {n : Nat} {res : (Int32 ⊕ gX) × gH × Nat} (hr : f_X1_value z0 z1 z2 h n = some res) : gMX l yX1_value (ws_ yX1_value cX1_value 4 (some .int)) rm_X1_value x base (fun v => some (.int v)) [.ref z0, .int z1, .int z2] h n res 6 31 := by
  refine g_metX (cc := cX1_value) (nL := 4) (ret := (some .int)) (by decide) (Nat.le_of_ble_eq_true rfl) (fun p e s m below meth c ls X hnm hxt hl hI => ?_)
  have hl : lv_has ls 4 [(0, .ref z0), (1, .int z1), (2, .int z2)] := hl
  have hx := X.1
  have hb := X.2.1
  have hcc : 0 + 6 ≤ 6 ∧ 0 + 31 ≤ 31 := ⟨Nat.le_refl _, Nat.le_refl _⟩
  unfold f_X1_value at hr
  refine lv_aload_n hx hb dX1_value_0 rfl (lv_at hl 0 rfl) ?_
  refine lv_iload_n hx hb dX1_value_1 rfl (lv_at hl 1 rfl) ?_
  obtain ⟨_, ho1, hr⟩ := gB_i hr
  rcases gTX_i hr with ⟨v3, h5, n6, hc2, hr⟩ | ⟨q4, h7, n8, hc2, hr⟩
  · refine gXRet_a (g_xrunV X hI (w_X1_siblingAt hst hc2) ho1 rfl hl (lw_V q1170 q1172 qs19 q96 q1173) rfl rfl hd_X1_siblingAt ⟨Nat.le_of_ble_eq_true rfl, Nat.le_of_ble_eq_true rfl⟩ (as := [.int z1]) (rest := []) rfl rfl (Nat.le_of_ble_eq_true rfl) ⟨(show 0 + 5 ≤ 6 from by omega), (show 0 + 25 ≤ 31 from by omega)⟩ dX1_value_2) (fun H locs hI => ?_)
    refine lv_astore_n (lv' := [(3, .ref v3), (0, .ref z0), (1, .int z1), (2, .int z2)]) hx hb dX1_value_5 rfl hl (by decide) rfl (fun ls hl => ?_)
    refine lv_iload_n hx hb dX1_value_6 rfl (lv_at hl 3 rfl) ?_
    refine lv_aload_n hx hb dX1_value_7 rfl (lv_at hl 1 rfl) ?_
    refine g_getA (C := RX1) (T := TX1) (N := 10) X hI in_X1 rfl 4 (by decide) q760 (fun _ h9 => h9) hr dX1_value_8 (fun v9 hr => ?_)
    obtain ⟨_, ho10, hr⟩ := gB_i hr
    obtain ⟨v12, hc11, hr⟩ := gB_i hr
    refine gRun_i (g_runV X hI (w_X2_cells hc11) ho10 rfl hl (lw_V q686 q687 q688 q97 q689) rfl rfl hd_X2_cells ⟨Nat.le_of_ble_eq_true rfl, Nat.le_of_ble_eq_true rfl⟩ (as := []) (rest := [.int z2]) rfl rfl (Nat.le_of_ble_eq_true rfl) ⟨(show (0 + 5) + 0 ≤ 6 from by omega), (show (0 + 25) + 0 ≤ 31 from by omega)⟩ dX1_value_11) (fun H locs hI => ?_)
    rcases gTX_i hr with ⟨u9, h15, n16, hc13, hr⟩ | ⟨q14, h17, n18, hc13, hr⟩
    · refine gXRet_v (g_xrunS X hI (w_X1_checkIndex hst hc13) hl (lw_S q1178 q1179 q96 q1180) rfl rfl hd_X1_checkIndex ⟨Nat.le_of_ble_eq_true rfl, Nat.le_of_ble_eq_true rfl⟩ (as := [.int z2, .int v12]) (rest := []) rfl rfl (Nat.le_of_ble_eq_true rfl) ⟨(show ((0 + 5) + 0) + 1 ≤ 6 from by omega), (show ((0 + 25) + 0) + 6 ≤ 31 from by omega)⟩ dX1_value_14) (fun H locs hI => ?_)
      refine lv_aload_n hx hb dX1_value_17 rfl (lv_at hl 0 rfl) ?_
      refine lv_iload_n hx hb dX1_value_18 rfl (lv_at hl 3 rfl) ?_
      obtain ⟨_, ho19, hr⟩ := gB_i hr
      obtain ⟨v21, hc20, hr⟩ := gB_i hr
      refine gRun_i (g_runV X hI (w_X5_value hc20) ho19 rfl hl (lw_V q901 q830 q831 q121 q832) rfl rfl hd_X5_value ⟨Nat.le_of_ble_eq_true rfl, Nat.le_of_ble_eq_true rfl⟩ (as := [.int z2]) (rest := []) rfl rfl (Nat.le_of_ble_eq_true rfl) ⟨(show (((0 + 5) + 0) + 1) + 0 ≤ 6 from by omega), (show (((0 + 25) + 0) + 6) + 0 ≤ 31 from by omega)⟩ dX1_value_19) (fun H locs hI => ?_)
      have hr := gS_i hr
      subst hr
      exact g_xiret X hI rfl (show ((((0 + 5) + 0) + 1) + 0) ≤ 6 from by omega) (show ((((0 + 25) + 0) + 6) + 0) ≤ 31 from by omega) dX1_value_22
    · refine gXThr (k := q14.1) (q := q14.2) (g_xrunS X hI (w_X1_checkIndex hst hc13) hl (lw_S q1178 q1179 q96 q1180) rfl rfl hd_X1_checkIndex ⟨Nat.le_of_ble_eq_true rfl, Nat.le_of_ble_eq_true rfl⟩ (as := [.int z2, .int v12]) (rest := []) rfl rfl (Nat.le_of_ble_eq_true rfl) ⟨(show ((0 + 5) + 0) + 1 ≤ 6 from by omega), (show ((0 + 25) + 0) + 6 ≤ 31 from by omega)⟩ dX1_value_14) (fun H locs hI hxc => ?_)
      have hr := gS_i hr
      subst hr
      exact g_xout X hI hxc hxt gPs_0 (show (((0 + 5) + 0) + 1) ≤ 6 from by omega) (show (((0 + 25) + 0) + 6) ≤ 31 from by omega)
  · refine gXThr (k := q4.1) (q := q4.2) (g_xrunV X hI (w_X1_siblingAt hst hc2) ho1 rfl hl (lw_V q1170 q1172 qs19 q96 q1173) rfl rfl hd_X1_siblingAt ⟨Nat.le_of_ble_eq_true rfl, Nat.le_of_ble_eq_true rfl⟩ (as := [.int z1]) (rest := []) rfl rfl (Nat.le_of_ble_eq_true rfl) ⟨(show 0 + 5 ≤ 6 from by omega), (show 0 + 25 ≤ 31 from by omega)⟩ dX1_value_2) (fun H locs hI hxc => ?_)
    have hr := gS_i hr
    subst hr
    exact g_xout X hI hxc hxt gPs_0 (show (0 + 5) ≤ 6 from by omega) (show (0 + 25) ≤ 31 from by omega)
abbrev rm_X1_owner : Room := { frames := 9, cells := 1, slots := 6, locals := 181 }
theorem hd_X1_owner : yX1_owner.cls = RX1 ∧ yX1_owner.cls ≠ "java/lang/invoke/MethodHandle" ∧ yX1_owner.cls ≠ "java/lang/invoke/VarHandle" ∧ (parseMethodDescriptor yX1_owner.desc).map (fun d => d.parameters.length) = some 1 := by decide +kernel
set_option maxHeartbeats 2000000 in
theorem w_X1_owner {l : Launch} {x : gV} {base : Nat} (hst : l.stackTraces = false) {z0 : Nat} {z1 : Int32} {h : gH} {n : Nat} {res : (Int32 ⊕ gX) × gH × Nat} (hr : f_X1_owner z0 z1 h n = some res) : gMX l yX1_owner (ws_ yX1_owner cX1_owner 2 (some .int)) rm_X1_owner x base (fun v => some (.int v)) [.ref z0, .int z1] h n res 1 6 := by
  refine g_metX (cc := cX1_owner) (nL := 2) (ret := (some .int)) (by decide) (Nat.le_of_ble_eq_true rfl) (fun p e s m below meth c ls X hnm hxt hl hI => ?_)
  have hl : lv_has ls 2 [(0, .ref z0), (1, .int z1)] := hl
  have hx := X.1
  have hb := X.2.1
  have hcc : 0 + 1 ≤ 1 ∧ 0 + 6 ≤ 6 := ⟨Nat.le_refl _, Nat.le_refl _⟩
  unfold f_X1_owner at hr
  refine lv_iload_n hx hb dX1_owner_0 rfl (lv_at hl 1 rfl) ?_
  refine lv_aload_n hx hb dX1_owner_1 rfl (lv_at hl 0 rfl) ?_
  refine g_getA (C := RX1) (T := TX1) (N := 10) X hI in_X1 rfl 4 (by decide) q760 (fun _ h9 => h9) hr dX1_owner_2 (fun v1 hr => ?_)
  obtain ⟨_, ho2, hr⟩ := gB_i hr
  obtain ⟨v4, hc3, hr⟩ := gB_i hr
  refine gRun_i (g_runV X hI (w_X2_cells hc3) ho2 rfl hl (lw_V q686 q687 q688 q97 q689) rfl rfl hd_X2_cells ⟨Nat.le_of_ble_eq_true rfl, Nat.le_of_ble_eq_true rfl⟩ (as := []) (rest := [.int z1]) rfl rfl (Nat.le_of_ble_eq_true rfl) ⟨(show 0 + 0 ≤ 1 from by omega), (show 0 + 0 ≤ 6 from by omega)⟩ dX1_owner_5) (fun H locs hI => ?_)
  rcases gTX_i hr with ⟨u9, h7, n8, hc5, hr⟩ | ⟨q6, h9, n10, hc5, hr⟩
  · refine gXRet_v (g_xrunS X hI (w_X1_checkIndex hst hc5) hl (lw_S q1178 q1179 q96 q1180) rfl rfl hd_X1_checkIndex ⟨Nat.le_of_ble_eq_true rfl, Nat.le_of_ble_eq_true rfl⟩ (as := [.int z1, .int v4]) (rest := []) rfl rfl (Nat.le_of_ble_eq_true rfl) ⟨(show (0 + 0) + 1 ≤ 1 from by omega), (show (0 + 0) + 6 ≤ 6 from by omega)⟩ dX1_owner_8) (fun H locs hI => ?_)
    refine lv_aload_n hx hb dX1_owner_11 rfl (lv_at hl 0 rfl) ?_
    refine g_getA (C := RX1) (T := TX1) (N := 10) X hI in_X1 rfl 4 (by decide) q760 (fun _ h9 => h9) hr dX1_owner_12 (fun v11 hr => ?_)
    refine g_getA (C := RX2) (T := TX2) (N := 3) X hI in_X2 rfl 1 (by decide) q502 (fun _ h9 => h9) hr dX1_owner_15 (fun v12 hr => ?_)
    refine lv_iload_n hx hb dX1_owner_18 rfl (lv_at hl 1 rfl) ?_
    refine g_iald X hI hr dX1_owner_19 (fun v13 hr => ?_)
    have hr := gS_i hr
    subst hr
    exact g_xiret X hI rfl (show ((0 + 0) + 1) ≤ 1 from by omega) (show ((0 + 0) + 6) ≤ 6 from by omega) dX1_owner_20
  · refine gXThr (k := q6.1) (q := q6.2) (g_xrunS X hI (w_X1_checkIndex hst hc5) hl (lw_S q1178 q1179 q96 q1180) rfl rfl hd_X1_checkIndex ⟨Nat.le_of_ble_eq_true rfl, Nat.le_of_ble_eq_true rfl⟩ (as := [.int z1, .int v4]) (rest := []) rfl rfl (Nat.le_of_ble_eq_true rfl) ⟨(show (0 + 0) + 1 ≤ 1 from by omega), (show (0 + 0) + 6 ≤ 6 from by omega)⟩ dX1_owner_8) (fun H locs hI hxc => ?_)
    have hr := gS_i hr
    subst hr
    exact g_xout X hI hxc hxt gPs_0 (show ((0 + 0) + 1) ≤ 1 from by omega) (show ((0 + 0) + 6) ≤ 6 from by omega)
abbrev rm_X1_isBetween : Room := { frames := 0, cells := 0, slots := 0, locals := 0 }
theorem hd_X1_isBetween : yX1_isBetween.cls ≠ "java/lang/invoke/MethodHandle" ∧ yX1_isBetween.cls ≠ "java/lang/invoke/VarHandle" ∧ (parseMethodDescriptor yX1_isBetween.desc).map (fun d => d.parameters.length) = some 3 := by decide +kernel
set_option maxHeartbeats 2000000 in
theorem w_X1_isBetween {l : Launch} {x : gV} {base : Nat} {z0 : Int32} {z1 : Int32} {z2 : Int32} {h : gH} {n : Nat} {res : Int32} (hr : f_X1_isBetween z0 z1 z2 h = some res) : gM l yX1_isBetween (ws_ yX1_isBetween cX1_isBetween 3 (some .boolean)) rm_X1_isBetween x base [.int z0, .int z1, .int z2] h n (some (.int res)) h n 0 0 := by
  refine g_met (cc := cX1_isBetween) (nL := 3) (ret := (some .boolean)) (by decide) (Nat.le_of_ble_eq_true rfl) (fun p e s m below meth c ls X hnm hl hI => ?_)
  have hl : lv_has ls 3 [(0, .int z0), (1, .int z1), (2, .int z2)] := hl
  have hx := X.1
  have hb := X.2.1
  unfold f_X1_isBetween at hr
  refine lv_iload_n hx hb dX1_isBetween_0 rfl (lv_at hl 0 rfl) ?_
  refine lv_iload_n hx hb dX1_isBetween_1 rfl (lv_at hl 1 rfl) ?_
  refine lv_icmp_lt (tgt := 14) hx hb dX1_isBetween_2 (by decide) (fun c9 => ?_) (fun c9 => ?_)
  · replace hr := gIf_t c9 hr
    refine lv_iconst (v := 0) hx hb dX1_isBetween_14 (by decide) ?_
    have hr := gS_i hr
    subst hr
    exact g_iret X hI (g_narZ (Or.inl rfl)) (Nat.le_refl _) (Nat.le_refl _) dX1_isBetween_15
  · replace hr := gIf_f c9 hr
    refine lv_iload_n hx hb dX1_isBetween_5 rfl (lv_at hl 0 rfl) ?_
    refine lv_iload_n hx hb dX1_isBetween_6 rfl (lv_at hl 2 rfl) ?_
    refine lv_icmp_gt (tgt := 14) hx hb dX1_isBetween_7 (by decide) (fun c9 => ?_) (fun c9 => ?_)
    · replace hr := gIf_t c9 hr
      refine lv_iconst (v := 0) hx hb dX1_isBetween_14 (by decide) ?_
      have hr := gS_i hr
      subst hr
      exact g_iret X hI (g_narZ (Or.inl rfl)) (Nat.le_refl _) (Nat.le_refl _) dX1_isBetween_15
    · replace hr := gIf_f c9 hr
      refine lv_iconst (v := 1) hx hb dX1_isBetween_10 (by decide) ?_
      refine lv_goto (tgt := 15) hx hb dX1_isBetween_11 (by decide) ?_
      have hr := gS_i hr
      subst hr
      exact g_iret X hI (g_narZ (Or.inr rfl)) (Nat.le_refl _) (Nat.le_refl _) dX1_isBetween_15
abbrev rm_X1_checkArgument : Room := { frames := 8, cells := 1, slots := 6, locals := 160 }
theorem hd_X1_checkArgument : yX1_checkArgument.cls ≠ "java/lang/invoke/MethodHandle" ∧ yX1_checkArgument.cls ≠ "java/lang/invoke/VarHandle" ∧ (parseMethodDescriptor yX1_checkArgument.desc).map (fun d => d.parameters.length) = some 1 := by decide +kernel
set_option maxHeartbeats 2000000 in
theorem w_X1_checkArgument {l : Launch} {x : gV} {base : Nat} (hst : l.stackTraces = false) {z0 : Int32} {h : gH} {n : Nat} {res : (Unit ⊕ gX) × gH × Nat} (hr : f_X1_checkArgument z0 h n = some res) : gMX l yX1_checkArgument (ws_ yX1_checkArgument cX1_checkArgument 1 none) rm_X1_checkArgument x base (fun _ => none) [.int z0] h n res 1 6 := by
  refine g_metX (cc := cX1_checkArgument) (nL := 1) (ret := none) (by decide) (Nat.le_of_ble_eq_true rfl) (fun p e s m below meth c ls X hnm hxt hl hI => ?_)
  have hl : lv_has ls 1 [(0, .int z0)] := hl
  have hx := X.1
  have hb := X.2.1
  have hcc : 0 + 1 ≤ 1 ∧ 0 + 6 ≤ 6 := ⟨Nat.le_refl _, Nat.le_refl _⟩
  unfold f_X1_checkArgument at hr
  refine lv_iload_n hx hb dX1_checkArgument_0 rfl (lv_at hl 0 rfl) ?_
  refine lv_if_ne (tgt := 12) hx hb dX1_checkArgument_1 (by decide) (fun c9 => ?_) (fun c9 => ?_)
  · replace hr := gIf_f c9 hr
    have hr := gS_i hr
    subst hr
    exact g_xvret X hI (show 0 ≤ 1 from by omega) (show 0 ≤ 6 from by omega) dX1_checkArgument_12
  · replace hr := gIf_t c9 hr
    refine g_mk0 (cls := "java/lang/IllegalArgumentException") (names := ["java/lang/RuntimeException", "java/lang/Exception"]) (ik := 85) (ic := 87) (ci := 11) X hst hI hl (by decide) (by decide) q1121 q104 gxs_IAE_87 rfl dX1_checkArgument_4 dX1_checkArgument_7 dX1_checkArgument_8 (Nat.le_of_ble_eq_true rfl) (Nat.le_of_ble_eq_true rfl) (show 0 + 1 ≤ 1 from by omega) (show 0 + 6 ≤ 6 from by omega) hr (fun q4 h5 n6 H locs hI hr => ?_)
    obtain ⟨k7, hk8, hr⟩ := gB_i hr
    refine g_athrow X hI hk8 dX1_checkArgument_11 (fun hxc => ?_)
    have hr := gS_i hr
    subst hr
    exact g_xout X hI hxc hxt gPs_0 (show (0 + 1) ≤ 1 from by omega) (show (0 + 6) ≤ 6 from by omega)
abbrev rm_X1_checkCells : Room := { frames := 9, cells := 1, slots := 6, locals := 180 }
theorem hd_X1_checkCells : yX1_checkCells.cls = RX1 ∧ yX1_checkCells.cls ≠ "java/lang/invoke/MethodHandle" ∧ yX1_checkCells.cls ≠ "java/lang/invoke/VarHandle" ∧ (parseMethodDescriptor yX1_checkCells.desc).map (fun d => d.parameters.length) = some 2 := by decide +kernel
set_option maxHeartbeats 2000000 in
theorem w_X1_checkCells {l : Launch} {x : gV} {base : Nat} (hst : l.stackTraces = false) {z0 : Nat} {z1 : Int32} {z2 : Int32} {h : gH} {n : Nat} {res : (Unit ⊕ gX) × gH × Nat} (hr : f_X1_checkCells z0 z1 z2 h n = some res) : gMX l yX1_checkCells (ws_ yX1_checkCells cX1_checkCells 3 none) rm_X1_checkCells x base (fun _ => none) [.ref z0, .int z1, .int z2] h n res 1 6 := by
  refine g_metX (cc := cX1_checkCells) (nL := 3) (ret := none) (by decide) (Nat.le_of_ble_eq_true rfl) (fun p e s m below meth c ls X hnm hxt hl hI => ?_)
  have hl : lv_has ls 3 [(0, .ref z0), (1, .int z1), (2, .int z2)] := hl
  have hx := X.1
  have hb := X.2.1
  have hcc : 0 + 1 ≤ 1 ∧ 0 + 6 ≤ 6 := ⟨Nat.le_refl _, Nat.le_refl _⟩
  unfold f_X1_checkCells at hr
  refine lv_iload_n hx hb dX1_checkCells_0 rfl (lv_at hl 1 rfl) ?_
  refine lv_iconst (v := 0) hx hb dX1_checkCells_1 (by decide) ?_
  refine lv_aload_n hx hb dX1_checkCells_2 rfl (lv_at hl 0 rfl) ?_
  refine g_getA (C := RX1) (T := TX1) (N := 10) X hI in_X1 rfl 4 (by decide) q760 (fun _ h9 => h9) hr dX1_checkCells_3 (fun v1 hr => ?_)
  obtain ⟨_, ho2, hr⟩ := gB_i hr
  obtain ⟨v4, hc3, hr⟩ := gB_i hr
  refine gRun_i (g_runV X hI (w_X2_cells hc3) ho2 rfl hl (lw_V q686 q687 q688 q97 q689) rfl rfl hd_X2_cells ⟨Nat.le_of_ble_eq_true rfl, Nat.le_of_ble_eq_true rfl⟩ (as := []) (rest := [.int (0 : Int32), .int z1]) rfl rfl (Nat.le_of_ble_eq_true rfl) ⟨(show 0 + 0 ≤ 1 from by omega), (show 0 + 0 ≤ 6 from by omega)⟩ dX1_checkCells_6) (fun H locs hI => ?_)
  refine lv_iconst (v := 1) hx hb dX1_checkCells_9 (by decide) ?_
  refine lv_isub hx hb dX1_checkCells_10 ?_
  obtain ⟨v6, hc5, hr⟩ := gB_i hr
  refine gRun_i (g_runS X hI (w_X1_isBetween hc5) hl (lw_S q1233 q1234 q96 q1235) rfl rfl hd_X1_isBetween ⟨Nat.le_of_ble_eq_true rfl, Nat.le_of_ble_eq_true rfl⟩ (as := [.int z1, .int (0 : Int32), .int (v4 - (1 : Int32))]) (rest := []) rfl rfl (Nat.le_of_ble_eq_true rfl) ⟨(show (0 + 0) + 0 ≤ 1 from by omega), (show (0 + 0) + 0 ≤ 6 from by omega)⟩ dX1_checkCells_11) (fun H locs hI => ?_)
  refine lv_if_eq (tgt := 38) hx hb dX1_checkCells_14 (by decide) (fun c9 => ?_) (fun c9 => ?_)
  · replace hr := gIf_t c9 hr
    refine lv_iconst (v := 0) hx hb dX1_checkCells_38 (by decide) ?_
    rcases gTX_i hr with ⟨u9, h9, n10, hc7, hr⟩ | ⟨q8, h11, n12, hc7, hr⟩
    · refine gXRet_v (g_xrunS X hI (w_X1_checkArgument hst hc7) hl (lw_S q1236 q1237 q96 q1238) rfl rfl hd_X1_checkArgument ⟨Nat.le_of_ble_eq_true rfl, Nat.le_of_ble_eq_true rfl⟩ (as := [.int (0 : Int32)]) (rest := []) rfl rfl (Nat.le_of_ble_eq_true rfl) ⟨(show ((0 + 0) + 0) + 1 ≤ 1 from by omega), (show ((0 + 0) + 0) + 6 ≤ 6 from by omega)⟩ dX1_checkCells_39) (fun H locs hI => ?_)
      have hr := gS_i hr
      subst hr
      exact g_xvret X hI (show (((0 + 0) + 0) + 1) ≤ 1 from by omega) (show (((0 + 0) + 0) + 6) ≤ 6 from by omega) dX1_checkCells_42
    · refine gXThr (k := q8.1) (q := q8.2) (g_xrunS X hI (w_X1_checkArgument hst hc7) hl (lw_S q1236 q1237 q96 q1238) rfl rfl hd_X1_checkArgument ⟨Nat.le_of_ble_eq_true rfl, Nat.le_of_ble_eq_true rfl⟩ (as := [.int (0 : Int32)]) (rest := []) rfl rfl (Nat.le_of_ble_eq_true rfl) ⟨(show ((0 + 0) + 0) + 1 ≤ 1 from by omega), (show ((0 + 0) + 0) + 6 ≤ 6 from by omega)⟩ dX1_checkCells_39) (fun H locs hI hxc => ?_)
      have hr := gS_i hr
      subst hr
      exact g_xout X hI hxc hxt gPs_0 (show (((0 + 0) + 0) + 1) ≤ 1 from by omega) (show (((0 + 0) + 0) + 6) ≤ 6 from by omega)
  · replace hr := gIf_f c9 hr
    refine lv_iload_n hx hb dX1_checkCells_17 rfl (lv_at hl 2 rfl) ?_
    refine lv_iload_n hx hb dX1_checkCells_18 rfl (lv_at hl 1 rfl) ?_
    refine lv_aload_n hx hb dX1_checkCells_19 rfl (lv_at hl 0 rfl) ?_
    refine g_getA (C := RX1) (T := TX1) (N := 10) X hI in_X1 rfl 4 (by decide) q760 (fun _ h9 => h9) hr dX1_checkCells_20 (fun v13 hr => ?_)
    obtain ⟨_, ho14, hr⟩ := gB_i hr
    obtain ⟨v16, hc15, hr⟩ := gB_i hr
    refine gRun_i (g_runV X hI (w_X2_cells hc15) ho14 rfl hl (lw_V q686 q687 q688 q97 q689) rfl rfl hd_X2_cells ⟨Nat.le_of_ble_eq_true rfl, Nat.le_of_ble_eq_true rfl⟩ (as := []) (rest := [.int z1, .int z2]) rfl rfl (Nat.le_of_ble_eq_true rfl) ⟨(show ((0 + 0) + 0) + 0 ≤ 1 from by omega), (show ((0 + 0) + 0) + 0 ≤ 6 from by omega)⟩ dX1_checkCells_23) (fun H locs hI => ?_)
    refine lv_iconst (v := 1) hx hb dX1_checkCells_26 (by decide) ?_
    refine lv_isub hx hb dX1_checkCells_27 ?_
    obtain ⟨v18, hc17, hr⟩ := gB_i hr
    refine gRun_i (g_runS X hI (w_X1_isBetween hc17) hl (lw_S q1233 q1234 q96 q1235) rfl rfl hd_X1_isBetween ⟨Nat.le_of_ble_eq_true rfl, Nat.le_of_ble_eq_true rfl⟩ (as := [.int z2, .int z1, .int (v16 - (1 : Int32))]) (rest := []) rfl rfl (Nat.le_of_ble_eq_true rfl) ⟨(show (((0 + 0) + 0) + 0) + 0 ≤ 1 from by omega), (show (((0 + 0) + 0) + 0) + 0 ≤ 6 from by omega)⟩ dX1_checkCells_28) (fun H locs hI => ?_)
    refine lv_if_eq (tgt := 38) hx hb dX1_checkCells_31 (by decide) (fun c9 => ?_) (fun c9 => ?_)
    · replace hr := gIf_t c9 hr
      refine lv_iconst (v := 0) hx hb dX1_checkCells_38 (by decide) ?_
      rcases gTX_i hr with ⟨u9, h21, n22, hc19, hr⟩ | ⟨q20, h23, n24, hc19, hr⟩
      · refine gXRet_v (g_xrunS X hI (w_X1_checkArgument hst hc19) hl (lw_S q1236 q1237 q96 q1238) rfl rfl hd_X1_checkArgument ⟨Nat.le_of_ble_eq_true rfl, Nat.le_of_ble_eq_true rfl⟩ (as := [.int (0 : Int32)]) (rest := []) rfl rfl (Nat.le_of_ble_eq_true rfl) ⟨(show ((((0 + 0) + 0) + 0) + 0) + 1 ≤ 1 from by omega), (show ((((0 + 0) + 0) + 0) + 0) + 6 ≤ 6 from by omega)⟩ dX1_checkCells_39) (fun H locs hI => ?_)
        have hr := gS_i hr
        subst hr
        exact g_xvret X hI (show (((((0 + 0) + 0) + 0) + 0) + 1) ≤ 1 from by omega) (show (((((0 + 0) + 0) + 0) + 0) + 6) ≤ 6 from by omega) dX1_checkCells_42
      · refine gXThr (k := q20.1) (q := q20.2) (g_xrunS X hI (w_X1_checkArgument hst hc19) hl (lw_S q1236 q1237 q96 q1238) rfl rfl hd_X1_checkArgument ⟨Nat.le_of_ble_eq_true rfl, Nat.le_of_ble_eq_true rfl⟩ (as := [.int (0 : Int32)]) (rest := []) rfl rfl (Nat.le_of_ble_eq_true rfl) ⟨(show ((((0 + 0) + 0) + 0) + 0) + 1 ≤ 1 from by omega), (show ((((0 + 0) + 0) + 0) + 0) + 6 ≤ 6 from by omega)⟩ dX1_checkCells_39) (fun H locs hI hxc => ?_)
        have hr := gS_i hr
        subst hr
        exact g_xout X hI hxc hxt gPs_0 (show (((((0 + 0) + 0) + 0) + 0) + 1) ≤ 1 from by omega) (show (((((0 + 0) + 0) + 0) + 0) + 6) ≤ 6 from by omega)
    · replace hr := gIf_f c9 hr
      refine lv_iconst (v := 1) hx hb dX1_checkCells_34 (by decide) ?_
      refine lv_goto (tgt := 39) hx hb dX1_checkCells_35 (by decide) ?_
      rcases gTX_i hr with ⟨u9, h27, n28, hc25, hr⟩ | ⟨q26, h29, n30, hc25, hr⟩
      · refine gXRet_v (g_xrunS X hI (w_X1_checkArgument hst hc25) hl (lw_S q1236 q1237 q96 q1238) rfl rfl hd_X1_checkArgument ⟨Nat.le_of_ble_eq_true rfl, Nat.le_of_ble_eq_true rfl⟩ (as := [.int (1 : Int32)]) (rest := []) rfl rfl (Nat.le_of_ble_eq_true rfl) ⟨(show ((((0 + 0) + 0) + 0) + 0) + 1 ≤ 1 from by omega), (show ((((0 + 0) + 0) + 0) + 0) + 6 ≤ 6 from by omega)⟩ dX1_checkCells_39) (fun H locs hI => ?_)
        have hr := gS_i hr
        subst hr
        exact g_xvret X hI (show (((((0 + 0) + 0) + 0) + 0) + 1) ≤ 1 from by omega) (show (((((0 + 0) + 0) + 0) + 0) + 6) ≤ 6 from by omega) dX1_checkCells_42
      · refine gXThr (k := q26.1) (q := q26.2) (g_xrunS X hI (w_X1_checkArgument hst hc25) hl (lw_S q1236 q1237 q96 q1238) rfl rfl hd_X1_checkArgument ⟨Nat.le_of_ble_eq_true rfl, Nat.le_of_ble_eq_true rfl⟩ (as := [.int (1 : Int32)]) (rest := []) rfl rfl (Nat.le_of_ble_eq_true rfl) ⟨(show ((((0 + 0) + 0) + 0) + 0) + 1 ≤ 1 from by omega), (show ((((0 + 0) + 0) + 0) + 0) + 6 ≤ 6 from by omega)⟩ dX1_checkCells_39) (fun H locs hI hxc => ?_)
        have hr := gS_i hr
        subst hr
        exact g_xout X hI hxc hxt gPs_0 (show (((((0 + 0) + 0) + 0) + 0) + 1) ≤ 1 from by omega) (show (((((0 + 0) + 0) + 0) + 0) + 6) ≤ 6 from by omega)
abbrev rm_X1_worth : Room := { frames := 11, cells := 6, slots := 31, locals := 224 }
theorem hd_X1_worth : yX1_worth.cls = RX1 ∧ yX1_worth.cls ≠ "java/lang/invoke/MethodHandle" ∧ yX1_worth.cls ≠ "java/lang/invoke/VarHandle" ∧ (parseMethodDescriptor yX1_worth.desc).map (fun d => d.parameters.length) = some 3 := by decide +kernel
set_option maxHeartbeats 2000000 in
theorem w_X1_worth {l : Launch} {x : gV} {base : Nat} (hst : l.stackTraces = false) {z0 : Nat} {z1 : Int32} {z2 : Int32} {z3 : Int32} {h : gH} {n : Nat} {res : (Int32 ⊕ gX) × gH × Nat} (hr : f_X1_worth z0 z1 z2 z3 h n = some res) : gMX l yX1_worth (ws_ yX1_worth cX1_worth 5 (some .int)) rm_X1_worth x base (fun v => some (.int v)) [.ref z0, .int z1, .int z2, .int z3] h n res 6 31 := by
  refine g_metX (cc := cX1_worth) (nL := 5) (ret := (some .int)) (by decide) (Nat.le_of_ble_eq_true rfl) (fun p e s m below meth c ls X hnm hxt hl hI => ?_)
  have hl : lv_has ls 5 [(0, .ref z0), (1, .int z1), (2, .int z2), (3, .int z3)] := hl
  have hx := X.1
  have hb := X.2.1
  have hcc : 0 + 6 ≤ 6 ∧ 0 + 31 ≤ 31 := ⟨Nat.le_refl _, Nat.le_refl _⟩
  unfold f_X1_worth at hr
  refine lv_aload_n hx hb dX1_worth_0 rfl (lv_at hl 0 rfl) ?_
  refine lv_iload_n hx hb dX1_worth_1 rfl (lv_at hl 1 rfl) ?_
  obtain ⟨_, ho1, hr⟩ := gB_i hr
  rcases gTX_i hr with ⟨v3, h5, n6, hc2, hr⟩ | ⟨q4, h7, n8, hc2, hr⟩
  · refine gXRet_a (g_xrunV X hI (w_X1_siblingAt hst hc2) ho1 rfl hl (lw_V q1170 q1172 qs19 q96 q1173) rfl rfl hd_X1_siblingAt ⟨Nat.le_of_ble_eq_true rfl, Nat.le_of_ble_eq_true rfl⟩ (as := [.int z1]) (rest := []) rfl rfl (Nat.le_of_ble_eq_true rfl) ⟨(show 0 + 5 ≤ 6 from by omega), (show 0 + 25 ≤ 31 from by omega)⟩ dX1_worth_2) (fun H locs hI => ?_)
    refine lv_astore (lv' := [(4, .ref v3), (0, .ref z0), (1, .int z1), (2, .int z2), (3, .int z3)]) hx hb dX1_worth_5 hl (by decide) rfl (fun ls hl => ?_)
    refine lv_aload_n hx hb dX1_worth_7 rfl (lv_at hl 1 rfl) ?_
    refine lv_iload_n hx hb dX1_worth_8 rfl (lv_at hl 3 rfl) ?_
    refine lv_iload_n hx hb dX1_worth_9 rfl (lv_at hl 4 rfl) ?_
    obtain ⟨_, ho9, hr⟩ := gB_i hr
    rcases gTX_i hr with ⟨u9, h12, n13, hc10, hr⟩ | ⟨q11, h14, n15, hc10, hr⟩
    · refine gXRet_v (g_xrunV X hI (w_X1_checkCells hst hc10) ho9 rfl hl (lw_V q1229 q1231 qs21 q96 q1232) rfl rfl hd_X1_checkCells ⟨Nat.le_of_ble_eq_true rfl, Nat.le_of_ble_eq_true rfl⟩ (as := [.int z2, .int z3]) (rest := []) rfl rfl (Nat.le_of_ble_eq_true rfl) ⟨(show (0 + 5) + 1 ≤ 6 from by omega), (show (0 + 25) + 6 ≤ 31 from by omega)⟩ dX1_worth_10) (fun H locs hI => ?_)
      refine lv_aload hx hb dX1_worth_13 (lv_at hl 0 rfl) ?_
      refine lv_iload_n hx hb dX1_worth_15 rfl (lv_at hl 3 rfl) ?_
      refine lv_iload_n hx hb dX1_worth_16 rfl (lv_at hl 4 rfl) ?_
      obtain ⟨_, ho16, hr⟩ := gB_i hr
      obtain ⟨v18, hc17, hr⟩ := gB_i hr
      refine gRun_i (g_runV X hI (w_X5_worth hc17) ho16 rfl hl (lw_V q1239 q871 q872 q121 q873) rfl rfl hd_X5_worth ⟨Nat.le_of_ble_eq_true rfl, Nat.le_of_ble_eq_true rfl⟩ (as := [.int z2, .int z3]) (rest := []) rfl rfl (Nat.le_of_ble_eq_true rfl) ⟨(show ((0 + 5) + 1) + 0 ≤ 6 from by omega), (show ((0 + 25) + 6) + 0 ≤ 31 from by omega)⟩ dX1_worth_17) (fun H locs hI => ?_)
      have hr := gS_i hr
      subst hr
      exact g_xiret X hI rfl (show (((0 + 5) + 1) + 0) ≤ 6 from by omega) (show (((0 + 25) + 6) + 0) ≤ 31 from by omega) dX1_worth_20
    · refine gXThr (k := q11.1) (q := q11.2) (g_xrunV X hI (w_X1_checkCells hst hc10) ho9 rfl hl (lw_V q1229 q1231 qs21 q96 q1232) rfl rfl hd_X1_checkCells ⟨Nat.le_of_ble_eq_true rfl, Nat.le_of_ble_eq_true rfl⟩ (as := [.int z2, .int z3]) (rest := []) rfl rfl (Nat.le_of_ble_eq_true rfl) ⟨(show (0 + 5) + 1 ≤ 6 from by omega), (show (0 + 25) + 6 ≤ 31 from by omega)⟩ dX1_worth_10) (fun H locs hI hxc => ?_)
      have hr := gS_i hr
      subst hr
      exact g_xout X hI hxc hxt gPs_0 (show ((0 + 5) + 1) ≤ 6 from by omega) (show ((0 + 25) + 6) ≤ 31 from by omega)
  · refine gXThr (k := q4.1) (q := q4.2) (g_xrunV X hI (w_X1_siblingAt hst hc2) ho1 rfl hl (lw_V q1170 q1172 qs19 q96 q1173) rfl rfl hd_X1_siblingAt ⟨Nat.le_of_ble_eq_true rfl, Nat.le_of_ble_eq_true rfl⟩ (as := [.int z1]) (rest := []) rfl rfl (Nat.le_of_ble_eq_true rfl) ⟨(show 0 + 5 ≤ 6 from by omega), (show 0 + 25 ≤ 31 from by omega)⟩ dX1_worth_2) (fun H locs hI hxc => ?_)
    have hr := gS_i hr
    subst hr
    exact g_xout X hI hxc hxt gPs_0 (show (0 + 5) ≤ 6 from by omega) (show (0 + 25) ≤ 31 from by omega)
abbrev rm_X1_total : Room := { frames := 11, cells := 5, slots := 25, locals := 224 }
theorem hd_X1_total : yX1_total.cls = RX1 ∧ yX1_total.cls ≠ "java/lang/invoke/MethodHandle" ∧ yX1_total.cls ≠ "java/lang/invoke/VarHandle" ∧ (parseMethodDescriptor yX1_total.desc).map (fun d => d.parameters.length) = some 1 := by decide +kernel
set_option maxHeartbeats 2000000 in
theorem w_X1_total {l : Launch} {x : gV} {base : Nat} (hst : l.stackTraces = false) {z0 : Nat} {z1 : Int32} {h : gH} {n : Nat} {res : (Int32 ⊕ gX) × gH × Nat} (hr : f_X1_total z0 z1 h n = some res) : gMX l yX1_total (ws_ yX1_total cX1_total 2 (some .int)) rm_X1_total x base (fun v => some (.int v)) [.ref z0, .int z1] h n res 5 25 := by
  refine g_metX (cc := cX1_total) (nL := 2) (ret := (some .int)) (by decide) (Nat.le_of_ble_eq_true rfl) (fun p e s m below meth c ls X hnm hxt hl hI => ?_)
  have hl : lv_has ls 2 [(0, .ref z0), (1, .int z1)] := hl
  have hx := X.1
  have hb := X.2.1
  have hcc : 0 + 5 ≤ 5 ∧ 0 + 25 ≤ 25 := ⟨Nat.le_refl _, Nat.le_refl _⟩
  unfold f_X1_total at hr
  refine lv_aload_n hx hb dX1_total_0 rfl (lv_at hl 0 rfl) ?_
  refine lv_iload_n hx hb dX1_total_1 rfl (lv_at hl 1 rfl) ?_
  obtain ⟨_, ho1, hr⟩ := gB_i hr
  rcases gTX_i hr with ⟨v3, h5, n6, hc2, hr⟩ | ⟨q4, h7, n8, hc2, hr⟩
  · refine gXRet_a (g_xrunV X hI (w_X1_siblingAt hst hc2) ho1 rfl hl (lw_V q1170 q1172 qs19 q96 q1173) rfl rfl hd_X1_siblingAt ⟨Nat.le_of_ble_eq_true rfl, Nat.le_of_ble_eq_true rfl⟩ (as := [.int z1]) (rest := []) rfl rfl (Nat.le_of_ble_eq_true rfl) ⟨(show 0 + 5 ≤ 5 from by omega), (show 0 + 25 ≤ 25 from by omega)⟩ dX1_total_2) (fun H locs hI => ?_)
    obtain ⟨_, ho9, hr⟩ := gB_i hr
    obtain ⟨v11, hc10, hr⟩ := gB_i hr
    refine gRun_i (g_runV X hI (w_X5_total hc10) ho9 rfl hl (lw_V q1247 q867 q868 q121 q869) rfl rfl hd_X5_total ⟨Nat.le_of_ble_eq_true rfl, Nat.le_of_ble_eq_true rfl⟩ (as := []) (rest := []) rfl rfl (Nat.le_of_ble_eq_true rfl) ⟨(show (0 + 5) + 0 ≤ 5 from by omega), (show (0 + 25) + 0 ≤ 25 from by omega)⟩ dX1_total_5) (fun H locs hI => ?_)
    have hr := gS_i hr
    subst hr
    exact g_xiret X hI rfl (show ((0 + 5) + 0) ≤ 5 from by omega) (show ((0 + 25) + 0) ≤ 25 from by omega) dX1_total_8
  · refine gXThr (k := q4.1) (q := q4.2) (g_xrunV X hI (w_X1_siblingAt hst hc2) ho1 rfl hl (lw_V q1170 q1172 qs19 q96 q1173) rfl rfl hd_X1_siblingAt ⟨Nat.le_of_ble_eq_true rfl, Nat.le_of_ble_eq_true rfl⟩ (as := [.int z1]) (rest := []) rfl rfl (Nat.le_of_ble_eq_true rfl) ⟨(show 0 + 5 ≤ 5 from by omega), (show 0 + 25 ≤ 25 from by omega)⟩ dX1_total_2) (fun H locs hI hxc => ?_)
    have hr := gS_i hr
    subst hr
    exact g_xout X hI hxc hxt gPs_0 (show (0 + 5) ≤ 5 from by omega) (show (0 + 25) ≤ 25 from by omega)
abbrev rm_X1_worthOfShare : Room := { frames := 10, cells := 5, slots := 26, locals := 203 }
theorem hd_X1_worthOfShare : yX1_worthOfShare.cls = RX1 ∧ yX1_worthOfShare.cls ≠ "java/lang/invoke/MethodHandle" ∧ yX1_worthOfShare.cls ≠ "java/lang/invoke/VarHandle" ∧ (parseMethodDescriptor yX1_worthOfShare.desc).map (fun d => d.parameters.length) = some 2 := by decide +kernel
set_option maxHeartbeats 2000000 in
theorem w_X1_worthOfShare {l : Launch} {x : gV} {base : Nat} (hst : l.stackTraces = false) {z0 : Nat} {z1 : Int32} {z2 : Int32} {h : gH} {n : Nat} {res : (Int32 ⊕ gX) × gH × Nat} (hr : f_X1_worthOfShare z0 z1 z2 h n = some res) : gMX l yX1_worthOfShare (ws_ yX1_worthOfShare cX1_worthOfShare 3 (some .int)) rm_X1_worthOfShare x base (fun v => some (.int v)) [.ref z0, .int z1, .int z2] h n res 5 26 := by
  refine g_metX (cc := cX1_worthOfShare) (nL := 3) (ret := (some .int)) (by decide) (Nat.le_of_ble_eq_true rfl) (fun p e s m below meth c ls X hnm hxt hl hI => ?_)
  have hl : lv_has ls 3 [(0, .ref z0), (1, .int z1), (2, .int z2)] := hl
  have hx := X.1
  have hb := X.2.1
  have hcc : 0 + 5 ≤ 5 ∧ 0 + 26 ≤ 26 := ⟨Nat.le_refl _, Nat.le_refl _⟩
  unfold f_X1_worthOfShare at hr
  refine lv_aload_n hx hb dX1_worthOfShare_0 rfl (lv_at hl 0 rfl) ?_
  refine lv_iconst (v := 2) hx hb dX1_worthOfShare_1 (by decide) ?_
  refine g_newI (t := 0) (b := 2) (atype := .int) X hI q512 rfl rfl (by decide) (show 0 + 1 ≤ 5 from by omega) (show 0 + 2 ≤ 26 from by omega) hr dX1_worthOfShare_2 (fun q1 h2 n3 H locs hI hr => ?_)
  refine lv_dup hx hb dX1_worthOfShare_4 rfl ?_
  refine lv_iconst (v := 0) hx hb dX1_worthOfShare_5 (by decide) ?_
  refine lv_iload_n hx hb dX1_worthOfShare_6 rfl (lv_at hl 1 rfl) ?_
  refine g_iast X hI hr dX1_worthOfShare_7 (fun h4 H locs hI hr => ?_)
  refine lv_dup hx hb dX1_worthOfShare_8 rfl ?_
  refine lv_iconst (v := 1) hx hb dX1_worthOfShare_9 (by decide) ?_
  refine lv_iload_n hx hb dX1_worthOfShare_10 rfl (lv_at hl 2 rfl) ?_
  refine g_iast X hI hr dX1_worthOfShare_11 (fun h5 H locs hI hr => ?_)
  obtain ⟨_, ho6, hr⟩ := gB_i hr
  rcases gTX_i hr with ⟨u9, h9, n10, hc7, hr⟩ | ⟨q8, h11, n12, hc7, hr⟩
  · refine gXRet_v (g_xrunV X hI (w_X1_checkSiblings hst hc7) ho6 rfl hl (lw_V q1174 q1176 qs20 q96 q1177) rfl rfl hd_X1_checkSiblings ⟨Nat.le_of_ble_eq_true rfl, Nat.le_of_ble_eq_true rfl⟩ (as := [.ref q1]) (rest := []) rfl rfl (Nat.le_of_ble_eq_true rfl) ⟨(show (0 + 1) + 4 ≤ 5 from by omega), (show (0 + 2) + 24 ≤ 26 from by omega)⟩ dX1_worthOfShare_12) (fun H locs hI => ?_)
    refine lv_aload_n hx hb dX1_worthOfShare_15 rfl (lv_at hl 0 rfl) ?_
    refine g_getA (C := RX1) (T := TX1) (N := 10) X hI in_X1 rfl 4 (by decide) q760 (fun _ h9 => h9) hr dX1_worthOfShare_16 (fun v13 hr => ?_)
    refine lv_iload_n hx hb dX1_worthOfShare_19 rfl (lv_at hl 1 rfl) ?_
    refine lv_iload_n hx hb dX1_worthOfShare_20 rfl (lv_at hl 2 rfl) ?_
    obtain ⟨_, ho14, hr⟩ := gB_i hr
    obtain ⟨v16, hc15, hr⟩ := gB_i hr
    refine gRun_i (g_runV X hI (w_X2_worthOfShare hc15) ho14 rfl hl (lw_V q1255 q826 q827 q97 q828) rfl rfl hd_X2_worthOfShare ⟨Nat.le_of_ble_eq_true rfl, Nat.le_of_ble_eq_true rfl⟩ (as := [.int z1, .int z2]) (rest := []) rfl rfl (Nat.le_of_ble_eq_true rfl) ⟨(show ((0 + 1) + 4) + 0 ≤ 5 from by omega), (show ((0 + 2) + 24) + 0 ≤ 26 from by omega)⟩ dX1_worthOfShare_21) (fun H locs hI => ?_)
    have hr := gS_i hr
    subst hr
    exact g_xiret X hI rfl (show (((0 + 1) + 4) + 0) ≤ 5 from by omega) (show (((0 + 2) + 24) + 0) ≤ 26 from by omega) dX1_worthOfShare_24
  · refine gXThr (k := q8.1) (q := q8.2) (g_xrunV X hI (w_X1_checkSiblings hst hc7) ho6 rfl hl (lw_V q1174 q1176 qs20 q96 q1177) rfl rfl hd_X1_checkSiblings ⟨Nat.le_of_ble_eq_true rfl, Nat.le_of_ble_eq_true rfl⟩ (as := [.ref q1]) (rest := []) rfl rfl (Nat.le_of_ble_eq_true rfl) ⟨(show (0 + 1) + 4 ≤ 5 from by omega), (show (0 + 2) + 24 ≤ 26 from by omega)⟩ dX1_worthOfShare_12) (fun H locs hI hxc => ?_)
    have hr := gS_i hr
    subst hr
    exact g_xout X hI hxc hxt gPs_0 (show ((0 + 1) + 4) ≤ 5 from by omega) (show ((0 + 2) + 24) ≤ 26 from by omega)
abbrev rm_X1_shareSize : Room := { frames := 10, cells := 5, slots := 25, locals := 203 }
theorem hd_X1_shareSize : yX1_shareSize.cls = RX1 ∧ yX1_shareSize.cls ≠ "java/lang/invoke/MethodHandle" ∧ yX1_shareSize.cls ≠ "java/lang/invoke/VarHandle" ∧ (parseMethodDescriptor yX1_shareSize.desc).map (fun d => d.parameters.length) = some 1 := by decide +kernel
set_option maxHeartbeats 2000000 in
theorem w_X1_shareSize {l : Launch} {x : gV} {base : Nat} (hst : l.stackTraces = false) {z0 : Nat} {z1 : Int32} {h : gH} {n : Nat} {res : (Int32 ⊕ gX) × gH × Nat} (hr : f_X1_shareSize z0 z1 h n = some res) : gMX l yX1_shareSize (ws_ yX1_shareSize cX1_shareSize 2 (some .int)) rm_X1_shareSize x base (fun v => some (.int v)) [.ref z0, .int z1] h n res 5 25 := by
  refine g_metX (cc := cX1_shareSize) (nL := 2) (ret := (some .int)) (by decide) (Nat.le_of_ble_eq_true rfl) (fun p e s m below meth c ls X hnm hxt hl hI => ?_)
  have hl : lv_has ls 2 [(0, .ref z0), (1, .int z1)] := hl
  have hx := X.1
  have hb := X.2.1
  have hcc : 0 + 5 ≤ 5 ∧ 0 + 25 ≤ 25 := ⟨Nat.le_refl _, Nat.le_refl _⟩
  unfold f_X1_shareSize at hr
  refine lv_aload_n hx hb dX1_shareSize_0 rfl (lv_at hl 0 rfl) ?_
  refine lv_iconst (v := 1) hx hb dX1_shareSize_1 (by decide) ?_
  refine g_newI (t := 0) (b := 1) (atype := .int) X hI q512 rfl rfl (by decide) (show 0 + 1 ≤ 5 from by omega) (show 0 + 1 ≤ 25 from by omega) hr dX1_shareSize_2 (fun q1 h2 n3 H locs hI hr => ?_)
  refine lv_dup hx hb dX1_shareSize_4 rfl ?_
  refine lv_iconst (v := 0) hx hb dX1_shareSize_5 (by decide) ?_
  refine lv_iload_n hx hb dX1_shareSize_6 rfl (lv_at hl 1 rfl) ?_
  refine g_iast X hI hr dX1_shareSize_7 (fun h4 H locs hI hr => ?_)
  obtain ⟨_, ho5, hr⟩ := gB_i hr
  rcases gTX_i hr with ⟨u9, h8, n9, hc6, hr⟩ | ⟨q7, h10, n11, hc6, hr⟩
  · refine gXRet_v (g_xrunV X hI (w_X1_checkSiblings hst hc6) ho5 rfl hl (lw_V q1174 q1176 qs20 q96 q1177) rfl rfl hd_X1_checkSiblings ⟨Nat.le_of_ble_eq_true rfl, Nat.le_of_ble_eq_true rfl⟩ (as := [.ref q1]) (rest := []) rfl rfl (Nat.le_of_ble_eq_true rfl) ⟨(show (0 + 1) + 4 ≤ 5 from by omega), (show (0 + 1) + 24 ≤ 25 from by omega)⟩ dX1_shareSize_8) (fun H locs hI => ?_)
    refine lv_aload_n hx hb dX1_shareSize_11 rfl (lv_at hl 0 rfl) ?_
    refine g_getA (C := RX1) (T := TX1) (N := 10) X hI in_X1 rfl 4 (by decide) q760 (fun _ h9 => h9) hr dX1_shareSize_12 (fun v12 hr => ?_)
    refine lv_iload_n hx hb dX1_shareSize_15 rfl (lv_at hl 1 rfl) ?_
    obtain ⟨_, ho13, hr⟩ := gB_i hr
    obtain ⟨v15, hc14, hr⟩ := gB_i hr
    refine gRun_i (g_runV X hI (w_X2_count hc14) ho13 rfl hl (lw_V q808 q809 q810 q97 q811) rfl rfl hd_X2_count ⟨Nat.le_of_ble_eq_true rfl, Nat.le_of_ble_eq_true rfl⟩ (as := [.int z1]) (rest := []) rfl rfl (Nat.le_of_ble_eq_true rfl) ⟨(show ((0 + 1) + 4) + 0 ≤ 5 from by omega), (show ((0 + 1) + 24) + 0 ≤ 25 from by omega)⟩ dX1_shareSize_16) (fun H locs hI => ?_)
    have hr := gS_i hr
    subst hr
    exact g_xiret X hI rfl (show (((0 + 1) + 4) + 0) ≤ 5 from by omega) (show (((0 + 1) + 24) + 0) ≤ 25 from by omega) dX1_shareSize_19
  · refine gXThr (k := q7.1) (q := q7.2) (g_xrunV X hI (w_X1_checkSiblings hst hc6) ho5 rfl hl (lw_V q1174 q1176 qs20 q96 q1177) rfl rfl hd_X1_checkSiblings ⟨Nat.le_of_ble_eq_true rfl, Nat.le_of_ble_eq_true rfl⟩ (as := [.ref q1]) (rest := []) rfl rfl (Nat.le_of_ble_eq_true rfl) ⟨(show (0 + 1) + 4 ≤ 5 from by omega), (show (0 + 1) + 24 ≤ 25 from by omega)⟩ dX1_shareSize_8) (fun H locs hI hxc => ?_)
    have hr := gS_i hr
    subst hr
    exact g_xout X hI hxc hxt gPs_0 (show ((0 + 1) + 4) ≤ 5 from by omega) (show ((0 + 1) + 24) ≤ 25 from by omega)
abbrev rm_X1_pieceCount : Room := { frames := 10, cells := 5, slots := 25, locals := 203 }
theorem hd_X1_pieceCount : yX1_pieceCount.cls = RX1 ∧ yX1_pieceCount.cls ≠ "java/lang/invoke/MethodHandle" ∧ yX1_pieceCount.cls ≠ "java/lang/invoke/VarHandle" ∧ (parseMethodDescriptor yX1_pieceCount.desc).map (fun d => d.parameters.length) = some 1 := by decide +kernel
set_option maxHeartbeats 2000000 in
theorem w_X1_pieceCount {l : Launch} {x : gV} {base : Nat} (hst : l.stackTraces = false) {z0 : Nat} {z1 : Int32} {h : gH} {n : Nat} {res : (Int32 ⊕ gX) × gH × Nat} (hr : f_X1_pieceCount z0 z1 h n = some res) : gMX l yX1_pieceCount (ws_ yX1_pieceCount cX1_pieceCount 2 (some .int)) rm_X1_pieceCount x base (fun v => some (.int v)) [.ref z0, .int z1] h n res 5 25 := by
  refine g_metX (cc := cX1_pieceCount) (nL := 2) (ret := (some .int)) (by decide) (Nat.le_of_ble_eq_true rfl) (fun p e s m below meth c ls X hnm hxt hl hI => ?_)
  have hl : lv_has ls 2 [(0, .ref z0), (1, .int z1)] := hl
  have hx := X.1
  have hb := X.2.1
  have hcc : 0 + 5 ≤ 5 ∧ 0 + 25 ≤ 25 := ⟨Nat.le_refl _, Nat.le_refl _⟩
  unfold f_X1_pieceCount at hr
  refine lv_aload_n hx hb dX1_pieceCount_0 rfl (lv_at hl 0 rfl) ?_
  refine lv_iconst (v := 1) hx hb dX1_pieceCount_1 (by decide) ?_
  refine g_newI (t := 0) (b := 1) (atype := .int) X hI q512 rfl rfl (by decide) (show 0 + 1 ≤ 5 from by omega) (show 0 + 1 ≤ 25 from by omega) hr dX1_pieceCount_2 (fun q1 h2 n3 H locs hI hr => ?_)
  refine lv_dup hx hb dX1_pieceCount_4 rfl ?_
  refine lv_iconst (v := 0) hx hb dX1_pieceCount_5 (by decide) ?_
  refine lv_iload_n hx hb dX1_pieceCount_6 rfl (lv_at hl 1 rfl) ?_
  refine g_iast X hI hr dX1_pieceCount_7 (fun h4 H locs hI hr => ?_)
  obtain ⟨_, ho5, hr⟩ := gB_i hr
  rcases gTX_i hr with ⟨u9, h8, n9, hc6, hr⟩ | ⟨q7, h10, n11, hc6, hr⟩
  · refine gXRet_v (g_xrunV X hI (w_X1_checkSiblings hst hc6) ho5 rfl hl (lw_V q1174 q1176 qs20 q96 q1177) rfl rfl hd_X1_checkSiblings ⟨Nat.le_of_ble_eq_true rfl, Nat.le_of_ble_eq_true rfl⟩ (as := [.ref q1]) (rest := []) rfl rfl (Nat.le_of_ble_eq_true rfl) ⟨(show (0 + 1) + 4 ≤ 5 from by omega), (show (0 + 1) + 24 ≤ 25 from by omega)⟩ dX1_pieceCount_8) (fun H locs hI => ?_)
    refine lv_aload_n hx hb dX1_pieceCount_11 rfl (lv_at hl 0 rfl) ?_
    refine g_getA (C := RX1) (T := TX1) (N := 10) X hI in_X1 rfl 4 (by decide) q760 (fun _ h9 => h9) hr dX1_pieceCount_12 (fun v12 hr => ?_)
    refine lv_iload_n hx hb dX1_pieceCount_15 rfl (lv_at hl 1 rfl) ?_
    obtain ⟨_, ho13, hr⟩ := gB_i hr
    obtain ⟨v15, hc14, hr⟩ := gB_i hr
    refine gRun_i (g_runV X hI (w_X2_pieces hc14) ho13 rfl hl (lw_V q956 q957 q958 q97 q959) rfl rfl hd_X2_pieces ⟨Nat.le_of_ble_eq_true rfl, Nat.le_of_ble_eq_true rfl⟩ (as := [.int z1]) (rest := []) rfl rfl (Nat.le_of_ble_eq_true rfl) ⟨(show ((0 + 1) + 4) + 0 ≤ 5 from by omega), (show ((0 + 1) + 24) + 0 ≤ 25 from by omega)⟩ dX1_pieceCount_16) (fun H locs hI => ?_)
    have hr := gS_i hr
    subst hr
    exact g_xiret X hI rfl (show (((0 + 1) + 4) + 0) ≤ 5 from by omega) (show (((0 + 1) + 24) + 0) ≤ 25 from by omega) dX1_pieceCount_19
  · refine gXThr (k := q7.1) (q := q7.2) (g_xrunV X hI (w_X1_checkSiblings hst hc6) ho5 rfl hl (lw_V q1174 q1176 qs20 q96 q1177) rfl rfl hd_X1_checkSiblings ⟨Nat.le_of_ble_eq_true rfl, Nat.le_of_ble_eq_true rfl⟩ (as := [.ref q1]) (rest := []) rfl rfl (Nat.le_of_ble_eq_true rfl) ⟨(show (0 + 1) + 4 ≤ 5 from by omega), (show (0 + 1) + 24 ≤ 25 from by omega)⟩ dX1_pieceCount_8) (fun H locs hI hxc => ?_)
    have hr := gS_i hr
    subst hr
    exact g_xout X hI hxc hxt gPs_0 (show ((0 + 1) + 4) ≤ 5 from by omega) (show ((0 + 1) + 24) ≤ 25 from by omega)
abbrev rm_X1_mark : Room := { frames := 11, cells := 7, slots := 37, locals := 224 }
theorem hd_X1_mark : yX1_mark.cls = RX1 ∧ yX1_mark.cls ≠ "java/lang/invoke/MethodHandle" ∧ yX1_mark.cls ≠ "java/lang/invoke/VarHandle" ∧ (parseMethodDescriptor yX1_mark.desc).map (fun d => d.parameters.length) = some 3 := by decide +kernel
set_option maxHeartbeats 2000000 in
theorem w_X1_mark {l : Launch} {x : gV} {base : Nat} (hst : l.stackTraces = false) {z0 : Nat} {z1 : Int32} {z2 : Int32} {z3 : Int32} {h : gH} {n : Nat} {res : (Int32 ⊕ gX) × gH × Nat} (hr : f_X1_mark z0 z1 z2 z3 h n = some res) : gMX l yX1_mark (ws_ yX1_mark cX1_mark 5 (some .int)) rm_X1_mark x base (fun v => some (.int v)) [.ref z0, .int z1, .int z2, .int z3] h n res 7 37 := by
  refine g_metX (cc := cX1_mark) (nL := 5) (ret := (some .int)) (by decide) (Nat.le_of_ble_eq_true rfl) (fun p e s m below meth c ls X hnm hxt hl hI => ?_)
  have hl : lv_has ls 5 [(0, .ref z0), (1, .int z1), (2, .int z2), (3, .int z3)] := hl
  have hx := X.1
  have hb := X.2.1
  have hcc : 0 + 7 ≤ 7 ∧ 0 + 37 ≤ 37 := ⟨Nat.le_refl _, Nat.le_refl _⟩
  unfold f_X1_mark at hr
  refine lv_aload_n hx hb dX1_mark_0 rfl (lv_at hl 0 rfl) ?_
  refine lv_iload_n hx hb dX1_mark_1 rfl (lv_at hl 1 rfl) ?_
  obtain ⟨_, ho1, hr⟩ := gB_i hr
  rcases gTX_i hr with ⟨v3, h5, n6, hc2, hr⟩ | ⟨q4, h7, n8, hc2, hr⟩
  · refine gXRet_a (g_xrunV X hI (w_X1_siblingAt hst hc2) ho1 rfl hl (lw_V q1170 q1172 qs19 q96 q1173) rfl rfl hd_X1_siblingAt ⟨Nat.le_of_ble_eq_true rfl, Nat.le_of_ble_eq_true rfl⟩ (as := [.int z1]) (rest := []) rfl rfl (Nat.le_of_ble_eq_true rfl) ⟨(show 0 + 5 ≤ 7 from by omega), (show 0 + 25 ≤ 37 from by omega)⟩ dX1_mark_2) (fun H locs hI => ?_)
    refine lv_astore (lv' := [(4, .ref v3), (0, .ref z0), (1, .int z1), (2, .int z2), (3, .int z3)]) hx hb dX1_mark_5 hl (by decide) rfl (fun ls hl => ?_)
    refine lv_iload_n hx hb dX1_mark_7 rfl (lv_at hl 3 rfl) ?_
    refine lv_aload_n hx hb dX1_mark_8 rfl (lv_at hl 1 rfl) ?_
    refine g_getA (C := RX1) (T := TX1) (N := 10) X hI in_X1 rfl 4 (by decide) q760 (fun _ h9 => h9) hr dX1_mark_9 (fun v9 hr => ?_)
    obtain ⟨_, ho10, hr⟩ := gB_i hr
    obtain ⟨v12, hc11, hr⟩ := gB_i hr
    refine gRun_i (g_runV X hI (w_X2_cells hc11) ho10 rfl hl (lw_V q686 q687 q688 q97 q689) rfl rfl hd_X2_cells ⟨Nat.le_of_ble_eq_true rfl, Nat.le_of_ble_eq_true rfl⟩ (as := []) (rest := [.int z2]) rfl rfl (Nat.le_of_ble_eq_true rfl) ⟨(show (0 + 5) + 0 ≤ 7 from by omega), (show (0 + 25) + 0 ≤ 37 from by omega)⟩ dX1_mark_12) (fun H locs hI => ?_)
    rcases gTX_i hr with ⟨u9, h15, n16, hc13, hr⟩ | ⟨q14, h17, n18, hc13, hr⟩
    · refine gXRet_v (g_xrunS X hI (w_X1_checkIndex hst hc13) hl (lw_S q1178 q1179 q96 q1180) rfl rfl hd_X1_checkIndex ⟨Nat.le_of_ble_eq_true rfl, Nat.le_of_ble_eq_true rfl⟩ (as := [.int z2, .int v12]) (rest := []) rfl rfl (Nat.le_of_ble_eq_true rfl) ⟨(show ((0 + 5) + 0) + 1 ≤ 7 from by omega), (show ((0 + 25) + 0) + 6 ≤ 37 from by omega)⟩ dX1_mark_15) (fun H locs hI => ?_)
      refine lv_iload_n hx hb dX1_mark_18 rfl (lv_at hl 4 rfl) ?_
      refine lv_iconst (v := 1) hx hb dX1_mark_19 (by decide) ?_
      refine lv_bipush (v := 24) hx hb dX1_mark_20 (by decide) ?_
      obtain ⟨v20, hc19, hr⟩ := gB_i hr
      refine gRun_i (g_runS X hI (w_X1_isBetween hc19) hl (lw_S q1233 q1234 q96 q1235) rfl rfl hd_X1_isBetween ⟨Nat.le_of_ble_eq_true rfl, Nat.le_of_ble_eq_true rfl⟩ (as := [.int z3, .int (1 : Int32), .int (24 : Int32)]) (rest := []) rfl rfl (Nat.le_of_ble_eq_true rfl) ⟨(show (((0 + 5) + 0) + 1) + 0 ≤ 7 from by omega), (show (((0 + 25) + 0) + 6) + 0 ≤ 37 from by omega)⟩ dX1_mark_22) (fun H locs hI => ?_)
      rcases gTX_i hr with ⟨u9, h23, n24, hc21, hr⟩ | ⟨q22, h25, n26, hc21, hr⟩
      · refine gXRet_v (g_xrunS X hI (w_X1_checkArgument hst hc21) hl (lw_S q1236 q1237 q96 q1238) rfl rfl hd_X1_checkArgument ⟨Nat.le_of_ble_eq_true rfl, Nat.le_of_ble_eq_true rfl⟩ (as := [.int v20]) (rest := []) rfl rfl (Nat.le_of_ble_eq_true rfl) ⟨(show ((((0 + 5) + 0) + 1) + 0) + 1 ≤ 7 from by omega), (show ((((0 + 25) + 0) + 6) + 0) + 6 ≤ 37 from by omega)⟩ dX1_mark_25) (fun H locs hI => ?_)
        refine lv_aload hx hb dX1_mark_28 (lv_at hl 0 rfl) ?_
        refine lv_iload_n hx hb dX1_mark_30 rfl (lv_at hl 3 rfl) ?_
        refine lv_iload_n hx hb dX1_mark_31 rfl (lv_at hl 4 rfl) ?_
        obtain ⟨_, ho27, hr⟩ := gB_i hr
        obtain ⟨v29, hc28, hr⟩ := gB_i hr
        refine gRun_i (g_runV X hI (w_X5_mark hc28) ho27 rfl hl (lw_V q1277 q1005 q1006 q121 q1007) rfl rfl hd_X5_mark ⟨Nat.le_of_ble_eq_true rfl, Nat.le_of_ble_eq_true rfl⟩ (as := [.int z2, .int z3]) (rest := []) rfl rfl (Nat.le_of_ble_eq_true rfl) ⟨(show (((((0 + 5) + 0) + 1) + 0) + 1) + 0 ≤ 7 from by omega), (show (((((0 + 25) + 0) + 6) + 0) + 6) + 0 ≤ 37 from by omega)⟩ dX1_mark_32) (fun H locs hI => ?_)
        have hr := gS_i hr
        subst hr
        exact g_xiret X hI rfl (show ((((((0 + 5) + 0) + 1) + 0) + 1) + 0) ≤ 7 from by omega) (show ((((((0 + 25) + 0) + 6) + 0) + 6) + 0) ≤ 37 from by omega) dX1_mark_35
      · refine gXThr (k := q22.1) (q := q22.2) (g_xrunS X hI (w_X1_checkArgument hst hc21) hl (lw_S q1236 q1237 q96 q1238) rfl rfl hd_X1_checkArgument ⟨Nat.le_of_ble_eq_true rfl, Nat.le_of_ble_eq_true rfl⟩ (as := [.int v20]) (rest := []) rfl rfl (Nat.le_of_ble_eq_true rfl) ⟨(show ((((0 + 5) + 0) + 1) + 0) + 1 ≤ 7 from by omega), (show ((((0 + 25) + 0) + 6) + 0) + 6 ≤ 37 from by omega)⟩ dX1_mark_25) (fun H locs hI hxc => ?_)
        have hr := gS_i hr
        subst hr
        exact g_xout X hI hxc hxt gPs_0 (show (((((0 + 5) + 0) + 1) + 0) + 1) ≤ 7 from by omega) (show (((((0 + 25) + 0) + 6) + 0) + 6) ≤ 37 from by omega)
    · refine gXThr (k := q14.1) (q := q14.2) (g_xrunS X hI (w_X1_checkIndex hst hc13) hl (lw_S q1178 q1179 q96 q1180) rfl rfl hd_X1_checkIndex ⟨Nat.le_of_ble_eq_true rfl, Nat.le_of_ble_eq_true rfl⟩ (as := [.int z2, .int v12]) (rest := []) rfl rfl (Nat.le_of_ble_eq_true rfl) ⟨(show ((0 + 5) + 0) + 1 ≤ 7 from by omega), (show ((0 + 25) + 0) + 6 ≤ 37 from by omega)⟩ dX1_mark_15) (fun H locs hI hxc => ?_)
      have hr := gS_i hr
      subst hr
      exact g_xout X hI hxc hxt gPs_0 (show (((0 + 5) + 0) + 1) ≤ 7 from by omega) (show (((0 + 25) + 0) + 6) ≤ 37 from by omega)
  · refine gXThr (k := q4.1) (q := q4.2) (g_xrunV X hI (w_X1_siblingAt hst hc2) ho1 rfl hl (lw_V q1170 q1172 qs19 q96 q1173) rfl rfl hd_X1_siblingAt ⟨Nat.le_of_ble_eq_true rfl, Nat.le_of_ble_eq_true rfl⟩ (as := [.int z1]) (rest := []) rfl rfl (Nat.le_of_ble_eq_true rfl) ⟨(show 0 + 5 ≤ 7 from by omega), (show 0 + 25 ≤ 37 from by omega)⟩ dX1_mark_2) (fun H locs hI hxc => ?_)
    have hr := gS_i hr
    subst hr
    exact g_xout X hI hxc hxt gPs_0 (show (0 + 5) ≤ 7 from by omega) (show (0 + 25) ≤ 37 from by omega)
abbrev rm_X1_favouriteFreeCell : Room := { frames := 10, cells := 5, slots := 25, locals := 203 }
theorem hd_X1_favouriteFreeCell : yX1_favouriteFreeCell.cls = RX1 ∧ yX1_favouriteFreeCell.cls ≠ "java/lang/invoke/MethodHandle" ∧ yX1_favouriteFreeCell.cls ≠ "java/lang/invoke/VarHandle" ∧ (parseMethodDescriptor yX1_favouriteFreeCell.desc).map (fun d => d.parameters.length) = some 1 := by decide +kernel
set_option maxHeartbeats 2000000 in
theorem w_X1_favouriteFreeCell {l : Launch} {x : gV} {base : Nat} (hst : l.stackTraces = false) {z0 : Nat} {z1 : Int32} {h : gH} {n : Nat} {res : (Int32 ⊕ gX) × gH × Nat} (hr : f_X1_favouriteFreeCell z0 z1 h n = some res) : gMX l yX1_favouriteFreeCell (ws_ yX1_favouriteFreeCell cX1_favouriteFreeCell 2 (some .int)) rm_X1_favouriteFreeCell x base (fun v => some (.int v)) [.ref z0, .int z1] h n res 5 25 := by
  refine g_metX (cc := cX1_favouriteFreeCell) (nL := 2) (ret := (some .int)) (by decide) (Nat.le_of_ble_eq_true rfl) (fun p e s m below meth c ls X hnm hxt hl hI => ?_)
  have hl : lv_has ls 2 [(0, .ref z0), (1, .int z1)] := hl
  have hx := X.1
  have hb := X.2.1
  have hcc : 0 + 5 ≤ 5 ∧ 0 + 25 ≤ 25 := ⟨Nat.le_refl _, Nat.le_refl _⟩
  unfold f_X1_favouriteFreeCell at hr
  refine lv_aload_n hx hb dX1_favouriteFreeCell_0 rfl (lv_at hl 0 rfl) ?_
  refine lv_iconst (v := 1) hx hb dX1_favouriteFreeCell_1 (by decide) ?_
  refine g_newI (t := 0) (b := 1) (atype := .int) X hI q512 rfl rfl (by decide) (show 0 + 1 ≤ 5 from by omega) (show 0 + 1 ≤ 25 from by omega) hr dX1_favouriteFreeCell_2 (fun q1 h2 n3 H locs hI hr => ?_)
  refine lv_dup hx hb dX1_favouriteFreeCell_4 rfl ?_
  refine lv_iconst (v := 0) hx hb dX1_favouriteFreeCell_5 (by decide) ?_
  refine lv_iload_n hx hb dX1_favouriteFreeCell_6 rfl (lv_at hl 1 rfl) ?_
  refine g_iast X hI hr dX1_favouriteFreeCell_7 (fun h4 H locs hI hr => ?_)
  obtain ⟨_, ho5, hr⟩ := gB_i hr
  rcases gTX_i hr with ⟨u9, h8, n9, hc6, hr⟩ | ⟨q7, h10, n11, hc6, hr⟩
  · refine gXRet_v (g_xrunV X hI (w_X1_checkSiblings hst hc6) ho5 rfl hl (lw_V q1174 q1176 qs20 q96 q1177) rfl rfl hd_X1_checkSiblings ⟨Nat.le_of_ble_eq_true rfl, Nat.le_of_ble_eq_true rfl⟩ (as := [.ref q1]) (rest := []) rfl rfl (Nat.le_of_ble_eq_true rfl) ⟨(show (0 + 1) + 4 ≤ 5 from by omega), (show (0 + 1) + 24 ≤ 25 from by omega)⟩ dX1_favouriteFreeCell_8) (fun H locs hI => ?_)
    refine lv_aload_n hx hb dX1_favouriteFreeCell_11 rfl (lv_at hl 0 rfl) ?_
    refine g_getA (C := RX1) (T := TX1) (N := 10) X hI in_X1 rfl 4 (by decide) q760 (fun _ h9 => h9) hr dX1_favouriteFreeCell_12 (fun v12 hr => ?_)
    refine lv_iload_n hx hb dX1_favouriteFreeCell_15 rfl (lv_at hl 1 rfl) ?_
    obtain ⟨_, ho13, hr⟩ := gB_i hr
    obtain ⟨v15, hc14, hr⟩ := gB_i hr
    refine gRun_i (g_runV X hI (w_X2_favourite hc14) ho13 rfl hl (lw_V q1285 q988 q989 q97 q990) rfl rfl hd_X2_favourite ⟨Nat.le_of_ble_eq_true rfl, Nat.le_of_ble_eq_true rfl⟩ (as := [.int z1]) (rest := []) rfl rfl (Nat.le_of_ble_eq_true rfl) ⟨(show ((0 + 1) + 4) + 0 ≤ 5 from by omega), (show ((0 + 1) + 24) + 0 ≤ 25 from by omega)⟩ dX1_favouriteFreeCell_16) (fun H locs hI => ?_)
    have hr := gS_i hr
    subst hr
    exact g_xiret X hI rfl (show (((0 + 1) + 4) + 0) ≤ 5 from by omega) (show (((0 + 1) + 24) + 0) ≤ 25 from by omega) dX1_favouriteFreeCell_19
  · refine gXThr (k := q7.1) (q := q7.2) (g_xrunV X hI (w_X1_checkSiblings hst hc6) ho5 rfl hl (lw_V q1174 q1176 qs20 q96 q1177) rfl rfl hd_X1_checkSiblings ⟨Nat.le_of_ble_eq_true rfl, Nat.le_of_ble_eq_true rfl⟩ (as := [.ref q1]) (rest := []) rfl rfl (Nat.le_of_ble_eq_true rfl) ⟨(show (0 + 1) + 4 ≤ 5 from by omega), (show (0 + 1) + 24 ≤ 25 from by omega)⟩ dX1_favouriteFreeCell_8) (fun H locs hI hxc => ?_)
    have hr := gS_i hr
    subst hr
    exact g_xout X hI hxc hxt gPs_0 (show ((0 + 1) + 4) ≤ 5 from by omega) (show ((0 + 1) + 24) ≤ 25 from by omega)
abbrev rm_X1_envies : Room := { frames := 10, cells := 5, slots := 26, locals := 203 }
theorem hd_X1_envies : yX1_envies.cls = RX1 ∧ yX1_envies.cls ≠ "java/lang/invoke/MethodHandle" ∧ yX1_envies.cls ≠ "java/lang/invoke/VarHandle" ∧ (parseMethodDescriptor yX1_envies.desc).map (fun d => d.parameters.length) = some 2 := by decide +kernel
set_option maxHeartbeats 2000000 in
theorem w_X1_envies {l : Launch} {x : gV} {base : Nat} (hst : l.stackTraces = false) {z0 : Nat} {z1 : Int32} {z2 : Int32} {h : gH} {n : Nat} {res : (Int32 ⊕ gX) × gH × Nat} (hr : f_X1_envies z0 z1 z2 h n = some res) : gMX l yX1_envies (ws_ yX1_envies cX1_envies 3 (some .boolean)) rm_X1_envies x base (fun v => some (.int v)) [.ref z0, .int z1, .int z2] h n res 5 26 := by
  refine g_metX (cc := cX1_envies) (nL := 3) (ret := (some .boolean)) (by decide) (Nat.le_of_ble_eq_true rfl) (fun p e s m below meth c ls X hnm hxt hl hI => ?_)
  have hl : lv_has ls 3 [(0, .ref z0), (1, .int z1), (2, .int z2)] := hl
  have hx := X.1
  have hb := X.2.1
  have hcc : 0 + 5 ≤ 5 ∧ 0 + 26 ≤ 26 := ⟨Nat.le_refl _, Nat.le_refl _⟩
  unfold f_X1_envies at hr
  refine lv_aload_n hx hb dX1_envies_0 rfl (lv_at hl 0 rfl) ?_
  refine lv_iconst (v := 2) hx hb dX1_envies_1 (by decide) ?_
  refine g_newI (t := 0) (b := 2) (atype := .int) X hI q512 rfl rfl (by decide) (show 0 + 1 ≤ 5 from by omega) (show 0 + 2 ≤ 26 from by omega) hr dX1_envies_2 (fun q1 h2 n3 H locs hI hr => ?_)
  refine lv_dup hx hb dX1_envies_4 rfl ?_
  refine lv_iconst (v := 0) hx hb dX1_envies_5 (by decide) ?_
  refine lv_iload_n hx hb dX1_envies_6 rfl (lv_at hl 1 rfl) ?_
  refine g_iast X hI hr dX1_envies_7 (fun h4 H locs hI hr => ?_)
  refine lv_dup hx hb dX1_envies_8 rfl ?_
  refine lv_iconst (v := 1) hx hb dX1_envies_9 (by decide) ?_
  refine lv_iload_n hx hb dX1_envies_10 rfl (lv_at hl 2 rfl) ?_
  refine g_iast X hI hr dX1_envies_11 (fun h5 H locs hI hr => ?_)
  obtain ⟨_, ho6, hr⟩ := gB_i hr
  rcases gTX_i hr with ⟨u9, h9, n10, hc7, hr⟩ | ⟨q8, h11, n12, hc7, hr⟩
  · refine gXRet_v (g_xrunV X hI (w_X1_checkSiblings hst hc7) ho6 rfl hl (lw_V q1174 q1176 qs20 q96 q1177) rfl rfl hd_X1_checkSiblings ⟨Nat.le_of_ble_eq_true rfl, Nat.le_of_ble_eq_true rfl⟩ (as := [.ref q1]) (rest := []) rfl rfl (Nat.le_of_ble_eq_true rfl) ⟨(show (0 + 1) + 4 ≤ 5 from by omega), (show (0 + 2) + 24 ≤ 26 from by omega)⟩ dX1_envies_12) (fun H locs hI => ?_)
    refine lv_aload_n hx hb dX1_envies_15 rfl (lv_at hl 0 rfl) ?_
    refine g_getA (C := RX1) (T := TX1) (N := 10) X hI in_X1 rfl 4 (by decide) q760 (fun _ h9 => h9) hr dX1_envies_16 (fun v13 hr => ?_)
    refine lv_iload_n hx hb dX1_envies_19 rfl (lv_at hl 1 rfl) ?_
    refine lv_iload_n hx hb dX1_envies_20 rfl (lv_at hl 2 rfl) ?_
    obtain ⟨_, ho14, hr⟩ := gB_i hr
    obtain ⟨v16, hc15, hr⟩ := gB_i hr
    refine gRun_i (g_runV X hI (w_X2_envies_2 hc15) ho14 rfl hl (lw_V q841 q822 q823 q97 q824) rfl rfl hd_X2_envies_2 ⟨Nat.le_of_ble_eq_true rfl, Nat.le_of_ble_eq_true rfl⟩ (as := [.int z1, .int z2]) (rest := []) rfl rfl (Nat.le_of_ble_eq_true rfl) ⟨(show ((0 + 1) + 4) + 0 ≤ 5 from by omega), (show ((0 + 2) + 24) + 0 ≤ 26 from by omega)⟩ dX1_envies_21) (fun H locs hI => ?_)
    obtain ⟨c9, hr⟩ := gIf_o hr
    have hr := gS_i hr
    subst hr
    exact g_xiret X hI (g_narZ c9) (show (((0 + 1) + 4) + 0) ≤ 5 from by omega) (show (((0 + 2) + 24) + 0) ≤ 26 from by omega) dX1_envies_24
  · refine gXThr (k := q8.1) (q := q8.2) (g_xrunV X hI (w_X1_checkSiblings hst hc7) ho6 rfl hl (lw_V q1174 q1176 qs20 q96 q1177) rfl rfl hd_X1_checkSiblings ⟨Nat.le_of_ble_eq_true rfl, Nat.le_of_ble_eq_true rfl⟩ (as := [.ref q1]) (rest := []) rfl rfl (Nat.le_of_ble_eq_true rfl) ⟨(show (0 + 1) + 4 ≤ 5 from by omega), (show (0 + 2) + 24 ≤ 26 from by omega)⟩ dX1_envies_12) (fun H locs hI hxc => ?_)
    have hr := gS_i hr
    subst hr
    exact g_xout X hI hxc hxt gPs_0 (show ((0 + 1) + 4) ≤ 5 from by omega) (show ((0 + 2) + 24) ≤ 26 from by omega)
abbrev rm_X1_checkState : Room := { frames := 8, cells := 1, slots := 6, locals := 160 }
theorem hd_X1_checkState : yX1_checkState.cls ≠ "java/lang/invoke/MethodHandle" ∧ yX1_checkState.cls ≠ "java/lang/invoke/VarHandle" ∧ (parseMethodDescriptor yX1_checkState.desc).map (fun d => d.parameters.length) = some 1 := by decide +kernel
set_option maxHeartbeats 2000000 in
theorem w_X1_checkState {l : Launch} {x : gV} {base : Nat} (hst : l.stackTraces = false) {z0 : Int32} {h : gH} {n : Nat} {res : (Unit ⊕ gX) × gH × Nat} (hr : f_X1_checkState z0 h n = some res) : gMX l yX1_checkState (ws_ yX1_checkState cX1_checkState 1 none) rm_X1_checkState x base (fun _ => none) [.int z0] h n res 1 6 := by
  refine g_metX (cc := cX1_checkState) (nL := 1) (ret := none) (by decide) (Nat.le_of_ble_eq_true rfl) (fun p e s m below meth c ls X hnm hxt hl hI => ?_)
  have hl : lv_has ls 1 [(0, .int z0)] := hl
  have hx := X.1
  have hb := X.2.1
  have hcc : 0 + 1 ≤ 1 ∧ 0 + 6 ≤ 6 := ⟨Nat.le_refl _, Nat.le_refl _⟩
  unfold f_X1_checkState at hr
  refine lv_iload_n hx hb dX1_checkState_0 rfl (lv_at hl 0 rfl) ?_
  refine lv_if_ne (tgt := 12) hx hb dX1_checkState_1 (by decide) (fun c9 => ?_) (fun c9 => ?_)
  · replace hr := gIf_f c9 hr
    have hr := gS_i hr
    subst hr
    exact g_xvret X hI (show 0 ≤ 1 from by omega) (show 0 ≤ 6 from by omega) dX1_checkState_12
  · replace hr := gIf_t c9 hr
    refine g_mk0 (cls := "java/lang/IllegalStateException") (names := ["java/lang/RuntimeException", "java/lang/Exception"]) (ik := 78) (ic := 80) (ci := 10) X hst hI hl (by decide) (by decide) q1104 q123 gxs_ISE_80 rfl dX1_checkState_4 dX1_checkState_7 dX1_checkState_8 (Nat.le_of_ble_eq_true rfl) (Nat.le_of_ble_eq_true rfl) (show 0 + 1 ≤ 1 from by omega) (show 0 + 6 ≤ 6 from by omega) hr (fun q4 h5 n6 H locs hI hr => ?_)
    obtain ⟨k7, hk8, hr⟩ := gB_i hr
    refine g_athrow X hI hk8 dX1_checkState_11 (fun hxc => ?_)
    have hr := gS_i hr
    subst hr
    exact g_xout X hI hxc hxt gPs_0 (show (0 + 1) ≤ 1 from by omega) (show (0 + 6) ≤ 6 from by omega)
abbrev rm_X1_isMild : Room := { frames := 10, cells := 6, slots := 32, locals := 203 }
theorem hd_X1_isMild : yX1_isMild.cls = RX1 ∧ yX1_isMild.cls ≠ "java/lang/invoke/MethodHandle" ∧ yX1_isMild.cls ≠ "java/lang/invoke/VarHandle" ∧ (parseMethodDescriptor yX1_isMild.desc).map (fun d => d.parameters.length) = some 2 := by decide +kernel
set_option maxHeartbeats 2000000 in
theorem w_X1_isMild {l : Launch} {x : gV} {base : Nat} (hst : l.stackTraces = false) {z0 : Nat} {z1 : Int32} {z2 : Int32} {h : gH} {n : Nat} {res : (Int32 ⊕ gX) × gH × Nat} (hr : f_X1_isMild z0 z1 z2 h n = some res) : gMX l yX1_isMild (ws_ yX1_isMild cX1_isMild 3 (some .boolean)) rm_X1_isMild x base (fun v => some (.int v)) [.ref z0, .int z1, .int z2] h n res 6 32 := by
  refine g_metX (cc := cX1_isMild) (nL := 3) (ret := (some .boolean)) (by decide) (Nat.le_of_ble_eq_true rfl) (fun p e s m below meth c ls X hnm hxt hl hI => ?_)
  have hl : lv_has ls 3 [(0, .ref z0), (1, .int z1), (2, .int z2)] := hl
  have hx := X.1
  have hb := X.2.1
  have hcc : 0 + 6 ≤ 6 ∧ 0 + 32 ≤ 32 := ⟨Nat.le_refl _, Nat.le_refl _⟩
  unfold f_X1_isMild at hr
  refine lv_aload_n hx hb dX1_isMild_0 rfl (lv_at hl 0 rfl) ?_
  refine lv_iconst (v := 2) hx hb dX1_isMild_1 (by decide) ?_
  refine g_newI (t := 0) (b := 2) (atype := .int) X hI q512 rfl rfl (by decide) (show 0 + 1 ≤ 6 from by omega) (show 0 + 2 ≤ 32 from by omega) hr dX1_isMild_2 (fun q1 h2 n3 H locs hI hr => ?_)
  refine lv_dup hx hb dX1_isMild_4 rfl ?_
  refine lv_iconst (v := 0) hx hb dX1_isMild_5 (by decide) ?_
  refine lv_iload_n hx hb dX1_isMild_6 rfl (lv_at hl 1 rfl) ?_
  refine g_iast X hI hr dX1_isMild_7 (fun h4 H locs hI hr => ?_)
  refine lv_dup hx hb dX1_isMild_8 rfl ?_
  refine lv_iconst (v := 1) hx hb dX1_isMild_9 (by decide) ?_
  refine lv_iload_n hx hb dX1_isMild_10 rfl (lv_at hl 2 rfl) ?_
  refine g_iast X hI hr dX1_isMild_11 (fun h5 H locs hI hr => ?_)
  obtain ⟨_, ho6, hr⟩ := gB_i hr
  rcases gTX_i hr with ⟨u9, h9, n10, hc7, hr⟩ | ⟨q8, h11, n12, hc7, hr⟩
  · refine gXRet_v (g_xrunV X hI (w_X1_checkSiblings hst hc7) ho6 rfl hl (lw_V q1174 q1176 qs20 q96 q1177) rfl rfl hd_X1_checkSiblings ⟨Nat.le_of_ble_eq_true rfl, Nat.le_of_ble_eq_true rfl⟩ (as := [.ref q1]) (rest := []) rfl rfl (Nat.le_of_ble_eq_true rfl) ⟨(show (0 + 1) + 4 ≤ 6 from by omega), (show (0 + 2) + 24 ≤ 32 from by omega)⟩ dX1_isMild_12) (fun H locs hI => ?_)
    refine lv_aload_n hx hb dX1_isMild_15 rfl (lv_at hl 0 rfl) ?_
    refine g_getA (C := RX1) (T := TX1) (N := 10) X hI in_X1 rfl 4 (by decide) q760 (fun _ h9 => h9) hr dX1_isMild_16 (fun v13 hr => ?_)
    refine lv_iload_n hx hb dX1_isMild_19 rfl (lv_at hl 1 rfl) ?_
    refine lv_iload_n hx hb dX1_isMild_20 rfl (lv_at hl 2 rfl) ?_
    obtain ⟨_, ho14, hr⟩ := gB_i hr
    obtain ⟨v16, hc15, hr⟩ := gB_i hr
    refine gRun_i (g_runV X hI (w_X2_envies_2 hc15) ho14 rfl hl (lw_V q841 q822 q823 q97 q824) rfl rfl hd_X2_envies_2 ⟨Nat.le_of_ble_eq_true rfl, Nat.le_of_ble_eq_true rfl⟩ (as := [.int z1, .int z2]) (rest := []) rfl rfl (Nat.le_of_ble_eq_true rfl) ⟨(show ((0 + 1) + 4) + 0 ≤ 6 from by omega), (show ((0 + 2) + 24) + 0 ≤ 32 from by omega)⟩ dX1_isMild_21) (fun H locs hI => ?_)
    rcases gTX_i hr with ⟨u9, h19, n20, hc17, hr⟩ | ⟨q18, h21, n22, hc17, hr⟩
    · refine gXRet_v (g_xrunS X hI (w_X1_checkState hst hc17) hl (lw_S q1300 q1301 q96 q1302) rfl rfl hd_X1_checkState ⟨Nat.le_of_ble_eq_true rfl, Nat.le_of_ble_eq_true rfl⟩ (as := [.int v16]) (rest := []) rfl rfl (Nat.le_of_ble_eq_true rfl) ⟨(show (((0 + 1) + 4) + 0) + 1 ≤ 6 from by omega), (show (((0 + 2) + 24) + 0) + 6 ≤ 32 from by omega)⟩ dX1_isMild_24) (fun H locs hI => ?_)
      refine lv_aload_n hx hb dX1_isMild_27 rfl (lv_at hl 0 rfl) ?_
      refine g_getA (C := RX1) (T := TX1) (N := 10) X hI in_X1 rfl 4 (by decide) q760 (fun _ h9 => h9) hr dX1_isMild_28 (fun v23 hr => ?_)
      refine lv_iload_n hx hb dX1_isMild_31 rfl (lv_at hl 1 rfl) ?_
      refine lv_iload_n hx hb dX1_isMild_32 rfl (lv_at hl 2 rfl) ?_
      obtain ⟨_, ho24, hr⟩ := gB_i hr
      obtain ⟨v26, hc25, hr⟩ := gB_i hr
      refine gRun_i (g_runV X hI (w_X2_isMild hc25) ho24 rfl hl (lw_V q842 q843 q844 q97 q845) rfl rfl hd_X2_isMild ⟨Nat.le_of_ble_eq_true rfl, Nat.le_of_ble_eq_true rfl⟩ (as := [.int z1, .int z2]) (rest := []) rfl rfl (Nat.le_of_ble_eq_true rfl) ⟨(show ((((0 + 1) + 4) + 0) + 1) + 0 ≤ 6 from by omega), (show ((((0 + 2) + 24) + 0) + 6) + 0 ≤ 32 from by omega)⟩ dX1_isMild_33) (fun H locs hI => ?_)
      obtain ⟨c9, hr⟩ := gIf_o hr
      have hr := gS_i hr
      subst hr
      exact g_xiret X hI (g_narZ c9) (show (((((0 + 1) + 4) + 0) + 1) + 0) ≤ 6 from by omega) (show (((((0 + 2) + 24) + 0) + 6) + 0) ≤ 32 from by omega) dX1_isMild_36
    · refine gXThr (k := q18.1) (q := q18.2) (g_xrunS X hI (w_X1_checkState hst hc17) hl (lw_S q1300 q1301 q96 q1302) rfl rfl hd_X1_checkState ⟨Nat.le_of_ble_eq_true rfl, Nat.le_of_ble_eq_true rfl⟩ (as := [.int v16]) (rest := []) rfl rfl (Nat.le_of_ble_eq_true rfl) ⟨(show (((0 + 1) + 4) + 0) + 1 ≤ 6 from by omega), (show (((0 + 2) + 24) + 0) + 6 ≤ 32 from by omega)⟩ dX1_isMild_24) (fun H locs hI hxc => ?_)
      have hr := gS_i hr
      subst hr
      exact g_xout X hI hxc hxt gPs_0 (show ((((0 + 1) + 4) + 0) + 1) ≤ 6 from by omega) (show ((((0 + 2) + 24) + 0) + 6) ≤ 32 from by omega)
  · refine gXThr (k := q8.1) (q := q8.2) (g_xrunV X hI (w_X1_checkSiblings hst hc7) ho6 rfl hl (lw_V q1174 q1176 qs20 q96 q1177) rfl rfl hd_X1_checkSiblings ⟨Nat.le_of_ble_eq_true rfl, Nat.le_of_ble_eq_true rfl⟩ (as := [.ref q1]) (rest := []) rfl rfl (Nat.le_of_ble_eq_true rfl) ⟨(show (0 + 1) + 4 ≤ 6 from by omega), (show (0 + 2) + 24 ≤ 32 from by omega)⟩ dX1_isMild_12) (fun H locs hI hxc => ?_)
    have hr := gS_i hr
    subst hr
    exact g_xout X hI hxc hxt gPs_0 (show ((0 + 1) + 4) ≤ 6 from by omega) (show ((0 + 2) + 24) ≤ 32 from by omega)
abbrev rm_X1_isSatisfied : Room := { frames := 10, cells := 5, slots := 25, locals := 203 }
theorem hd_X1_isSatisfied : yX1_isSatisfied.cls = RX1 ∧ yX1_isSatisfied.cls ≠ "java/lang/invoke/MethodHandle" ∧ yX1_isSatisfied.cls ≠ "java/lang/invoke/VarHandle" ∧ (parseMethodDescriptor yX1_isSatisfied.desc).map (fun d => d.parameters.length) = some 1 := by decide +kernel
set_option maxHeartbeats 2000000 in
theorem w_X1_isSatisfied {l : Launch} {x : gV} {base : Nat} (hst : l.stackTraces = false) {z0 : Nat} {z1 : Int32} {h : gH} {n : Nat} {res : (Int32 ⊕ gX) × gH × Nat} (hr : f_X1_isSatisfied z0 z1 h n = some res) : gMX l yX1_isSatisfied (ws_ yX1_isSatisfied cX1_isSatisfied 2 (some .boolean)) rm_X1_isSatisfied x base (fun v => some (.int v)) [.ref z0, .int z1] h n res 5 25 := by
  refine g_metX (cc := cX1_isSatisfied) (nL := 2) (ret := (some .boolean)) (by decide) (Nat.le_of_ble_eq_true rfl) (fun p e s m below meth c ls X hnm hxt hl hI => ?_)
  have hl : lv_has ls 2 [(0, .ref z0), (1, .int z1)] := hl
  have hx := X.1
  have hb := X.2.1
  have hcc : 0 + 5 ≤ 5 ∧ 0 + 25 ≤ 25 := ⟨Nat.le_refl _, Nat.le_refl _⟩
  unfold f_X1_isSatisfied at hr
  refine lv_aload_n hx hb dX1_isSatisfied_0 rfl (lv_at hl 0 rfl) ?_
  refine lv_iconst (v := 1) hx hb dX1_isSatisfied_1 (by decide) ?_
  refine g_newI (t := 0) (b := 1) (atype := .int) X hI q512 rfl rfl (by decide) (show 0 + 1 ≤ 5 from by omega) (show 0 + 1 ≤ 25 from by omega) hr dX1_isSatisfied_2 (fun q1 h2 n3 H locs hI hr => ?_)
  refine lv_dup hx hb dX1_isSatisfied_4 rfl ?_
  refine lv_iconst (v := 0) hx hb dX1_isSatisfied_5 (by decide) ?_
  refine lv_iload_n hx hb dX1_isSatisfied_6 rfl (lv_at hl 1 rfl) ?_
  refine g_iast X hI hr dX1_isSatisfied_7 (fun h4 H locs hI hr => ?_)
  obtain ⟨_, ho5, hr⟩ := gB_i hr
  rcases gTX_i hr with ⟨u9, h8, n9, hc6, hr⟩ | ⟨q7, h10, n11, hc6, hr⟩
  · refine gXRet_v (g_xrunV X hI (w_X1_checkSiblings hst hc6) ho5 rfl hl (lw_V q1174 q1176 qs20 q96 q1177) rfl rfl hd_X1_checkSiblings ⟨Nat.le_of_ble_eq_true rfl, Nat.le_of_ble_eq_true rfl⟩ (as := [.ref q1]) (rest := []) rfl rfl (Nat.le_of_ble_eq_true rfl) ⟨(show (0 + 1) + 4 ≤ 5 from by omega), (show (0 + 1) + 24 ≤ 25 from by omega)⟩ dX1_isSatisfied_8) (fun H locs hI => ?_)
    refine lv_aload_n hx hb dX1_isSatisfied_11 rfl (lv_at hl 0 rfl) ?_
    refine g_getA (C := RX1) (T := TX1) (N := 10) X hI in_X1 rfl 4 (by decide) q760 (fun _ h9 => h9) hr dX1_isSatisfied_12 (fun v12 hr => ?_)
    refine lv_iload_n hx hb dX1_isSatisfied_15 rfl (lv_at hl 1 rfl) ?_
    obtain ⟨_, ho13, hr⟩ := gB_i hr
    obtain ⟨v15, hc14, hr⟩ := gB_i hr
    refine gRun_i (g_runV X hI (w_X2_isSatisfied hc14) ho13 rfl hl (lw_V q1310 q863 q864 q97 q865) rfl rfl hd_X2_isSatisfied ⟨Nat.le_of_ble_eq_true rfl, Nat.le_of_ble_eq_true rfl⟩ (as := [.int z1]) (rest := []) rfl rfl (Nat.le_of_ble_eq_true rfl) ⟨(show ((0 + 1) + 4) + 0 ≤ 5 from by omega), (show ((0 + 1) + 24) + 0 ≤ 25 from by omega)⟩ dX1_isSatisfied_16) (fun H locs hI => ?_)
    obtain ⟨c9, hr⟩ := gIf_o hr
    have hr := gS_i hr
    subst hr
    exact g_xiret X hI (g_narZ c9) (show (((0 + 1) + 4) + 0) ≤ 5 from by omega) (show (((0 + 1) + 24) + 0) ≤ 25 from by omega) dX1_isSatisfied_19
  · refine gXThr (k := q7.1) (q := q7.2) (g_xrunV X hI (w_X1_checkSiblings hst hc6) ho5 rfl hl (lw_V q1174 q1176 qs20 q96 q1177) rfl rfl hd_X1_checkSiblings ⟨Nat.le_of_ble_eq_true rfl, Nat.le_of_ble_eq_true rfl⟩ (as := [.ref q1]) (rest := []) rfl rfl (Nat.le_of_ble_eq_true rfl) ⟨(show (0 + 1) + 4 ≤ 5 from by omega), (show (0 + 1) + 24 ≤ 25 from by omega)⟩ dX1_isSatisfied_8) (fun H locs hI hxc => ?_)
    have hr := gS_i hr
    subst hr
    exact g_xout X hI hxc hxt gPs_0 (show ((0 + 1) + 4) ≤ 5 from by omega) (show ((0 + 1) + 24) ≤ 25 from by omega)
abbrev rm_X7_spread : Room := { frames := 7, cells := 0, slots := 0, locals := 152 }
theorem hd_X7_spread : yX7_spread.cls = RX7 ∧ yX7_spread.cls ≠ "java/lang/invoke/MethodHandle" ∧ yX7_spread.cls ≠ "java/lang/invoke/VarHandle" ∧ (parseMethodDescriptor yX7_spread.desc).map (fun d => d.parameters.length) = some 1 := by decide +kernel
set_option maxHeartbeats 2000000 in
theorem w_X7_spread_L15 {n : Nat} {r2 : Int32 → gH → Option gH} {z0 : Nat} {z1 : Int32} {z2 : Int32} {res : gH} (X : gXX x base RX7 cX7_spread 4 none p l s m args meth c) (Hr2 : ∀ {z2 : Int32} {h : gH} {H : Heap} {locs : List Loc} {ls : Array Slot}, r2 z2 h = some res → gI x base s.heap h n H locs → lv_has ls 4 [(0, .ref z0), (1, .int z1), (2, .int z2)] → W p l e rm_X7_spread s m args below meth c H locs 0 0 (MQ below (gQ x base none res n) args s 0 0 (fun q => base ≤ q)) (F0 m 2 ls [])) : ∀ (k : Nat) {z3 : Int32} {h : gH} {H : Heap} {locs : List Loc} {ls : Array Slot}, gL2 (f_X7_spread_L15 r2 z0 z1 z2) k z3 h = some res → gI x base s.heap h n H locs → lv_has ls 4 [(0, .ref z0), (1, .int z1), (2, .int z2), (3, .int z3)] → W p l e rm_X7_spread s m args below meth c H locs 0 0 (MQ below (gQ x base none res n) args s 0 0 (fun q => base ≤ q)) (F0 m 15 ls []) := by
  have hx := X.1
  have hb := X.2.1
  intro k
  induction k with
  | zero =>
    intros
    rename_i hr _ _
    exact nomatch (show (none : Option _) = some _ from hr)
  | succ k ih =>
    intro z3 h H locs ls hr hI hl
    replace hr : f_X7_spread_L15 r2 z0 z1 z2 (gL2 (f_X7_spread_L15 r2 z0 z1 z2) k) z3 h = some res := hr
    unfold f_X7_spread_L15 at hr
    refine lv_iload_n hx hb dX7_spread_15 rfl (lv_at hl 3 rfl) ?_
    refine lv_aload_n hx hb dX7_spread_16 rfl (lv_at hl 0 rfl) ?_
    refine g_getA (C := RX7) (T := TX7) (N := 4) X hI in_X7 rfl 0 (by decide) q1337 (fun _ h9 => h9) hr dX7_spread_17 (fun v5 hr => ?_)
    obtain ⟨_, ho6, hr⟩ := gB_i hr
    obtain ⟨v8, hc7, hr⟩ := gB_i hr
    refine gRun_i (g_runV X hI (w_X2_size hc7) ho6 rfl hl (lw_V q1327 q643 q644 q97 q645) rfl rfl hd_X2_size ⟨Nat.le_of_ble_eq_true rfl, Nat.le_of_ble_eq_true rfl⟩ (as := []) (rest := [.int z3]) rfl rfl (Nat.le_of_ble_eq_true rfl) ⟨(Nat.le_refl _), (Nat.le_refl _)⟩ dX7_spread_20) (fun H locs hI => ?_)
    refine lv_icmp_ge (tgt := 82) hx hb dX7_spread_23 (by decide) (fun c9 => ?_) (fun c9 => ?_)
    · replace hr := gIf_t c9 hr
      refine lv_iinc (v := (z2 + (1 : Int32))) (lv' := [(2, .int (z2 + (1 : Int32))), (0, .ref z0), (1, .int z1), (3, .int z3)]) hx hb dX7_spread_82 hl (k := 2) rfl (g_inc (by decide)) (by decide) rfl (fun ls hl => ?_)
      refine lv_goto (tgt := 2) hx hb dX7_spread_85 (by decide) ?_
      exact Hr2 hr hI (lv_sub hl [1, 2, 0] rfl)
    · replace hr := gIf_f c9 hr
      refine lv_aload_n hx hb dX7_spread_26 rfl (lv_at hl 0 rfl) ?_
      refine g_getA (C := RX7) (T := TX7) (N := 4) X hI in_X7 rfl 2 (by decide) q1339 (fun _ h9 => h9) hr dX7_spread_27 (fun v9 hr => ?_)
      refine lv_iload_n hx hb dX7_spread_30 rfl (lv_at hl 2 rfl) ?_
      refine g_iald X hI hr dX7_spread_31 (fun v10 hr => ?_)
      refine lv_iconst (v := (-1)) hx hb dX7_spread_32 (by decide) ?_
      refine lv_icmp_ne (tgt := 82) hx hb dX7_spread_33 (by decide) (fun c9 => ?_) (fun c9 => ?_)
      · replace hr := gIf_f c9 hr
        refine lv_iinc (v := (z2 + (1 : Int32))) (lv' := [(2, .int (z2 + (1 : Int32))), (0, .ref z0), (1, .int z1), (3, .int z3)]) hx hb dX7_spread_82 hl (k := 2) rfl (g_inc (by decide)) (by decide) rfl (fun ls hl => ?_)
        refine lv_goto (tgt := 2) hx hb dX7_spread_85 (by decide) ?_
        exact Hr2 hr hI (lv_sub hl [1, 2, 0] rfl)
      · replace hr := gIf_t c9 hr
        refine lv_aload_n hx hb dX7_spread_36 rfl (lv_at hl 0 rfl) ?_
        refine g_getA (C := RX7) (T := TX7) (N := 4) X hI in_X7 rfl 2 (by decide) q1339 (fun _ h9 => h9) hr dX7_spread_37 (fun v11 hr => ?_)
        refine lv_iload_n hx hb dX7_spread_40 rfl (lv_at hl 2 rfl) ?_
        refine lv_aload_n hx hb dX7_spread_41 rfl (lv_at hl 0 rfl) ?_
        refine g_getA (C := RX7) (T := TX7) (N := 4) X hI in_X7 rfl 2 (by decide) q1339 (fun _ h9 => h9) hr dX7_spread_42 (fun v12 hr => ?_)
        refine lv_iload_n hx hb dX7_spread_45 rfl (lv_at hl 3 rfl) ?_
        refine g_iald X hI hr dX7_spread_46 (fun v13 hr => ?_)
        refine lv_iload_n hx hb dX7_spread_47 rfl (lv_at hl 1 rfl) ?_
        refine lv_icmp_ne (tgt := 69) hx hb dX7_spread_48 (by decide) (fun c9 => ?_) (fun c9 => ?_)
        · replace hr := gIf_f c9 hr
          refine lv_aload_n hx hb dX7_spread_69 rfl (lv_at hl 0 rfl) ?_
          refine g_getA (C := RX7) (T := TX7) (N := 4) X hI in_X7 rfl 2 (by decide) q1339 (fun _ h9 => h9) hr dX7_spread_70 (fun v14 hr => ?_)
          refine lv_iload_n hx hb dX7_spread_73 rfl (lv_at hl 2 rfl) ?_
          refine g_iald X hI hr dX7_spread_74 (fun v15 hr => ?_)
          refine g_iast X hI hr dX7_spread_75 (fun h16 H locs hI hr => ?_)
          refine lv_iinc (v := (z3 + (1 : Int32))) (lv' := [(3, .int (z3 + (1 : Int32))), (0, .ref z0), (1, .int z1), (2, .int z2)]) hx hb dX7_spread_76 hl (k := 3) rfl (g_inc (by decide)) (by decide) rfl (fun ls hl => ?_)
          refine lv_goto (tgt := 15) hx hb dX7_spread_79 (by decide) ?_
          exact ih hr hI (lv_sub hl [1, 2, 3, 0] rfl)
        · replace hr := gIf_t c9 hr
          refine lv_aload_n hx hb dX7_spread_51 rfl (lv_at hl 0 rfl) ?_
          refine g_getA (C := RX7) (T := TX7) (N := 4) X hI in_X7 rfl 0 (by decide) q1337 (fun _ h9 => h9) hr dX7_spread_52 (fun v17 hr => ?_)
          refine lv_iload_n hx hb dX7_spread_55 rfl (lv_at hl 2 rfl) ?_
          refine lv_iload_n hx hb dX7_spread_56 rfl (lv_at hl 3 rfl) ?_
          obtain ⟨_, ho18, hr⟩ := gB_i hr
          obtain ⟨v20, hc19, hr⟩ := gB_i hr
          refine gRun_i (g_runV X hI (w_X2_envies_2 hc19) ho18 rfl hl (lw_V q1332 q822 q823 q97 q824) rfl rfl hd_X2_envies_2 ⟨Nat.le_of_ble_eq_true rfl, Nat.le_of_ble_eq_true rfl⟩ (as := [.int z2, .int z3]) (rest := [.int z2, .ref v11]) rfl rfl (Nat.le_of_ble_eq_true rfl) ⟨(Nat.le_refl _), (Nat.le_refl _)⟩ dX7_spread_57) (fun H locs hI => ?_)
          refine lv_if_eq (tgt := 69) hx hb dX7_spread_60 (by decide) (fun c9 => ?_) (fun c9 => ?_)
          · replace hr := gIf_t c9 hr
            refine lv_aload_n hx hb dX7_spread_69 rfl (lv_at hl 0 rfl) ?_
            refine g_getA (C := RX7) (T := TX7) (N := 4) X hI in_X7 rfl 2 (by decide) q1339 (fun _ h9 => h9) hr dX7_spread_70 (fun v21 hr => ?_)
            refine lv_iload_n hx hb dX7_spread_73 rfl (lv_at hl 2 rfl) ?_
            refine g_iald X hI hr dX7_spread_74 (fun v22 hr => ?_)
            refine g_iast X hI hr dX7_spread_75 (fun h23 H locs hI hr => ?_)
            refine lv_iinc (v := (z3 + (1 : Int32))) (lv' := [(3, .int (z3 + (1 : Int32))), (0, .ref z0), (1, .int z1), (2, .int z2)]) hx hb dX7_spread_76 hl (k := 3) rfl (g_inc (by decide)) (by decide) rfl (fun ls hl => ?_)
            refine lv_goto (tgt := 15) hx hb dX7_spread_79 (by decide) ?_
            exact ih hr hI (lv_sub hl [1, 2, 3, 0] rfl)
          · replace hr := gIf_f c9 hr
            refine lv_iload_n hx hb dX7_spread_63 rfl (lv_at hl 1 rfl) ?_
            refine lv_iconst (v := 1) hx hb dX7_spread_64 (by decide) ?_
            refine lv_iadd hx hb dX7_spread_65 ?_
            refine lv_goto (tgt := 75) hx hb dX7_spread_66 (by decide) ?_
            refine g_iast X hI hr dX7_spread_75 (fun h24 H locs hI hr => ?_)
            refine lv_iinc (v := (z3 + (1 : Int32))) (lv' := [(3, .int (z3 + (1 : Int32))), (0, .ref z0), (1, .int z1), (2, .int z2)]) hx hb dX7_spread_76 hl (k := 3) rfl (g_inc (by decide)) (by decide) rfl (fun ls hl => ?_)
            refine lv_goto (tgt := 15) hx hb dX7_spread_79 (by decide) ?_
            exact ih hr hI (lv_sub hl [1, 2, 3, 0] rfl)
set_option maxHeartbeats 2000000 in
theorem w_X7_spread_L2 {n : Nat} {z0 : Nat} {z1 : Int32} {res : gH} (X : gXX x base RX7 cX7_spread 4 none p l s m args meth c) : ∀ (k : Nat) {z2 : Int32} {h : gH} {H : Heap} {locs : List Loc} {ls : Array Slot}, gL2 (f_X7_spread_L2 z0 z1) k z2 h = some res → gI x base s.heap h n H locs → lv_has ls 4 [(0, .ref z0), (1, .int z1), (2, .int z2)] → W p l e rm_X7_spread s m args below meth c H locs 0 0 (MQ below (gQ x base none res n) args s 0 0 (fun q => base ≤ q)) (F0 m 2 ls []) := by
  have hx := X.1
  have hb := X.2.1
  intro k
  induction k with
  | zero =>
    intros
    rename_i hr _ _
    exact nomatch (show (none : Option _) = some _ from hr)
  | succ k ih =>
    intro z2 h H locs ls hr hI hl
    replace hr : f_X7_spread_L2 z0 z1 (gL2 (f_X7_spread_L2 z0 z1) k) z2 h = some res := hr
    unfold f_X7_spread_L2 at hr
    refine lv_iload_n hx hb dX7_spread_2 rfl (lv_at hl 2 rfl) ?_
    refine lv_aload_n hx hb dX7_spread_3 rfl (lv_at hl 0 rfl) ?_
    refine g_getA (C := RX7) (T := TX7) (N := 4) X hI in_X7 rfl 0 (by decide) q1337 (fun _ h9 => h9) hr dX7_spread_4 (fun v1 hr => ?_)
    obtain ⟨_, ho2, hr⟩ := gB_i hr
    obtain ⟨v4, hc3, hr⟩ := gB_i hr
    refine gRun_i (g_runV X hI (w_X2_size hc3) ho2 rfl hl (lw_V q1327 q643 q644 q97 q645) rfl rfl hd_X2_size ⟨Nat.le_of_ble_eq_true rfl, Nat.le_of_ble_eq_true rfl⟩ (as := []) (rest := [.int z2]) rfl rfl (Nat.le_of_ble_eq_true rfl) ⟨(Nat.le_refl _), (Nat.le_refl _)⟩ dX7_spread_7) (fun H locs hI => ?_)
    refine lv_icmp_ge (tgt := 88) hx hb dX7_spread_10 (by decide) (fun c9 => ?_) (fun c9 => ?_)
    · replace hr := gIf_t c9 hr
      have hr := gS_i hr
      subst hr
      exact g_vret X hI (Nat.le_refl _) (Nat.le_refl _) dX7_spread_88
    · replace hr := gIf_f c9 hr
      refine lv_iconst (v := 0) hx hb dX7_spread_13 (by decide) ?_
      refine lv_istore_n (lv' := [(3, .int (0 : Int32)), (0, .ref z0), (1, .int z1), (2, .int z2)]) hx hb dX7_spread_14 rfl hl (by decide) rfl (fun ls hl => ?_)
      exact w_X7_spread_L15 X ih gN hr hI (lv_sub hl [1, 2, 3, 0] rfl)
set_option maxHeartbeats 2000000 in
theorem w_X7_spread {l : Launch} {x : gV} {base : Nat} {z0 : Nat} {z1 : Int32} {h : gH} {n : Nat} {res : gH} (hr : f_X7_spread z0 z1 h = some res) : gM l yX7_spread (ws_ yX7_spread cX7_spread 4 none) rm_X7_spread x base [.ref z0, .int z1] h n none res n 0 0 := by
  refine g_met (cc := cX7_spread) (nL := 4) (ret := none) (by decide) (Nat.le_of_ble_eq_true rfl) (fun p e s m below meth c ls X hnm hl hI => ?_)
  have hl : lv_has ls 4 [(0, .ref z0), (1, .int z1)] := hl
  have hx := X.1
  have hb := X.2.1
  unfold f_X7_spread at hr
  refine lv_iconst (v := 0) hx hb dX7_spread_0 (by decide) ?_
  refine lv_istore_n (lv' := [(2, .int (0 : Int32)), (0, .ref z0), (1, .int z1)]) hx hb dX7_spread_1 rfl hl (by decide) rfl (fun ls hl => ?_)
  exact w_X7_spread_L2 X gN hr hI (lv_sub hl [1, 2, 0] rfl)
abbrev rm_X7_successor : Room := { frames := 7, cells := 0, slots := 0, locals := 152 }
theorem hd_X7_successor : yX7_successor.cls = RX7 ∧ yX7_successor.cls ≠ "java/lang/invoke/MethodHandle" ∧ yX7_successor.cls ≠ "java/lang/invoke/VarHandle" ∧ (parseMethodDescriptor yX7_successor.desc).map (fun d => d.parameters.length) = some 1 := by decide +kernel
set_option maxHeartbeats 2000000 in
theorem w_X7_successor_J47 {h : gH} {n : Nat} {r4 : Int32 → Int32 → Option Int32} {z0 : Nat} {z1 : Int32} {z2 : Int32} {z3 : Int32} {s0 : Int32} {res : Int32} (X : gXX x base RX7 cX7_successor 5 (some .int) p l s m args meth c) (Hr4 : ∀ {z2 : Int32} {z3 : Int32} {H : Heap} {locs : List Loc} {ls : Array Slot}, r4 z2 z3 = some res → gI x base s.heap h n H locs → lv_has ls 5 [(0, .ref z0), (1, .int z1), (2, .int z2), (3, .int z3)] → W p l e rm_X7_successor s m args below meth c H locs 0 0 (MQ below (gQ x base (some (.int res)) h n) args s 0 0 (fun q => base ≤ q)) (F0 m 4 ls [])) {H : Heap} {locs : List Loc} {ls : Array Slot} (hr : f_X7_successor_J47 r4 z0 z1 z2 z3 s0 h = some res) (hI : gI x base s.heap h n H locs) (hl : lv_has ls 5 [(0, .ref z0), (1, .int z1), (2, .int z2), (3, .int z3)]) : W p l e rm_X7_successor s m args below meth c H locs 0 0 (MQ below (gQ x base (some (.int res)) h n) args s 0 0 (fun q => base ≤ q)) (F0 m 47 ls [.int s0]) := by
  have hx := X.1
  have hb := X.2.1
  unfold f_X7_successor_J47 at hr
  refine lv_istore (lv' := [(4, .int s0), (0, .ref z0), (1, .int z1), (2, .int z2), (3, .int z3)]) hx hb dX7_successor_47 hl (by decide) rfl (fun ls hl => ?_)
  refine lv_iload hx hb dX7_successor_49 (lv_at hl 0 rfl) ?_
  refine lv_if_eq (tgt := 78) hx hb dX7_successor_51 (by decide) (fun c9 => ?_) (fun c9 => ?_)
  · replace hr := gIf_t c9 hr
    refine lv_iload_n hx hb dX7_successor_78 rfl (lv_at hl 3 rfl) ?_
    refine lv_istore_n (lv' := [(2, .int z2), (4, .int s0), (0, .ref z0), (1, .int z1), (3, .int z3)]) hx hb dX7_successor_79 rfl hl (by decide) rfl (fun ls hl => ?_)
    refine lv_iinc (v := (z3 + (1 : Int32))) (lv' := [(3, .int (z3 + (1 : Int32))), (2, .int z2), (4, .int s0), (0, .ref z0), (1, .int z1)]) hx hb dX7_successor_80 hl (k := 4) rfl (g_inc (by decide)) (by decide) rfl (fun ls hl => ?_)
    refine lv_goto (tgt := 4) hx hb dX7_successor_83 (by decide) ?_
    exact Hr4 hr hI (lv_sub hl [3, 4, 1, 0] rfl)
  · replace hr := gIf_f c9 hr
    refine lv_iload_n hx hb dX7_successor_54 rfl (lv_at hl 3 rfl) ?_
    refine lv_iconst (v := (-1)) hx hb dX7_successor_55 (by decide) ?_
    refine lv_icmp_eq (tgt := 74) hx hb dX7_successor_56 (by decide) (fun c9 => ?_) (fun c9 => ?_)
    · replace hr := gIf_t c9 hr
      refine lv_iload_n hx hb dX7_successor_74 rfl (lv_at hl 4 rfl) ?_
      refine lv_goto (tgt := 79) hx hb dX7_successor_75 (by decide) ?_
      refine lv_istore_n (lv' := [(2, .int z3), (4, .int s0), (0, .ref z0), (1, .int z1), (3, .int z3)]) hx hb dX7_successor_79 rfl hl (by decide) rfl (fun ls hl => ?_)
      refine lv_iinc (v := (z3 + (1 : Int32))) (lv' := [(3, .int (z3 + (1 : Int32))), (2, .int z3), (4, .int s0), (0, .ref z0), (1, .int z1)]) hx hb dX7_successor_80 hl (k := 4) rfl (g_inc (by decide)) (by decide) rfl (fun ls hl => ?_)
      refine lv_goto (tgt := 4) hx hb dX7_successor_83 (by decide) ?_
      exact Hr4 hr hI (lv_sub hl [3, 4, 1, 0] rfl)
    · replace hr := gIf_f c9 hr
      refine lv_aload_n hx hb dX7_successor_59 rfl (lv_at hl 1 rfl) ?_
      refine g_getA (C := RX7) (T := TX7) (N := 4) X hI in_X7 rfl 2 (by decide) q1339 (fun _ h9 => h9) hr dX7_successor_60 (fun v5 hr => ?_)
      refine lv_iload_n hx hb dX7_successor_63 rfl (lv_at hl 4 rfl) ?_
      refine g_iald X hI hr dX7_successor_64 (fun v6 hr => ?_)
      refine lv_aload_n hx hb dX7_successor_65 rfl (lv_at hl 1 rfl) ?_
      refine g_getA (C := RX7) (T := TX7) (N := 4) X hI in_X7 rfl 2 (by decide) q1339 (fun _ h9 => h9) hr dX7_successor_66 (fun v7 hr => ?_)
      refine lv_iload_n hx hb dX7_successor_69 rfl (lv_at hl 3 rfl) ?_
      refine g_iald X hI hr dX7_successor_70 (fun v8 hr => ?_)
      refine lv_icmp_ge (tgt := 78) hx hb dX7_successor_71 (by decide) (fun c9 => ?_) (fun c9 => ?_)
      · replace hr := gIf_t c9 hr
        refine lv_iload_n hx hb dX7_successor_78 rfl (lv_at hl 3 rfl) ?_
        refine lv_istore_n (lv' := [(2, .int z2), (4, .int s0), (0, .ref z0), (1, .int z1), (3, .int z3)]) hx hb dX7_successor_79 rfl hl (by decide) rfl (fun ls hl => ?_)
        refine lv_iinc (v := (z3 + (1 : Int32))) (lv' := [(3, .int (z3 + (1 : Int32))), (2, .int z2), (4, .int s0), (0, .ref z0), (1, .int z1)]) hx hb dX7_successor_80 hl (k := 4) rfl (g_inc (by decide)) (by decide) rfl (fun ls hl => ?_)
        refine lv_goto (tgt := 4) hx hb dX7_successor_83 (by decide) ?_
        exact Hr4 hr hI (lv_sub hl [3, 4, 1, 0] rfl)
      · replace hr := gIf_f c9 hr
        refine lv_iload_n hx hb dX7_successor_74 rfl (lv_at hl 4 rfl) ?_
        refine lv_goto (tgt := 79) hx hb dX7_successor_75 (by decide) ?_
        refine lv_istore_n (lv' := [(2, .int z3), (4, .int s0), (0, .ref z0), (1, .int z1), (3, .int z3)]) hx hb dX7_successor_79 rfl hl (by decide) rfl (fun ls hl => ?_)
        refine lv_iinc (v := (z3 + (1 : Int32))) (lv' := [(3, .int (z3 + (1 : Int32))), (2, .int z3), (4, .int s0), (0, .ref z0), (1, .int z1)]) hx hb dX7_successor_80 hl (k := 4) rfl (g_inc (by decide)) (by decide) rfl (fun ls hl => ?_)
        refine lv_goto (tgt := 4) hx hb dX7_successor_83 (by decide) ?_
        exact Hr4 hr hI (lv_sub hl [3, 4, 1, 0] rfl)
set_option maxHeartbeats 2000000 in
theorem w_X7_successor_J46 {h : gH} {n : Nat} {r4 : Int32 → Int32 → Option Int32} {z0 : Nat} {z1 : Int32} {z2 : Int32} {z3 : Int32} {res : Int32} (X : gXX x base RX7 cX7_successor 5 (some .int) p l s m args meth c) (Hr4 : ∀ {z2 : Int32} {z3 : Int32} {H : Heap} {locs : List Loc} {ls : Array Slot}, r4 z2 z3 = some res → gI x base s.heap h n H locs → lv_has ls 5 [(0, .ref z0), (1, .int z1), (2, .int z2), (3, .int z3)] → W p l e rm_X7_successor s m args below meth c H locs 0 0 (MQ below (gQ x base (some (.int res)) h n) args s 0 0 (fun q => base ≤ q)) (F0 m 4 ls [])) {H : Heap} {locs : List Loc} {ls : Array Slot} (hr : f_X7_successor_J46 r4 z0 z1 z2 z3 h = some res) (hI : gI x base s.heap h n H locs) (hl : lv_has ls 5 [(0, .ref z0), (1, .int z1), (2, .int z2), (3, .int z3)]) : W p l e rm_X7_successor s m args below meth c H locs 0 0 (MQ below (gQ x base (some (.int res)) h n) args s 0 0 (fun q => base ≤ q)) (F0 m 46 ls []) := by
  have hx := X.1
  have hb := X.2.1
  unfold f_X7_successor_J46 at hr
  refine lv_iconst (v := 0) hx hb dX7_successor_46 (by decide) ?_
  exact w_X7_successor_J47 X Hr4 hr hI (lv_sub hl [0, 1, 2, 3] rfl)
set_option maxHeartbeats 2000000 in
theorem w_X7_successor_L4 {h : gH} {n : Nat} {z0 : Nat} {z1 : Int32} {res : Int32} (X : gXX x base RX7 cX7_successor 5 (some .int) p l s m args meth c) : ∀ (k : Nat) {z2 : Int32} {z3 : Int32} {H : Heap} {locs : List Loc} {ls : Array Slot}, gL2 (f_X7_successor_L4 z0 z1 h) k z2 z3 = some res → gI x base s.heap h n H locs → lv_has ls 5 [(0, .ref z0), (1, .int z1), (2, .int z2), (3, .int z3)] → W p l e rm_X7_successor s m args below meth c H locs 0 0 (MQ below (gQ x base (some (.int res)) h n) args s 0 0 (fun q => base ≤ q)) (F0 m 4 ls []) := by
  have hx := X.1
  have hb := X.2.1
  intro k
  induction k with
  | zero =>
    intros
    rename_i hr _ _
    exact nomatch (show (none : Option _) = some _ from hr)
  | succ k ih =>
    intro z2 z3 H locs ls hr hI hl
    replace hr : f_X7_successor_L4 z0 z1 h (gL2 (f_X7_successor_L4 z0 z1 h) k) z2 z3 = some res := hr
    unfold f_X7_successor_L4 at hr
    refine lv_iload_n hx hb dX7_successor_4 rfl (lv_at hl 3 rfl) ?_
    refine lv_aload_n hx hb dX7_successor_5 rfl (lv_at hl 0 rfl) ?_
    refine g_getA (C := RX7) (T := TX7) (N := 4) X hI in_X7 rfl 0 (by decide) q1337 (fun _ h9 => h9) hr dX7_successor_6 (fun v1 hr => ?_)
    obtain ⟨_, ho2, hr⟩ := gB_i hr
    obtain ⟨v4, hc3, hr⟩ := gB_i hr
    refine gRun_i (g_runV X hI (w_X2_size hc3) ho2 rfl hl (lw_V q1327 q643 q644 q97 q645) rfl rfl hd_X2_size ⟨Nat.le_of_ble_eq_true rfl, Nat.le_of_ble_eq_true rfl⟩ (as := []) (rest := [.int z3]) rfl rfl (Nat.le_of_ble_eq_true rfl) ⟨(Nat.le_refl _), (Nat.le_refl _)⟩ dX7_successor_9) (fun H locs hI => ?_)
    refine lv_icmp_ge (tgt := 86) hx hb dX7_successor_12 (by decide) (fun c9 => ?_) (fun c9 => ?_)
    · replace hr := gIf_t c9 hr
      refine lv_iload_n hx hb dX7_successor_86 rfl (lv_at hl 2 rfl) ?_
      have hr := gS_i hr
      subst hr
      exact g_iret X hI rfl (Nat.le_refl _) (Nat.le_refl _) dX7_successor_87
    · replace hr := gIf_f c9 hr
      refine lv_iload_n hx hb dX7_successor_15 rfl (lv_at hl 3 rfl) ?_
      refine lv_iload_n hx hb dX7_successor_16 rfl (lv_at hl 1 rfl) ?_
      refine lv_icmp_eq (tgt := 46) hx hb dX7_successor_17 (by decide) (fun c9 => ?_) (fun c9 => ?_)
      · replace hr := gIf_t c9 hr
        exact w_X7_successor_J46 X ih hr hI (lv_sub hl [0, 1, 2, 3] rfl)
      · replace hr := gIf_f c9 hr
        refine lv_aload_n hx hb dX7_successor_20 rfl (lv_at hl 0 rfl) ?_
        refine g_getA (C := RX7) (T := TX7) (N := 4) X hI in_X7 rfl 2 (by decide) q1339 (fun _ h9 => h9) hr dX7_successor_21 (fun v9 hr => ?_)
        refine lv_iload_n hx hb dX7_successor_24 rfl (lv_at hl 3 rfl) ?_
        refine g_iald X hI hr dX7_successor_25 (fun v10 hr => ?_)
        refine lv_iconst (v := (-1)) hx hb dX7_successor_26 (by decide) ?_
        refine lv_icmp_eq (tgt := 46) hx hb dX7_successor_27 (by decide) (fun c9 => ?_) (fun c9 => ?_)
        · replace hr := gIf_t c9 hr
          exact w_X7_successor_J46 X ih hr hI (lv_sub hl [0, 1, 2, 3] rfl)
        · replace hr := gIf_f c9 hr
          refine lv_aload_n hx hb dX7_successor_30 rfl (lv_at hl 0 rfl) ?_
          refine g_getA (C := RX7) (T := TX7) (N := 4) X hI in_X7 rfl 0 (by decide) q1337 (fun _ h9 => h9) hr dX7_successor_31 (fun v11 hr => ?_)
          refine lv_iload_n hx hb dX7_successor_34 rfl (lv_at hl 1 rfl) ?_
          refine lv_iload_n hx hb dX7_successor_35 rfl (lv_at hl 3 rfl) ?_
          obtain ⟨_, ho12, hr⟩ := gB_i hr
          obtain ⟨v14, hc13, hr⟩ := gB_i hr
          refine gRun_i (g_runV X hI (w_X2_envies_2 hc13) ho12 rfl hl (lw_V q1332 q822 q823 q97 q824) rfl rfl hd_X2_envies_2 ⟨Nat.le_of_ble_eq_true rfl, Nat.le_of_ble_eq_true rfl⟩ (as := [.int z1, .int z3]) (rest := []) rfl rfl (Nat.le_of_ble_eq_true rfl) ⟨(Nat.le_refl _), (Nat.le_refl _)⟩ dX7_successor_36) (fun H locs hI => ?_)
          refine lv_if_eq (tgt := 46) hx hb dX7_successor_39 (by decide) (fun c9 => ?_) (fun c9 => ?_)
          · replace hr := gIf_t c9 hr
            exact w_X7_successor_J46 X ih hr hI (lv_sub hl [0, 1, 2, 3] rfl)
          · replace hr := gIf_f c9 hr
            refine lv_iconst (v := 1) hx hb dX7_successor_42 (by decide) ?_
            refine lv_goto (tgt := 47) hx hb dX7_successor_43 (by decide) ?_
            exact w_X7_successor_J47 X ih hr hI (lv_sub hl [0, 1, 2, 3] rfl)
set_option maxHeartbeats 2000000 in
theorem w_X7_successor {l : Launch} {x : gV} {base : Nat} {z0 : Nat} {z1 : Int32} {h : gH} {n : Nat} {res : Int32} (hr : f_X7_successor z0 z1 h = some res) : gM l yX7_successor (ws_ yX7_successor cX7_successor 5 (some .int)) rm_X7_successor x base [.ref z0, .int z1] h n (some (.int res)) h n 0 0 := by
  refine g_met (cc := cX7_successor) (nL := 5) (ret := (some .int)) (by decide) (Nat.le_of_ble_eq_true rfl) (fun p e s m below meth c ls X hnm hl hI => ?_)
  have hl : lv_has ls 5 [(0, .ref z0), (1, .int z1)] := hl
  have hx := X.1
  have hb := X.2.1
  unfold f_X7_successor at hr
  refine lv_iconst (v := (-1)) hx hb dX7_successor_0 (by decide) ?_
  refine lv_istore_n (lv' := [(2, .int (-1 : Int32)), (0, .ref z0), (1, .int z1)]) hx hb dX7_successor_1 rfl hl (by decide) rfl (fun ls hl => ?_)
  refine lv_iconst (v := 0) hx hb dX7_successor_2 (by decide) ?_
  refine lv_istore_n (lv' := [(3, .int (0 : Int32)), (2, .int (-1 : Int32)), (0, .ref z0), (1, .int z1)]) hx hb dX7_successor_3 rfl hl (by decide) rfl (fun ls hl => ?_)
  exact w_X7_successor_L4 X gN hr hI (lv_sub hl [2, 3, 1, 0] rfl)
abbrev rm_X7_init_2 : Room := { frames := 8, cells := 0, slots := 0, locals := 176 }
theorem hd_X7_init_2 : yX7_init_2.cls ≠ "java/lang/invoke/MethodHandle" ∧ yX7_init_2.cls ≠ "java/lang/invoke/VarHandle" ∧ (parseMethodDescriptor yX7_init_2.desc).map (fun d => d.parameters.length) = some 3 := by decide +kernel
set_option maxHeartbeats 2000000 in
theorem w_X7_init_2_J74 {h : gH} {n : Nat} {z0 : Nat} {z2 : Int32} {z3 : Nat} {res : gH} (X : gXX x base RX7 cX7_init_2 5 none p l s m args meth c) (hnm : meth.name = "<init>") {H : Heap} {locs : List Loc} {ls : Array Slot} (hr : f_X7_init_2_J74 z0 z2 z3 h = some res) (hI : gI x base s.heap h n H locs) (hl : lv_has ls 5 [(0, .ref z0), (2, .int z2), (3, .ref z3)]) : W p l e rm_X7_init_2 s m args below meth c H locs 0 0 (MQ below (gQ x base none res n) args s 0 0 (fun q => base ≤ q)) (F0 m 74 ls []) := by
  have hx := X.1
  have hb := X.2.1
  unfold f_X7_init_2_J74 at hr
  refine lv_aload_n hx hb dX7_init_2_74 rfl (lv_at hl 0 rfl) ?_
  refine lv_iload_n hx hb dX7_init_2_75 rfl (lv_at hl 1 rfl) ?_
  obtain ⟨_, ho7, hr⟩ := gB_i hr
  obtain ⟨v9, hc8, hr⟩ := gB_i hr
  refine gRun_i (g_runV X hI (w_X7_successor hc8) ho7 rfl hl (lw_V q1333 q1334 q1335 q127 q1336) rfl rfl hd_X7_successor ⟨Nat.le_of_ble_eq_true rfl, Nat.le_of_ble_eq_true rfl⟩ (as := [.int z2]) (rest := []) rfl rfl (Nat.le_of_ble_eq_true rfl) ⟨(Nat.le_refl _), (Nat.le_refl _)⟩ dX7_init_2_76) (fun H locs hI => ?_)
  refine lv_istore (lv' := [(4, .int v9), (0, .ref z0), (2, .int z2), (3, .ref z3)]) hx hb dX7_init_2_79 hl (by decide) rfl (fun ls hl => ?_)
  refine lv_aload_n hx hb dX7_init_2_81 rfl (lv_at hl 1 rfl) ?_
  refine lv_iload hx hb dX7_init_2_82 (lv_at hl 0 rfl) ?_
  refine lv_iconst (v := (-1)) hx hb dX7_init_2_84 (by decide) ?_
  refine lv_icmp_ne (tgt := 92) hx hb dX7_init_2_85 (by decide) (fun c9 => ?_) (fun c9 => ?_)
  · replace hr := gIf_f c9 hr
    refine lv_aload_n hx hb dX7_init_2_92 rfl (lv_at hl 3 rfl) ?_
    refine lv_iload hx hb dX7_init_2_93 (lv_at hl 0 rfl) ?_
    refine g_iald X hI hr dX7_init_2_95 (fun v10 hr => ?_)
    refine lv_iconst (v := 1) hx hb dX7_init_2_96 (by decide) ?_
    refine lv_iadd hx hb dX7_init_2_97 ?_
    refine g_putF (C := RX7) (T := TX7) (N := 4) (v := .int (v10 + (1 : Int32))) (ty := .int) X hI in_X7 tyX7 tyX7_ok nmX7 rfl 3 (by decide) q1340 (fun _ h9 => h9) rfl hnm rfl (by decide +kernel) rfl rfl hr dX7_init_2_98 (fun h11 H locs hI hr => ?_)
    have hr := gS_i hr
    subst hr
    exact g_vret X hI (Nat.le_refl _) (Nat.le_refl _) dX7_init_2_101
  · replace hr := gIf_t c9 hr
    refine lv_iconst (v := (-1)) hx hb dX7_init_2_88 (by decide) ?_
    refine lv_goto (tgt := 98) hx hb dX7_init_2_89 (by decide) ?_
    refine g_putF (C := RX7) (T := TX7) (N := 4) (v := .int (-1 : Int32)) (ty := .int) X hI in_X7 tyX7 tyX7_ok nmX7 rfl 3 (by decide) q1340 (fun _ h9 => h9) rfl hnm rfl (by decide +kernel) rfl rfl hr dX7_init_2_98 (fun h12 H locs hI hr => ?_)
    have hr := gS_i hr
    subst hr
    exact g_vret X hI (Nat.le_refl _) (Nat.le_refl _) dX7_init_2_101
set_option maxHeartbeats 2000000 in
theorem w_X7_init_2_L53 {n : Nat} {z0 : Nat} {z1 : Nat} {z2 : Int32} {z3 : Nat} {res : gH} (X : gXX x base RX7 cX7_init_2 5 none p l s m args meth c) (hnm : meth.name = "<init>") : ∀ (k : Nat) {z4 : Int32} {h : gH} {H : Heap} {locs : List Loc} {ls : Array Slot}, gL2 (f_X7_init_2_L53 z0 z1 z2 z3) k z4 h = some res → gI x base s.heap h n H locs → lv_has ls 5 [(0, .ref z0), (1, .ref z1), (2, .int z2), (3, .ref z3), (4, .int z4)] → W p l e rm_X7_init_2 s m args below meth c H locs 0 0 (MQ below (gQ x base none res n) args s 0 0 (fun q => base ≤ q)) (F0 m 53 ls []) := by
  have hx := X.1
  have hb := X.2.1
  intro k
  induction k with
  | zero =>
    intros
    rename_i hr _ _
    exact nomatch (show (none : Option _) = some _ from hr)
  | succ k ih =>
    intro z4 h H locs ls hr hI hl
    replace hr : f_X7_init_2_L53 z0 z1 z2 z3 (gL2 (f_X7_init_2_L53 z0 z1 z2 z3) k) z4 h = some res := hr
    unfold f_X7_init_2_L53 at hr
    refine lv_iload hx hb dX7_init_2_53 (lv_at hl 4 rfl) ?_
    refine lv_aload_n hx hb dX7_init_2_55 rfl (lv_at hl 1 rfl) ?_
    obtain ⟨_, ho4, hr⟩ := gB_i hr
    obtain ⟨v6, hc5, hr⟩ := gB_i hr
    refine gRun_i (g_runV X hI (w_X2_size hc5) ho4 rfl hl (lw_V q1327 q643 q644 q97 q645) rfl rfl hd_X2_size ⟨Nat.le_of_ble_eq_true rfl, Nat.le_of_ble_eq_true rfl⟩ (as := []) (rest := [.int z4]) rfl rfl (Nat.le_of_ble_eq_true rfl) ⟨(Nat.le_refl _), (Nat.le_refl _)⟩ dX7_init_2_56) (fun H locs hI => ?_)
    refine lv_icmp_ge (tgt := 74) hx hb dX7_init_2_59 (by decide) (fun c9 => ?_) (fun c9 => ?_)
    · replace hr := gIf_t c9 hr
      exact w_X7_init_2_J74 X hnm hr hI (lv_sub hl [0, 2, 3] rfl)
    · replace hr := gIf_f c9 hr
      refine lv_aload_n hx hb dX7_init_2_62 rfl (lv_at hl 0 rfl) ?_
      refine lv_iload hx hb dX7_init_2_63 (lv_at hl 4 rfl) ?_
      obtain ⟨_, ho13, hr⟩ := gB_i hr
      obtain ⟨h15, hc14, hr⟩ := gB_i hr
      refine gRun_v (g_runV X hI (w_X7_spread hc14) ho13 rfl hl (lw_V q1328 q1330 qs22 q127 q1331) rfl rfl hd_X7_spread ⟨Nat.le_of_ble_eq_true rfl, Nat.le_of_ble_eq_true rfl⟩ (as := [.int z4]) (rest := []) rfl rfl (Nat.le_of_ble_eq_true rfl) ⟨(Nat.le_refl _), (Nat.le_refl _)⟩ dX7_init_2_65) (fun H locs hI => ?_)
      refine lv_iinc (v := (z4 + (1 : Int32))) (lv' := [(4, .int (z4 + (1 : Int32))), (0, .ref z0), (1, .ref z1), (2, .int z2), (3, .ref z3)]) hx hb dX7_init_2_68 hl (k := 4) rfl (g_inc (by decide)) (by decide) rfl (fun ls hl => ?_)
      refine lv_goto (tgt := 53) hx hb dX7_init_2_71 (by decide) ?_
      exact ih hr hI (lv_sub hl [1, 2, 3, 4, 0] rfl)
set_option maxHeartbeats 2000000 in
theorem w_X7_init_2_J50 {h : gH} {n : Nat} {z0 : Nat} {z1 : Nat} {z2 : Int32} {z3 : Nat} {res : gH} (X : gXX x base RX7 cX7_init_2 5 none p l s m args meth c) (hnm : meth.name = "<init>") {H : Heap} {locs : List Loc} {ls : Array Slot} (hr : f_X7_init_2_J50 z0 z1 z2 z3 h = some res) (hI : gI x base s.heap h n H locs) (hl : lv_has ls 5 [(0, .ref z0), (1, .ref z1), (2, .int z2), (3, .ref z3)]) : W p l e rm_X7_init_2 s m args below meth c H locs 0 0 (MQ below (gQ x base none res n) args s 0 0 (fun q => base ≤ q)) (F0 m 50 ls []) := by
  have hx := X.1
  have hb := X.2.1
  unfold f_X7_init_2_J50 at hr
  refine lv_iconst (v := 0) hx hb dX7_init_2_50 (by decide) ?_
  refine lv_istore (lv' := [(4, .int (0 : Int32)), (0, .ref z0), (1, .ref z1), (2, .int z2), (3, .ref z3)]) hx hb dX7_init_2_51 hl (by decide) rfl (fun ls hl => ?_)
  exact w_X7_init_2_L53 X hnm gN hr hI (lv_sub hl [1, 2, 3, 4, 0] rfl)
set_option maxHeartbeats 2000000 in
theorem w_X7_init_2_L22 {n : Nat} {z0 : Nat} {z1 : Nat} {z2 : Int32} {z3 : Nat} {res : gH} (X : gXX x base RX7 cX7_init_2 5 none p l s m args meth c) (hnm : meth.name = "<init>") : ∀ (k : Nat) {z4 : Int32} {h : gH} {H : Heap} {locs : List Loc} {ls : Array Slot}, gL2 (f_X7_init_2_L22 z0 z1 z2 z3) k z4 h = some res → gI x base s.heap h n H locs → lv_has ls 5 [(0, .ref z0), (1, .ref z1), (2, .int z2), (3, .ref z3), (4, .int z4)] → W p l e rm_X7_init_2 s m args below meth c H locs 0 0 (MQ below (gQ x base none res n) args s 0 0 (fun q => base ≤ q)) (F0 m 22 ls []) := by
  have hx := X.1
  have hb := X.2.1
  intro k
  induction k with
  | zero =>
    intros
    rename_i hr _ _
    exact nomatch (show (none : Option _) = some _ from hr)
  | succ k ih =>
    intro z4 h H locs ls hr hI hl
    replace hr : f_X7_init_2_L22 z0 z1 z2 z3 (gL2 (f_X7_init_2_L22 z0 z1 z2 z3) k) z4 h = some res := hr
    unfold f_X7_init_2_L22 at hr
    refine lv_iload hx hb dX7_init_2_22 (lv_at hl 4 rfl) ?_
    refine lv_bipush (v := 6) hx hb dX7_init_2_24 (by decide) ?_
    refine lv_icmp_ge (tgt := 50) hx hb dX7_init_2_26 (by decide) (fun c9 => ?_) (fun c9 => ?_)
    · replace hr := gIf_t c9 hr
      exact w_X7_init_2_J50 X hnm hr hI (lv_sub hl [0, 1, 2, 3] rfl)
    · replace hr := gIf_f c9 hr
      refine lv_aload_n hx hb dX7_init_2_29 rfl (lv_at hl 3 rfl) ?_
      refine lv_iload hx hb dX7_init_2_30 (lv_at hl 4 rfl) ?_
      refine lv_iload hx hb dX7_init_2_32 (lv_at hl 4 rfl) ?_
      refine lv_iload_n hx hb dX7_init_2_34 rfl (lv_at hl 2 rfl) ?_
      refine lv_icmp_ne (tgt := 42) hx hb dX7_init_2_35 (by decide) (fun c9 => ?_) (fun c9 => ?_)
      · replace hr := gIf_f c9 hr
        refine lv_iconst (v := (-1)) hx hb dX7_init_2_42 (by decide) ?_
        refine g_iast X hI hr dX7_init_2_43 (fun h16 H locs hI hr => ?_)
        refine lv_iinc (v := (z4 + (1 : Int32))) (lv' := [(4, .int (z4 + (1 : Int32))), (0, .ref z0), (1, .ref z1), (2, .int z2), (3, .ref z3)]) hx hb dX7_init_2_44 hl (k := 4) rfl (g_inc (by decide)) (by decide) rfl (fun ls hl => ?_)
        refine lv_goto (tgt := 22) hx hb dX7_init_2_47 (by decide) ?_
        exact ih hr hI (lv_sub hl [1, 2, 3, 4, 0] rfl)
      · replace hr := gIf_t c9 hr
        refine lv_iconst (v := 0) hx hb dX7_init_2_38 (by decide) ?_
        refine lv_goto (tgt := 43) hx hb dX7_init_2_39 (by decide) ?_
        refine g_iast X hI hr dX7_init_2_43 (fun h17 H locs hI hr => ?_)
        refine lv_iinc (v := (z4 + (1 : Int32))) (lv' := [(4, .int (z4 + (1 : Int32))), (0, .ref z0), (1, .ref z1), (2, .int z2), (3, .ref z3)]) hx hb dX7_init_2_44 hl (k := 4) rfl (g_inc (by decide)) (by decide) rfl (fun ls hl => ?_)
        refine lv_goto (tgt := 22) hx hb dX7_init_2_47 (by decide) ?_
        exact ih hr hI (lv_sub hl [1, 2, 3, 4, 0] rfl)
set_option maxHeartbeats 2000000 in
theorem w_X7_init_2 {l : Launch} {x : gV} {base : Nat} {z0 : Nat} {z1 : Nat} {z2 : Int32} {z3 : Nat} {h : gH} {n : Nat} {res : gH} (hr : f_X7_init_2 z0 z1 z2 z3 h = some res) : gM l yX7_init_2 (ws_ yX7_init_2 cX7_init_2 5 none) rm_X7_init_2 x base [.ref z0, .ref z1, .int z2, .ref z3] h n none res n 0 0 := by
  refine g_met (cc := cX7_init_2) (nL := 5) (ret := none) (by decide) (Nat.le_of_ble_eq_true rfl) (fun p e s m below meth c ls X hnm hl hI => ?_)
  have hl : lv_has ls 5 [(0, .ref z0), (1, .ref z1), (2, .int z2), (3, .ref z3)] := hl
  have hx := X.1
  have hb := X.2.1
  unfold f_X7_init_2 at hr
  refine lv_aload_n hx hb dX7_init_2_0 rfl (lv_at hl 0 rfl) ?_
  refine W.objInit hx hb X.2.2.2.2.1 (X.w q1326) (X.w q140) (X.w q141) rfl (by rw [X.2.2.1]; exact hl.1) rfl dX7_init_2_1 (Nat.le_of_ble_eq_true rfl) (Nat.le_of_ble_eq_true rfl) ?_
  refine W.eq (g2 := F0 m 4 ls []) rfl ?_
  refine lv_aload_n hx hb dX7_init_2_4 rfl (lv_at hl 0 rfl) ?_
  refine lv_aload_n hx hb dX7_init_2_5 rfl (lv_at hl 1 rfl) ?_
  refine g_putF (C := RX7) (T := TX7) (N := 4) (v := .ref z1) (ty := (.object "CakeDivision$State")) X hI in_X7 tyX7 tyX7_ok nmX7 rfl 0 (by decide) q1337 (fun _ h9 => h9) rfl hnm rfl (by decide +kernel) rfl rfl hr dX7_init_2_6 (fun h1 H locs hI hr => ?_)
  refine lv_aload_n hx hb dX7_init_2_9 rfl (lv_at hl 0 rfl) ?_
  refine lv_iload_n hx hb dX7_init_2_10 rfl (lv_at hl 2 rfl) ?_
  refine g_putF (C := RX7) (T := TX7) (N := 4) (v := .int z2) (ty := .int) X hI in_X7 tyX7 tyX7_ok nmX7 rfl 1 (by decide) q1338 (fun _ h9 => h9) rfl hnm rfl (by decide +kernel) rfl rfl hr dX7_init_2_11 (fun h2 H locs hI hr => ?_)
  refine lv_aload_n hx hb dX7_init_2_14 rfl (lv_at hl 0 rfl) ?_
  refine lv_aload_n hx hb dX7_init_2_15 rfl (lv_at hl 3 rfl) ?_
  refine g_putF (C := RX7) (T := TX7) (N := 4) (v := .ref z3) (ty := (.array .int)) X hI in_X7 tyX7 tyX7_ok nmX7 rfl 2 (by decide) q1339 (fun _ h9 => h9) rfl hnm rfl (by decide +kernel) rfl rfl hr dX7_init_2_16 (fun h3 H locs hI hr => ?_)
  refine lv_iconst (v := 0) hx hb dX7_init_2_19 (by decide) ?_
  refine lv_istore (lv' := [(4, .int (0 : Int32)), (0, .ref z0), (1, .ref z1), (2, .int z2), (3, .ref z3)]) hx hb dX7_init_2_20 hl (by decide) rfl (fun ls hl => ?_)
  exact w_X7_init_2_L22 X hnm gN hr hI (lv_sub hl [1, 2, 3, 4, 0] rfl)
abbrev rm_X7_init : Room := { frames := 9, cells := 1, slots := 6, locals := 200 }
theorem hd_X7_init : yX7_init.cls ≠ "java/lang/invoke/MethodHandle" ∧ yX7_init.cls ≠ "java/lang/invoke/VarHandle" ∧ (parseMethodDescriptor yX7_init.desc).map (fun d => d.parameters.length) = some 2 := by decide +kernel
set_option maxHeartbeats 2000000 in
theorem w_X7_init {l : Launch} {x : gV} {base : Nat} (hst : l.stackTraces = false) {z0 : Nat} {z1 : Nat} {z2 : Int32} {h : gH} {n : Nat} {res : gH × Nat} (hr : f_X7_init z0 z1 z2 h n = some res) : gM l yX7_init (ws_ yX7_init cX7_init 3 none) rm_X7_init x base [.ref z0, .ref z1, .int z2] h n none res.1 res.2 1 6 := by
  refine g_met (cc := cX7_init) (nL := 3) (ret := none) (by decide) (Nat.le_of_ble_eq_true rfl) (fun p e s m below meth c ls X hnm hl hI => ?_)
  have hl : lv_has ls 3 [(0, .ref z0), (1, .ref z1), (2, .int z2)] := hl
  have hx := X.1
  have hb := X.2.1
  have hcc : 0 + 1 ≤ 1 ∧ 0 + 6 ≤ 6 := ⟨Nat.le_refl _, Nat.le_refl _⟩
  unfold f_X7_init at hr
  refine lv_aload_n hx hb dX7_init_0 rfl (lv_at hl 0 rfl) ?_
  refine lv_aload_n hx hb dX7_init_1 rfl (lv_at hl 1 rfl) ?_
  refine lv_iload_n hx hb dX7_init_2 rfl (lv_at hl 2 rfl) ?_
  refine lv_bipush (v := 6) hx hb dX7_init_3 (by decide) ?_
  refine g_newI (t := 0) (b := 6) (atype := .int) X hI q512 rfl rfl (by decide) (show 0 + 1 ≤ 1 from by omega) (show 0 + 6 ≤ 6 from by omega) hr dX7_init_5 (fun q1 h2 n3 H locs hI hr => ?_)
  obtain ⟨h5, hc4, hr⟩ := gB_i hr
  refine gRun_v (g_runI X hI (w_X7_init_2 hc4) hl q1325 q1323 q1324 q127 rfl rfl rfl hd_X7_init_2 ⟨Nat.le_of_ble_eq_true rfl, Nat.le_of_ble_eq_true rfl⟩ (as := [.ref z1, .int z2, .ref q1]) (rest := []) rfl rfl (Nat.le_of_ble_eq_true rfl) ⟨(show (0 + 1) + 0 ≤ 1 from by omega), (show (0 + 6) + 0 ≤ 6 from by omega)⟩ dX7_init_7) (fun H locs hI => ?_)
  have hr := gS_i hr
  subst hr
  exact g_vret X hI (show ((0 + 1) + 0) ≤ 1 from by omega) (show ((0 + 6) + 0) ≤ 6 from by omega) dX7_init_10
abbrev rm_X1_envyCycleLength : Room := { frames := 10, cells := 7, slots := 35, locals := 222 }
theorem hd_X1_envyCycleLength : yX1_envyCycleLength.cls = RX1 ∧ yX1_envyCycleLength.cls ≠ "java/lang/invoke/MethodHandle" ∧ yX1_envyCycleLength.cls ≠ "java/lang/invoke/VarHandle" ∧ (parseMethodDescriptor yX1_envyCycleLength.desc).map (fun d => d.parameters.length) = some 1 := by decide +kernel
set_option maxHeartbeats 2000000 in
theorem w_X1_envyCycleLength {l : Launch} {x : gV} {base : Nat} (hst : l.stackTraces = false) {z0 : Nat} {z1 : Int32} {h : gH} {n : Nat} {res : (Int32 ⊕ gX) × gH × Nat} (hr : f_X1_envyCycleLength z0 z1 h n = some res) : gMX l yX1_envyCycleLength (ws_ yX1_envyCycleLength cX1_envyCycleLength 2 (some .int)) rm_X1_envyCycleLength x base (fun v => some (.int v)) [.ref z0, .int z1] h n res 7 35 := by
  refine g_metX (cc := cX1_envyCycleLength) (nL := 2) (ret := (some .int)) (by decide) (Nat.le_of_ble_eq_true rfl) (fun p e s m below meth c ls X hnm hxt hl hI => ?_)
  have hl : lv_has ls 2 [(0, .ref z0), (1, .int z1)] := hl
  have hx := X.1
  have hb := X.2.1
  have hcc : 0 + 7 ≤ 7 ∧ 0 + 35 ≤ 35 := ⟨Nat.le_refl _, Nat.le_refl _⟩
  unfold f_X1_envyCycleLength at hr
  refine lv_aload_n hx hb dX1_envyCycleLength_0 rfl (lv_at hl 0 rfl) ?_
  refine lv_iconst (v := 1) hx hb dX1_envyCycleLength_1 (by decide) ?_
  refine g_newI (t := 0) (b := 1) (atype := .int) X hI q512 rfl rfl (by decide) (show 0 + 1 ≤ 7 from by omega) (show 0 + 1 ≤ 35 from by omega) hr dX1_envyCycleLength_2 (fun q1 h2 n3 H locs hI hr => ?_)
  refine lv_dup hx hb dX1_envyCycleLength_4 rfl ?_
  refine lv_iconst (v := 0) hx hb dX1_envyCycleLength_5 (by decide) ?_
  refine lv_iload_n hx hb dX1_envyCycleLength_6 rfl (lv_at hl 1 rfl) ?_
  refine g_iast X hI hr dX1_envyCycleLength_7 (fun h4 H locs hI hr => ?_)
  obtain ⟨_, ho5, hr⟩ := gB_i hr
  rcases gTX_i hr with ⟨u9, h8, n9, hc6, hr⟩ | ⟨q7, h10, n11, hc6, hr⟩
  · refine gXRet_v (g_xrunV X hI (w_X1_checkSiblings hst hc6) ho5 rfl hl (lw_V q1174 q1176 qs20 q96 q1177) rfl rfl hd_X1_checkSiblings ⟨Nat.le_of_ble_eq_true rfl, Nat.le_of_ble_eq_true rfl⟩ (as := [.ref q1]) (rest := []) rfl rfl (Nat.le_of_ble_eq_true rfl) ⟨(show (0 + 1) + 4 ≤ 7 from by omega), (show (0 + 1) + 24 ≤ 35 from by omega)⟩ dX1_envyCycleLength_8) (fun H locs hI => ?_)
    refine g_newO (C := RX7) (T := TX7) (N := 4) (ci := 5) (fs := [.null, .int 0, .null, .int 0]) X hI in_X7 tyX7 tyX7_ok q1318 q1319 q127 rfl (g_dflt4 rfl rfl rfl rfl) (show ((0 + 1) + 4) + 1 ≤ 7 from by omega) (show ((0 + 1) + 24) + 4 ≤ 35 from by omega) hr dX1_envyCycleLength_11 (fun q12 h13 n14 H locs hI hr => ?_)
    refine lv_dup hx hb dX1_envyCycleLength_14 rfl ?_
    refine lv_aload_n hx hb dX1_envyCycleLength_15 rfl (lv_at hl 0 rfl) ?_
    refine g_getA (C := RX1) (T := TX1) (N := 10) X hI in_X1 rfl 4 (by decide) q760 (fun _ h9 => h9) hr dX1_envyCycleLength_16 (fun v15 hr => ?_)
    refine lv_iload_n hx hb dX1_envyCycleLength_19 rfl (lv_at hl 1 rfl) ?_
    obtain ⟨h17, n18, hc16, hr⟩ := gT2_i hr
    refine gRun_v (g_runI X hI (w_X7_init hst hc16) hl q1322 q1320 q1321 q127 rfl rfl rfl hd_X7_init ⟨Nat.le_of_ble_eq_true rfl, Nat.le_of_ble_eq_true rfl⟩ (as := [.ref v15, .int z1]) (rest := [.ref q12]) rfl rfl (Nat.le_of_ble_eq_true rfl) ⟨(show (((0 + 1) + 4) + 1) + 1 ≤ 7 from by omega), (show (((0 + 1) + 24) + 4) + 6 ≤ 35 from by omega)⟩ dX1_envyCycleLength_20) (fun H locs hI => ?_)
    refine g_getI (C := RX7) (T := TX7) (N := 4) X hI in_X7 rfl 3 (by decide) q1341 (fun _ h9 => h9) hr dX1_envyCycleLength_23 (fun v19 hr => ?_)
    have hr := gS_i hr
    subst hr
    exact g_xiret X hI rfl (show ((((0 + 1) + 4) + 1) + 1) ≤ 7 from by omega) (show ((((0 + 1) + 24) + 4) + 6) ≤ 35 from by omega) dX1_envyCycleLength_26
  · refine gXThr (k := q7.1) (q := q7.2) (g_xrunV X hI (w_X1_checkSiblings hst hc6) ho5 rfl hl (lw_V q1174 q1176 qs20 q96 q1177) rfl rfl hd_X1_checkSiblings ⟨Nat.le_of_ble_eq_true rfl, Nat.le_of_ble_eq_true rfl⟩ (as := [.ref q1]) (rest := []) rfl rfl (Nat.le_of_ble_eq_true rfl) ⟨(show (0 + 1) + 4 ≤ 7 from by omega), (show (0 + 1) + 24 ≤ 35 from by omega)⟩ dX1_envyCycleLength_8) (fun H locs hI hxc => ?_)
    have hr := gS_i hr
    subst hr
    exact g_xout X hI hxc hxt gPs_0 (show ((0 + 1) + 4) ≤ 7 from by omega) (show ((0 + 1) + 24) ≤ 35 from by omega)
abbrev rm_X7_member : Room := { frames := 8, cells := 0, slots := 0, locals := 176 }
theorem hd_X7_member : yX7_member.cls = RX7 ∧ yX7_member.cls ≠ "java/lang/invoke/MethodHandle" ∧ yX7_member.cls ≠ "java/lang/invoke/VarHandle" ∧ (parseMethodDescriptor yX7_member.desc).map (fun d => d.parameters.length) = some 1 := by decide +kernel
set_option maxHeartbeats 2000000 in
theorem w_X7_member_L7 {h : gH} {n : Nat} {z0 : Nat} {z1 : Int32} {res : Int32} (X : gXX x base RX7 cX7_member 4 (some .int) p l s m args meth c) : ∀ (k : Nat) {z2 : Int32} {z3 : Int32} {H : Heap} {locs : List Loc} {ls : Array Slot}, gL2 (f_X7_member_L7 z0 z1 h) k z2 z3 = some res → gI x base s.heap h n H locs → lv_has ls 4 [(0, .ref z0), (1, .int z1), (2, .int z2), (3, .int z3)] → W p l e rm_X7_member s m args below meth c H locs 0 0 (MQ below (gQ x base (some (.int res)) h n) args s 0 0 (fun q => base ≤ q)) (F0 m 7 ls []) := by
  have hx := X.1
  have hb := X.2.1
  intro k
  induction k with
  | zero =>
    intros
    rename_i hr _ _
    exact nomatch (show (none : Option _) = some _ from hr)
  | succ k ih =>
    intro z2 z3 H locs ls hr hI hl
    replace hr : f_X7_member_L7 z0 z1 h (gL2 (f_X7_member_L7 z0 z1 h) k) z2 z3 = some res := hr
    unfold f_X7_member_L7 at hr
    refine lv_iload_n hx hb dX7_member_7 rfl (lv_at hl 3 rfl) ?_
    refine lv_iload_n hx hb dX7_member_8 rfl (lv_at hl 1 rfl) ?_
    refine lv_icmp_ge (tgt := 24) hx hb dX7_member_9 (by decide) (fun c9 => ?_) (fun c9 => ?_)
    · replace hr := gIf_t c9 hr
      refine lv_iload_n hx hb dX7_member_24 rfl (lv_at hl 2 rfl) ?_
      have hr := gS_i hr
      subst hr
      exact g_iret X hI rfl (Nat.le_refl _) (Nat.le_refl _) dX7_member_25
    · replace hr := gIf_f c9 hr
      refine lv_aload_n hx hb dX7_member_12 rfl (lv_at hl 0 rfl) ?_
      refine lv_iload_n hx hb dX7_member_13 rfl (lv_at hl 2 rfl) ?_
      obtain ⟨_, ho2, hr⟩ := gB_i hr
      obtain ⟨v4, hc3, hr⟩ := gB_i hr
      refine gRun_i (g_runV X hI (w_X7_successor hc3) ho2 rfl hl (lw_V q1333 q1334 q1335 q127 q1336) rfl rfl hd_X7_successor ⟨Nat.le_of_ble_eq_true rfl, Nat.le_of_ble_eq_true rfl⟩ (as := [.int z2]) (rest := []) rfl rfl (Nat.le_of_ble_eq_true rfl) ⟨(Nat.le_refl _), (Nat.le_refl _)⟩ dX7_member_14) (fun H locs hI => ?_)
      refine lv_istore_n (lv' := [(2, .int v4), (0, .ref z0), (1, .int z1), (3, .int z3)]) hx hb dX7_member_17 rfl hl (by decide) rfl (fun ls hl => ?_)
      refine lv_iinc (v := (z3 + (1 : Int32))) (lv' := [(3, .int (z3 + (1 : Int32))), (2, .int v4), (0, .ref z0), (1, .int z1)]) hx hb dX7_member_18 hl (k := 3) rfl (g_inc (by decide)) (by decide) rfl (fun ls hl => ?_)
      refine lv_goto (tgt := 7) hx hb dX7_member_21 (by decide) ?_
      exact ih hr hI (lv_sub hl [2, 3, 1, 0] rfl)
set_option maxHeartbeats 2000000 in
theorem w_X7_member {l : Launch} {x : gV} {base : Nat} {z0 : Nat} {z1 : Int32} {h : gH} {n : Nat} {res : Int32} (hr : f_X7_member z0 z1 h = some res) : gM l yX7_member (ws_ yX7_member cX7_member 4 (some .int)) rm_X7_member x base [.ref z0, .int z1] h n (some (.int res)) h n 0 0 := by
  refine g_met (cc := cX7_member) (nL := 4) (ret := (some .int)) (by decide) (Nat.le_of_ble_eq_true rfl) (fun p e s m below meth c ls X hnm hl hI => ?_)
  have hl : lv_has ls 4 [(0, .ref z0), (1, .int z1)] := hl
  have hx := X.1
  have hb := X.2.1
  unfold f_X7_member at hr
  refine lv_aload_n hx hb dX7_member_0 rfl (lv_at hl 0 rfl) ?_
  refine g_getI (C := RX7) (T := TX7) (N := 4) X hI in_X7 rfl 1 (by decide) q1338 (fun _ h9 => h9) hr dX7_member_1 (fun v1 hr => ?_)
  refine lv_istore_n (lv' := [(2, .int v1), (0, .ref z0), (1, .int z1)]) hx hb dX7_member_4 rfl hl (by decide) rfl (fun ls hl => ?_)
  refine lv_iconst (v := 0) hx hb dX7_member_5 (by decide) ?_
  refine lv_istore_n (lv' := [(3, .int (0 : Int32)), (2, .int v1), (0, .ref z0), (1, .int z1)]) hx hb dX7_member_6 rfl hl (by decide) rfl (fun ls hl => ?_)
  exact w_X7_member_L7 X gN hr hI (lv_sub hl [2, 3, 1, 0] rfl)
abbrev rm_X1_envyCycleMember : Room := { frames := 10, cells := 8, slots := 41, locals := 222 }
theorem hd_X1_envyCycleMember : yX1_envyCycleMember.cls = RX1 ∧ yX1_envyCycleMember.cls ≠ "java/lang/invoke/MethodHandle" ∧ yX1_envyCycleMember.cls ≠ "java/lang/invoke/VarHandle" ∧ (parseMethodDescriptor yX1_envyCycleMember.desc).map (fun d => d.parameters.length) = some 2 := by decide +kernel
set_option maxHeartbeats 2000000 in
theorem w_X1_envyCycleMember {l : Launch} {x : gV} {base : Nat} (hst : l.stackTraces = false) {z0 : Nat} {z1 : Int32} {z2 : Int32} {h : gH} {n : Nat} {res : (Int32 ⊕ gX) × gH × Nat} (hr : f_X1_envyCycleMember z0 z1 z2 h n = some res) : gMX l yX1_envyCycleMember (ws_ yX1_envyCycleMember cX1_envyCycleMember 4 (some .int)) rm_X1_envyCycleMember x base (fun v => some (.int v)) [.ref z0, .int z1, .int z2] h n res 8 41 := by
  refine g_metX (cc := cX1_envyCycleMember) (nL := 4) (ret := (some .int)) (by decide) (Nat.le_of_ble_eq_true rfl) (fun p e s m below meth c ls X hnm hxt hl hI => ?_)
  have hl : lv_has ls 4 [(0, .ref z0), (1, .int z1), (2, .int z2)] := hl
  have hx := X.1
  have hb := X.2.1
  have hcc : 0 + 8 ≤ 8 ∧ 0 + 41 ≤ 41 := ⟨Nat.le_refl _, Nat.le_refl _⟩
  unfold f_X1_envyCycleMember at hr
  refine lv_aload_n hx hb dX1_envyCycleMember_0 rfl (lv_at hl 0 rfl) ?_
  refine lv_iconst (v := 1) hx hb dX1_envyCycleMember_1 (by decide) ?_
  refine g_newI (t := 0) (b := 1) (atype := .int) X hI q512 rfl rfl (by decide) (show 0 + 1 ≤ 8 from by omega) (show 0 + 1 ≤ 41 from by omega) hr dX1_envyCycleMember_2 (fun q1 h2 n3 H locs hI hr => ?_)
  refine lv_dup hx hb dX1_envyCycleMember_4 rfl ?_
  refine lv_iconst (v := 0) hx hb dX1_envyCycleMember_5 (by decide) ?_
  refine lv_iload_n hx hb dX1_envyCycleMember_6 rfl (lv_at hl 1 rfl) ?_
  refine g_iast X hI hr dX1_envyCycleMember_7 (fun h4 H locs hI hr => ?_)
  obtain ⟨_, ho5, hr⟩ := gB_i hr
  rcases gTX_i hr with ⟨u9, h8, n9, hc6, hr⟩ | ⟨q7, h10, n11, hc6, hr⟩
  · refine gXRet_v (g_xrunV X hI (w_X1_checkSiblings hst hc6) ho5 rfl hl (lw_V q1174 q1176 qs20 q96 q1177) rfl rfl hd_X1_checkSiblings ⟨Nat.le_of_ble_eq_true rfl, Nat.le_of_ble_eq_true rfl⟩ (as := [.ref q1]) (rest := []) rfl rfl (Nat.le_of_ble_eq_true rfl) ⟨(show (0 + 1) + 4 ≤ 8 from by omega), (show (0 + 1) + 24 ≤ 41 from by omega)⟩ dX1_envyCycleMember_8) (fun H locs hI => ?_)
    refine g_newO (C := RX7) (T := TX7) (N := 4) (ci := 5) (fs := [.null, .int 0, .null, .int 0]) X hI in_X7 tyX7 tyX7_ok q1318 q1319 q127 rfl (g_dflt4 rfl rfl rfl rfl) (show ((0 + 1) + 4) + 1 ≤ 8 from by omega) (show ((0 + 1) + 24) + 4 ≤ 41 from by omega) hr dX1_envyCycleMember_11 (fun q12 h13 n14 H locs hI hr => ?_)
    refine lv_dup hx hb dX1_envyCycleMember_14 rfl ?_
    refine lv_aload_n hx hb dX1_envyCycleMember_15 rfl (lv_at hl 0 rfl) ?_
    refine g_getA (C := RX1) (T := TX1) (N := 10) X hI in_X1 rfl 4 (by decide) q760 (fun _ h9 => h9) hr dX1_envyCycleMember_16 (fun v15 hr => ?_)
    refine lv_iload_n hx hb dX1_envyCycleMember_19 rfl (lv_at hl 1 rfl) ?_
    obtain ⟨h17, n18, hc16, hr⟩ := gT2_i hr
    refine gRun_v (g_runI X hI (w_X7_init hst hc16) hl q1322 q1320 q1321 q127 rfl rfl rfl hd_X7_init ⟨Nat.le_of_ble_eq_true rfl, Nat.le_of_ble_eq_true rfl⟩ (as := [.ref v15, .int z1]) (rest := [.ref q12]) rfl rfl (Nat.le_of_ble_eq_true rfl) ⟨(show (((0 + 1) + 4) + 1) + 1 ≤ 8 from by omega), (show (((0 + 1) + 24) + 4) + 6 ≤ 41 from by omega)⟩ dX1_envyCycleMember_20) (fun H locs hI => ?_)
    refine lv_astore_n (lv' := [(3, .ref q12), (0, .ref z0), (1, .int z1), (2, .int z2)]) hx hb dX1_envyCycleMember_23 rfl hl (by decide) rfl (fun ls hl => ?_)
    refine lv_iload_n hx hb dX1_envyCycleMember_24 rfl (lv_at hl 3 rfl) ?_
    refine lv_iconst (v := 0) hx hb dX1_envyCycleMember_25 (by decide) ?_
    refine lv_aload_n hx hb dX1_envyCycleMember_26 rfl (lv_at hl 0 rfl) ?_
    refine g_getI (C := RX7) (T := TX7) (N := 4) X hI in_X7 rfl 3 (by decide) q1341 (fun _ h9 => h9) hr dX1_envyCycleMember_27 (fun v19 hr => ?_)
    refine lv_iconst (v := 1) hx hb dX1_envyCycleMember_30 (by decide) ?_
    refine lv_isub hx hb dX1_envyCycleMember_31 ?_
    obtain ⟨v21, hc20, hr⟩ := gB_i hr
    refine gRun_i (g_runS X hI (w_X1_isBetween hc20) hl (lw_S q1233 q1234 q96 q1235) rfl rfl hd_X1_isBetween ⟨Nat.le_of_ble_eq_true rfl, Nat.le_of_ble_eq_true rfl⟩ (as := [.int z2, .int (0 : Int32), .int (v19 - (1 : Int32))]) (rest := []) rfl rfl (Nat.le_of_ble_eq_true rfl) ⟨(show ((((0 + 1) + 4) + 1) + 1) + 0 ≤ 8 from by omega), (show ((((0 + 1) + 24) + 4) + 6) + 0 ≤ 41 from by omega)⟩ dX1_envyCycleMember_32) (fun H locs hI => ?_)
    refine lv_if_ne (tgt := 46) hx hb dX1_envyCycleMember_35 (by decide) (fun c9 => ?_) (fun c9 => ?_)
    · replace hr := gIf_f c9 hr
      refine lv_aload_n hx hb dX1_envyCycleMember_46 rfl (lv_at hl 0 rfl) ?_
      refine lv_iload_n hx hb dX1_envyCycleMember_47 rfl (lv_at hl 3 rfl) ?_
      obtain ⟨_, ho22, hr⟩ := gB_i hr
      obtain ⟨v24, hc23, hr⟩ := gB_i hr
      refine gRun_i (g_runV X hI (w_X7_member hc23) ho22 rfl hl (lw_V q1358 q1359 q1360 q127 q1361) rfl rfl hd_X7_member ⟨Nat.le_of_ble_eq_true rfl, Nat.le_of_ble_eq_true rfl⟩ (as := [.int z2]) (rest := []) rfl rfl (Nat.le_of_ble_eq_true rfl) ⟨(show (((((0 + 1) + 4) + 1) + 1) + 0) + 0 ≤ 8 from by omega), (show (((((0 + 1) + 24) + 4) + 6) + 0) + 0 ≤ 41 from by omega)⟩ dX1_envyCycleMember_48) (fun H locs hI => ?_)
      have hr := gS_i hr
      subst hr
      exact g_xiret X hI rfl (show ((((((0 + 1) + 4) + 1) + 1) + 0) + 0) ≤ 8 from by omega) (show ((((((0 + 1) + 24) + 4) + 6) + 0) + 0) ≤ 41 from by omega) dX1_envyCycleMember_51
    · replace hr := gIf_t c9 hr
      refine g_mk0 (cls := "java/util/NoSuchElementException") (names := ["java/lang/RuntimeException", "java/lang/Exception"]) (ik := 185) (ic := 187) (ci := 13) X hst hI hl (by decide) (by decide) q1206 q126 gxs_NSE_187 rfl dX1_envyCycleMember_38 dX1_envyCycleMember_41 dX1_envyCycleMember_42 (Nat.le_of_ble_eq_true rfl) (Nat.le_of_ble_eq_true rfl) (show (((((0 + 1) + 4) + 1) + 1) + 0) + 1 ≤ 8 from by omega) (show (((((0 + 1) + 24) + 4) + 6) + 0) + 6 ≤ 41 from by omega) hr (fun q28 h29 n30 H locs hI hr => ?_)
      obtain ⟨k31, hk32, hr⟩ := gB_i hr
      refine g_athrow X hI hk32 dX1_envyCycleMember_45 (fun hxc => ?_)
      have hr := gS_i hr
      subst hr
      exact g_xout X hI hxc hxt gPs_0 (show ((((((0 + 1) + 4) + 1) + 1) + 0) + 1) ≤ 8 from by omega) (show ((((((0 + 1) + 24) + 4) + 6) + 0) + 6) ≤ 41 from by omega)
  · refine gXThr (k := q7.1) (q := q7.2) (g_xrunV X hI (w_X1_checkSiblings hst hc6) ho5 rfl hl (lw_V q1174 q1176 qs20 q96 q1177) rfl rfl hd_X1_checkSiblings ⟨Nat.le_of_ble_eq_true rfl, Nat.le_of_ble_eq_true rfl⟩ (as := [.ref q1]) (rest := []) rfl rfl (Nat.le_of_ble_eq_true rfl) ⟨(show (0 + 1) + 4 ≤ 8 from by omega), (show (0 + 1) + 24 ≤ 41 from by omega)⟩ dX1_envyCycleMember_8) (fun H locs hI hxc => ?_)
    have hr := gS_i hr
    subst hr
    exact g_xout X hI hxc hxt gPs_0 (show ((0 + 1) + 4) ≤ 8 from by omega) (show ((0 + 1) + 24) ≤ 41 from by omega)
abbrev rm_X1_wouldSwap : Room := { frames := 10, cells := 5, slots := 26, locals := 203 }
theorem hd_X1_wouldSwap : yX1_wouldSwap.cls = RX1 ∧ yX1_wouldSwap.cls ≠ "java/lang/invoke/MethodHandle" ∧ yX1_wouldSwap.cls ≠ "java/lang/invoke/VarHandle" ∧ (parseMethodDescriptor yX1_wouldSwap.desc).map (fun d => d.parameters.length) = some 2 := by decide +kernel
set_option maxHeartbeats 2000000 in
theorem w_X1_wouldSwap {l : Launch} {x : gV} {base : Nat} (hst : l.stackTraces = false) {z0 : Nat} {z1 : Int32} {z2 : Int32} {h : gH} {n : Nat} {res : (Int32 ⊕ gX) × gH × Nat} (hr : f_X1_wouldSwap z0 z1 z2 h n = some res) : gMX l yX1_wouldSwap (ws_ yX1_wouldSwap cX1_wouldSwap 3 (some .boolean)) rm_X1_wouldSwap x base (fun v => some (.int v)) [.ref z0, .int z1, .int z2] h n res 5 26 := by
  refine g_metX (cc := cX1_wouldSwap) (nL := 3) (ret := (some .boolean)) (by decide) (Nat.le_of_ble_eq_true rfl) (fun p e s m below meth c ls X hnm hxt hl hI => ?_)
  have hl : lv_has ls 3 [(0, .ref z0), (1, .int z1), (2, .int z2)] := hl
  have hx := X.1
  have hb := X.2.1
  have hcc : 0 + 5 ≤ 5 ∧ 0 + 26 ≤ 26 := ⟨Nat.le_refl _, Nat.le_refl _⟩
  unfold f_X1_wouldSwap at hr
  refine lv_aload_n hx hb dX1_wouldSwap_0 rfl (lv_at hl 0 rfl) ?_
  refine lv_iconst (v := 2) hx hb dX1_wouldSwap_1 (by decide) ?_
  refine g_newI (t := 0) (b := 2) (atype := .int) X hI q512 rfl rfl (by decide) (show 0 + 1 ≤ 5 from by omega) (show 0 + 2 ≤ 26 from by omega) hr dX1_wouldSwap_2 (fun q1 h2 n3 H locs hI hr => ?_)
  refine lv_dup hx hb dX1_wouldSwap_4 rfl ?_
  refine lv_iconst (v := 0) hx hb dX1_wouldSwap_5 (by decide) ?_
  refine lv_iload_n hx hb dX1_wouldSwap_6 rfl (lv_at hl 1 rfl) ?_
  refine g_iast X hI hr dX1_wouldSwap_7 (fun h4 H locs hI hr => ?_)
  refine lv_dup hx hb dX1_wouldSwap_8 rfl ?_
  refine lv_iconst (v := 1) hx hb dX1_wouldSwap_9 (by decide) ?_
  refine lv_iload_n hx hb dX1_wouldSwap_10 rfl (lv_at hl 2 rfl) ?_
  refine g_iast X hI hr dX1_wouldSwap_11 (fun h5 H locs hI hr => ?_)
  obtain ⟨_, ho6, hr⟩ := gB_i hr
  rcases gTX_i hr with ⟨u9, h9, n10, hc7, hr⟩ | ⟨q8, h11, n12, hc7, hr⟩
  · refine gXRet_v (g_xrunV X hI (w_X1_checkSiblings hst hc7) ho6 rfl hl (lw_V q1174 q1176 qs20 q96 q1177) rfl rfl hd_X1_checkSiblings ⟨Nat.le_of_ble_eq_true rfl, Nat.le_of_ble_eq_true rfl⟩ (as := [.ref q1]) (rest := []) rfl rfl (Nat.le_of_ble_eq_true rfl) ⟨(show (0 + 1) + 4 ≤ 5 from by omega), (show (0 + 2) + 24 ≤ 26 from by omega)⟩ dX1_wouldSwap_12) (fun H locs hI => ?_)
    refine lv_aload_n hx hb dX1_wouldSwap_15 rfl (lv_at hl 0 rfl) ?_
    refine g_getA (C := RX1) (T := TX1) (N := 10) X hI in_X1 rfl 4 (by decide) q760 (fun _ h9 => h9) hr dX1_wouldSwap_16 (fun v13 hr => ?_)
    refine lv_iload_n hx hb dX1_wouldSwap_19 rfl (lv_at hl 1 rfl) ?_
    refine lv_iload_n hx hb dX1_wouldSwap_20 rfl (lv_at hl 2 rfl) ?_
    obtain ⟨_, ho14, hr⟩ := gB_i hr
    obtain ⟨v16, hc15, hr⟩ := gB_i hr
    refine gRun_i (g_runV X hI (w_X2_envies_2 hc15) ho14 rfl hl (lw_V q841 q822 q823 q97 q824) rfl rfl hd_X2_envies_2 ⟨Nat.le_of_ble_eq_true rfl, Nat.le_of_ble_eq_true rfl⟩ (as := [.int z1, .int z2]) (rest := []) rfl rfl (Nat.le_of_ble_eq_true rfl) ⟨(show ((0 + 1) + 4) + 0 ≤ 5 from by omega), (show ((0 + 2) + 24) + 0 ≤ 26 from by omega)⟩ dX1_wouldSwap_21) (fun H locs hI => ?_)
    refine lv_if_eq (tgt := 43) hx hb dX1_wouldSwap_24 (by decide) (fun c9 => ?_) (fun c9 => ?_)
    · replace hr := gIf_t c9 hr
      refine lv_iconst (v := 0) hx hb dX1_wouldSwap_43 (by decide) ?_
      have hr := gS_i hr
      subst hr
      exact g_xiret X hI (g_narZ (Or.inl rfl)) (show (((0 + 1) + 4) + 0) ≤ 5 from by omega) (show (((0 + 2) + 24) + 0) ≤ 26 from by omega) dX1_wouldSwap_44
    · replace hr := gIf_f c9 hr
      refine lv_aload_n hx hb dX1_wouldSwap_27 rfl (lv_at hl 0 rfl) ?_
      refine g_getA (C := RX1) (T := TX1) (N := 10) X hI in_X1 rfl 4 (by decide) q760 (fun _ h9 => h9) hr dX1_wouldSwap_28 (fun v17 hr => ?_)
      refine lv_iload_n hx hb dX1_wouldSwap_31 rfl (lv_at hl 2 rfl) ?_
      refine lv_iload_n hx hb dX1_wouldSwap_32 rfl (lv_at hl 1 rfl) ?_
      obtain ⟨_, ho18, hr⟩ := gB_i hr
      obtain ⟨v20, hc19, hr⟩ := gB_i hr
      refine gRun_i (g_runV X hI (w_X2_envies_2 hc19) ho18 rfl hl (lw_V q841 q822 q823 q97 q824) rfl rfl hd_X2_envies_2 ⟨Nat.le_of_ble_eq_true rfl, Nat.le_of_ble_eq_true rfl⟩ (as := [.int z2, .int z1]) (rest := []) rfl rfl (Nat.le_of_ble_eq_true rfl) ⟨(show (((0 + 1) + 4) + 0) + 0 ≤ 5 from by omega), (show (((0 + 2) + 24) + 0) + 0 ≤ 26 from by omega)⟩ dX1_wouldSwap_33) (fun H locs hI => ?_)
      refine lv_if_eq (tgt := 43) hx hb dX1_wouldSwap_36 (by decide) (fun c9 => ?_) (fun c9 => ?_)
      · replace hr := gIf_t c9 hr
        refine lv_iconst (v := 0) hx hb dX1_wouldSwap_43 (by decide) ?_
        have hr := gS_i hr
        subst hr
        exact g_xiret X hI (g_narZ (Or.inl rfl)) (show ((((0 + 1) + 4) + 0) + 0) ≤ 5 from by omega) (show ((((0 + 2) + 24) + 0) + 0) ≤ 26 from by omega) dX1_wouldSwap_44
      · replace hr := gIf_f c9 hr
        refine lv_iconst (v := 1) hx hb dX1_wouldSwap_39 (by decide) ?_
        refine lv_goto (tgt := 44) hx hb dX1_wouldSwap_40 (by decide) ?_
        have hr := gS_i hr
        subst hr
        exact g_xiret X hI (g_narZ (Or.inr rfl)) (show ((((0 + 1) + 4) + 0) + 0) ≤ 5 from by omega) (show ((((0 + 2) + 24) + 0) + 0) ≤ 26 from by omega) dX1_wouldSwap_44
  · refine gXThr (k := q8.1) (q := q8.2) (g_xrunV X hI (w_X1_checkSiblings hst hc7) ho6 rfl hl (lw_V q1174 q1176 qs20 q96 q1177) rfl rfl hd_X1_checkSiblings ⟨Nat.le_of_ble_eq_true rfl, Nat.le_of_ble_eq_true rfl⟩ (as := [.ref q1]) (rest := []) rfl rfl (Nat.le_of_ble_eq_true rfl) ⟨(show (0 + 1) + 4 ≤ 5 from by omega), (show (0 + 2) + 24 ≤ 26 from by omega)⟩ dX1_wouldSwap_12) (fun H locs hI hxc => ?_)
    have hr := gS_i hr
    subst hr
    exact g_xout X hI hxc hxt gPs_0 (show ((0 + 1) + 4) ≤ 5 from by omega) (show ((0 + 2) + 24) ≤ 26 from by omega)
abbrev rm_X1_satisfaction : Room := { frames := 11, cells := 5, slots := 25, locals := 224 }
theorem hd_X1_satisfaction : yX1_satisfaction.cls = RX1 ∧ yX1_satisfaction.cls ≠ "java/lang/invoke/MethodHandle" ∧ yX1_satisfaction.cls ≠ "java/lang/invoke/VarHandle" ∧ (parseMethodDescriptor yX1_satisfaction.desc).map (fun d => d.parameters.length) = some 1 := by decide +kernel
set_option maxHeartbeats 2000000 in
theorem w_X1_satisfaction {l : Launch} {x : gV} {base : Nat} (hst : l.stackTraces = false) {z0 : Nat} {z1 : Int32} {h : gH} {n : Nat} {res : (UInt32 ⊕ gX) × gH × Nat} (hr : f_X1_satisfaction z0 z1 h n = some res) : gMX l yX1_satisfaction (ws_ yX1_satisfaction cX1_satisfaction 3 (some .float)) rm_X1_satisfaction x base (fun v => some (.float v)) [.ref z0, .int z1] h n res 5 25 := by
  refine g_metX (cc := cX1_satisfaction) (nL := 3) (ret := (some .float)) (by decide) (Nat.le_of_ble_eq_true rfl) (fun p e s m below meth c ls X hnm hxt hl hI => ?_)
  have hl : lv_has ls 3 [(0, .ref z0), (1, .int z1)] := hl
  have hx := X.1
  have hb := X.2.1
  have hcc : 0 + 5 ≤ 5 ∧ 0 + 25 ≤ 25 := ⟨Nat.le_refl _, Nat.le_refl _⟩
  unfold f_X1_satisfaction at hr
  refine lv_aload_n hx hb dX1_satisfaction_0 rfl (lv_at hl 0 rfl) ?_
  refine lv_iload_n hx hb dX1_satisfaction_1 rfl (lv_at hl 1 rfl) ?_
  obtain ⟨_, ho1, hr⟩ := gB_i hr
  rcases gTX_i hr with ⟨v3, h5, n6, hc2, hr⟩ | ⟨q4, h7, n8, hc2, hr⟩
  · refine gXRet_a (g_xrunV X hI (w_X1_siblingAt hst hc2) ho1 rfl hl (lw_V q1170 q1172 qs19 q96 q1173) rfl rfl hd_X1_siblingAt ⟨Nat.le_of_ble_eq_true rfl, Nat.le_of_ble_eq_true rfl⟩ (as := [.int z1]) (rest := []) rfl rfl (Nat.le_of_ble_eq_true rfl) ⟨(show 0 + 5 ≤ 5 from by omega), (show 0 + 25 ≤ 25 from by omega)⟩ dX1_satisfaction_2) (fun H locs hI => ?_)
    obtain ⟨_, ho9, hr⟩ := gB_i hr
    obtain ⟨v11, hc10, hr⟩ := gB_i hr
    refine gRun_i (g_runV X hI (w_X5_total hc10) ho9 rfl hl (lw_V q1247 q867 q868 q121 q869) rfl rfl hd_X5_total ⟨Nat.le_of_ble_eq_true rfl, Nat.le_of_ble_eq_true rfl⟩ (as := []) (rest := []) rfl rfl (Nat.le_of_ble_eq_true rfl) ⟨(show (0 + 5) + 0 ≤ 5 from by omega), (show (0 + 25) + 0 ≤ 25 from by omega)⟩ dX1_satisfaction_5) (fun H locs hI => ?_)
    refine lv_istore_n (lv' := [(2, .int v11), (0, .ref z0), (1, .int z1)]) hx hb dX1_satisfaction_8 rfl hl (by decide) rfl (fun ls hl => ?_)
    refine lv_iload_n hx hb dX1_satisfaction_9 rfl (lv_at hl 0 rfl) ?_
    refine lv_if_ne (tgt := 17) hx hb dX1_satisfaction_10 (by decide) (fun c9 => ?_) (fun c9 => ?_)
    · replace hr := gIf_f c9 hr
      refine lv_aload_n hx hb dX1_satisfaction_17 rfl (lv_at hl 1 rfl) ?_
      refine g_getA (C := RX1) (T := TX1) (N := 10) X hI in_X1 rfl 4 (by decide) q760 (fun _ h9 => h9) hr dX1_satisfaction_18 (fun v12 hr => ?_)
      refine lv_iload_n hx hb dX1_satisfaction_21 rfl (lv_at hl 2 rfl) ?_
      obtain ⟨_, ho13, hr⟩ := gB_i hr
      obtain ⟨v15, hc14, hr⟩ := gB_i hr
      refine gRun_i (g_runV X hI (w_X2_welfare hc14) ho13 rfl hl (lw_V q878 q834 q835 q97 q836) rfl rfl hd_X2_welfare ⟨Nat.le_of_ble_eq_true rfl, Nat.le_of_ble_eq_true rfl⟩ (as := [.int z1]) (rest := []) rfl rfl (Nat.le_of_ble_eq_true rfl) ⟨(show ((0 + 5) + 0) + 0 ≤ 5 from by omega), (show ((0 + 25) + 0) + 0 ≤ 25 from by omega)⟩ dX1_satisfaction_22) (fun H locs hI => ?_)
      refine lv_i2f hx hb dX1_satisfaction_25 ?_
      refine lv_iload_n hx hb dX1_satisfaction_26 rfl (lv_at hl 0 rfl) ?_
      refine lv_i2f hx hb dX1_satisfaction_27 ?_
      obtain ⟨c9, hr⟩ := gIf_o hr
      refine lv_fdiv hx hb dX1_satisfaction_28 (g_n32_i c9) ?_
      have hr := gS_i hr
      subst hr
      exact g_xfret X hI (show (((0 + 5) + 0) + 0) ≤ 5 from by omega) (show (((0 + 25) + 0) + 0) ≤ 25 from by omega) dX1_satisfaction_29
    · replace hr := gIf_t c9 hr
      refine lv_fconst0 hx hb dX1_satisfaction_13 ?_
      refine lv_goto (tgt := 29) hx hb dX1_satisfaction_14 (by decide) ?_
      have hr := gS_i hr
      subst hr
      exact g_xfret X hI (show ((0 + 5) + 0) ≤ 5 from by omega) (show ((0 + 25) + 0) ≤ 25 from by omega) dX1_satisfaction_29
  · refine gXThr (k := q4.1) (q := q4.2) (g_xrunV X hI (w_X1_siblingAt hst hc2) ho1 rfl hl (lw_V q1170 q1172 qs19 q96 q1173) rfl rfl hd_X1_siblingAt ⟨Nat.le_of_ble_eq_true rfl, Nat.le_of_ble_eq_true rfl⟩ (as := [.int z1]) (rest := []) rfl rfl (Nat.le_of_ble_eq_true rfl) ⟨(show 0 + 5 ≤ 5 from by omega), (show 0 + 25 ≤ 25 from by omega)⟩ dX1_satisfaction_2) (fun H locs hI hxc => ?_)
    have hr := gS_i hr
    subst hr
    exact g_xout X hI hxc hxt gPs_0 (show (0 + 5) ≤ 5 from by omega) (show (0 + 25) ≤ 25 from by omega)
abbrev rm_X2_cutFor : Room := { frames := 4, cells := 0, slots := 0, locals := 85 }
theorem hd_X2_cutFor : yX2_cutFor.cls = RX2 ∧ yX2_cutFor.cls ≠ "java/lang/invoke/MethodHandle" ∧ yX2_cutFor.cls ≠ "java/lang/invoke/VarHandle" ∧ (parseMethodDescriptor yX2_cutFor.desc).map (fun d => d.parameters.length) = some 1 := by decide +kernel
set_option maxHeartbeats 2000000 in
theorem w_X2_cutFor_L8 {h : gH} {n : Nat} {z0 : Nat} {z1 : Int32} {res : Int32} (X : gXX x base RX2 cX2_cutFor 6 (some .int) p l s m args meth c) : ∀ (k : Nat) {z2 : Int32} {z3 : Int32} {z4 : Int32} {H : Heap} {locs : List Loc} {ls : Array Slot}, gL3 (f_X2_cutFor_L8 z0 z1 h) k z2 z3 z4 = some res → gI x base s.heap h n H locs → lv_has ls 6 [(0, .ref z0), (1, .int z1), (2, .int z2), (3, .int z3), (4, .int z4)] → W p l e rm_X2_cutFor s m args below meth c H locs 0 0 (MQ below (gQ x base (some (.int res)) h n) args s 0 0 (fun q => base ≤ q)) (F0 m 8 ls []) := by
  have hx := X.1
  have hb := X.2.1
  intro k
  induction k with
  | zero =>
    intros
    rename_i hr _ _
    exact nomatch (show (none : Option _) = some _ from hr)
  | succ k ih =>
    intro z2 z3 z4 H locs ls hr hI hl
    replace hr : f_X2_cutFor_L8 z0 z1 h (gL3 (f_X2_cutFor_L8 z0 z1 h) k) z2 z3 z4 = some res := hr
    unfold f_X2_cutFor_L8 at hr
    refine lv_iload hx hb dX2_cutFor_8 (lv_at hl 4 rfl) ?_
    refine lv_aload_n hx hb dX2_cutFor_10 rfl (lv_at hl 0 rfl) ?_
    obtain ⟨_, ho1, hr⟩ := gB_i hr
    obtain ⟨v3, hc2, hr⟩ := gB_i hr
    refine gRun_i (g_runV X hI (w_X2_cells hc2) ho1 rfl hl (lw_V q812 q687 q688 q97 q689) rfl rfl hd_X2_cells ⟨Nat.le_of_ble_eq_true rfl, Nat.le_of_ble_eq_true rfl⟩ (as := []) (rest := [.int z4]) rfl rfl (Nat.le_of_ble_eq_true rfl) ⟨(Nat.le_refl _), (Nat.le_refl _)⟩ dX2_cutFor_11) (fun H locs hI => ?_)
    refine lv_icmp_gt (tgt := 78) hx hb dX2_cutFor_14 (by decide) (fun c9 => ?_) (fun c9 => ?_)
    · replace hr := gIf_t c9 hr
      refine lv_iload_n hx hb dX2_cutFor_78 rfl (lv_at hl 2 rfl) ?_
      have hr := gS_i hr
      subst hr
      exact g_iret X hI rfl (Nat.le_refl _) (Nat.le_refl _) dX2_cutFor_79
    · replace hr := gIf_f c9 hr
      refine lv_aload_n hx hb dX2_cutFor_17 rfl (lv_at hl 0 rfl) ?_
      refine lv_iload_n hx hb dX2_cutFor_18 rfl (lv_at hl 1 rfl) ?_
      obtain ⟨v5, hc4, hr⟩ := gB_i hr
      refine gRun_a (g_runV X hI (w_X2_sibling hc4) ho1 rfl hl (lw_V q665 q666 q667 q97 q668) rfl rfl hd_X2_sibling ⟨Nat.le_of_ble_eq_true rfl, Nat.le_of_ble_eq_true rfl⟩ (as := [.int z1]) (rest := []) rfl rfl (Nat.le_of_ble_eq_true rfl) ⟨(Nat.le_refl _), (Nat.le_refl _)⟩ dX2_cutFor_19) (fun H locs hI => ?_)
      refine lv_iconst (v := 0) hx hb dX2_cutFor_22 (by decide) ?_
      refine lv_iload hx hb dX2_cutFor_23 (lv_at hl 4 rfl) ?_
      refine lv_iconst (v := 1) hx hb dX2_cutFor_25 (by decide) ?_
      refine lv_isub hx hb dX2_cutFor_26 ?_
      obtain ⟨_, ho6, hr⟩ := gB_i hr
      obtain ⟨v8, hc7, hr⟩ := gB_i hr
      refine gRun_i (g_runV X hI (w_X5_worth hc7) ho6 rfl hl (lw_V q1388 q871 q872 q121 q873) rfl rfl hd_X5_worth ⟨Nat.le_of_ble_eq_true rfl, Nat.le_of_ble_eq_true rfl⟩ (as := [.int (0 : Int32), .int (z4 - (1 : Int32))]) (rest := []) rfl rfl (Nat.le_of_ble_eq_true rfl) ⟨(Nat.le_refl _), (Nat.le_refl _)⟩ dX2_cutFor_27) (fun H locs hI => ?_)
      refine lv_aload_n hx hb dX2_cutFor_30 rfl (lv_at hl 0 rfl) ?_
      refine lv_iload_n hx hb dX2_cutFor_31 rfl (lv_at hl 1 rfl) ?_
      obtain ⟨v10, hc9, hr⟩ := gB_i hr
      refine gRun_a (g_runV X hI (w_X2_sibling hc9) ho1 rfl hl (lw_V q665 q666 q667 q97 q668) rfl rfl hd_X2_sibling ⟨Nat.le_of_ble_eq_true rfl, Nat.le_of_ble_eq_true rfl⟩ (as := [.int z1]) (rest := [.int v8]) rfl rfl (Nat.le_of_ble_eq_true rfl) ⟨(Nat.le_refl _), (Nat.le_refl _)⟩ dX2_cutFor_32) (fun H locs hI => ?_)
      refine lv_iload hx hb dX2_cutFor_35 (lv_at hl 4 rfl) ?_
      refine lv_aload_n hx hb dX2_cutFor_37 rfl (lv_at hl 0 rfl) ?_
      obtain ⟨v12, hc11, hr⟩ := gB_i hr
      refine gRun_i (g_runV X hI (w_X2_cells hc11) ho1 rfl hl (lw_V q812 q687 q688 q97 q689) rfl rfl hd_X2_cells ⟨Nat.le_of_ble_eq_true rfl, Nat.le_of_ble_eq_true rfl⟩ (as := []) (rest := [.int z4, .ref v10, .int v8]) rfl rfl (Nat.le_of_ble_eq_true rfl) ⟨(Nat.le_refl _), (Nat.le_refl _)⟩ dX2_cutFor_38) (fun H locs hI => ?_)
      refine lv_iconst (v := 1) hx hb dX2_cutFor_41 (by decide) ?_
      refine lv_isub hx hb dX2_cutFor_42 ?_
      obtain ⟨_, ho13, hr⟩ := gB_i hr
      obtain ⟨v15, hc14, hr⟩ := gB_i hr
      refine gRun_i (g_runV X hI (w_X5_worth hc14) ho13 rfl hl (lw_V q1388 q871 q872 q121 q873) rfl rfl hd_X5_worth ⟨Nat.le_of_ble_eq_true rfl, Nat.le_of_ble_eq_true rfl⟩ (as := [.int z4, .int (v12 - (1 : Int32))]) (rest := [.int v8]) rfl rfl (Nat.le_of_ble_eq_true rfl) ⟨(Nat.le_refl _), (Nat.le_refl _)⟩ dX2_cutFor_43) (fun H locs hI => ?_)
      refine lv_isub hx hb dX2_cutFor_46 ?_
      refine va_mabs hx hb (X.2.2.1.trans hl.1.symm) X.2.2.2.2.1 (X.w q1389) (X.w q1390) (X.w q110) (X.w q1391) (Nat.le_of_ble_eq_true rfl) (Nat.le_of_ble_eq_true rfl) (Nat.le_refl _) (Nat.le_refl _) dX2_cutFor_47 ?_
      refine lv_istore (lv' := [(5, .int (if 0 ≤ (v8 - v15) then (v8 - v15) else 0 - (v8 - v15))), (0, .ref z0), (1, .int z1), (2, .int z2), (3, .int z3), (4, .int z4)]) hx hb dX2_cutFor_50 hl (by decide) rfl (fun ls hl => ?_)
      refine lv_iload hx hb dX2_cutFor_52 (lv_at hl 0 rfl) ?_
      refine lv_iload_n hx hb dX2_cutFor_54 rfl (lv_at hl 4 rfl) ?_
      refine lv_icmp_ge (tgt := 63) hx hb dX2_cutFor_55 (by decide) (fun c9 => ?_) (fun c9 => ?_)
      · replace hr := gIf_t c9 hr
        refine lv_iload_n hx hb dX2_cutFor_63 rfl (lv_at hl 3 rfl) ?_
        refine lv_istore_n (lv' := [(2, .int z2), (5, .int (if 0 ≤ (v8 - v15) then (v8 - v15) else 0 - (v8 - v15))), (0, .ref z0), (1, .int z1), (3, .int z3), (4, .int z4)]) hx hb dX2_cutFor_64 rfl hl (by decide) rfl (fun ls hl => ?_)
        refine lv_iload_n hx hb dX2_cutFor_65 rfl (lv_at hl 4 rfl) ?_
        refine lv_iload hx hb dX2_cutFor_66 (lv_at hl 1 rfl) ?_
        refine va_mmin hx hb (X.2.2.1.trans hl.1.symm) X.2.2.2.2.1 (X.w q887) (X.w q282) (X.w q110) (X.w q283) (Nat.le_of_ble_eq_true rfl) (Nat.le_of_ble_eq_true rfl) (Nat.le_refl _) (Nat.le_refl _) dX2_cutFor_68 ?_
        refine lv_istore_n (lv' := [(3, .int (if (if 0 ≤ (v8 - v15) then (v8 - v15) else 0 - (v8 - v15)) < z3 then (if 0 ≤ (v8 - v15) then (v8 - v15) else 0 - (v8 - v15)) else z3)), (2, .int z2), (5, .int (if 0 ≤ (v8 - v15) then (v8 - v15) else 0 - (v8 - v15))), (0, .ref z0), (1, .int z1), (4, .int z4)]) hx hb dX2_cutFor_71 rfl hl (by decide) rfl (fun ls hl => ?_)
        refine lv_iinc (v := (z4 + (1 : Int32))) (lv' := [(4, .int (z4 + (1 : Int32))), (3, .int (if (if 0 ≤ (v8 - v15) then (v8 - v15) else 0 - (v8 - v15)) < z3 then (if 0 ≤ (v8 - v15) then (v8 - v15) else 0 - (v8 - v15)) else z3)), (2, .int z2), (5, .int (if 0 ≤ (v8 - v15) then (v8 - v15) else 0 - (v8 - v15))), (0, .ref z0), (1, .int z1)]) hx hb dX2_cutFor_72 hl (k := 5) rfl (g_inc (by decide)) (by decide) rfl (fun ls hl => ?_)
        refine lv_goto (tgt := 8) hx hb dX2_cutFor_75 (by decide) ?_
        exact ih hr hI (lv_sub hl [4, 5, 2, 1, 0] rfl)
      · replace hr := gIf_f c9 hr
        refine lv_iload hx hb dX2_cutFor_58 (lv_at hl 5 rfl) ?_
        refine lv_goto (tgt := 64) hx hb dX2_cutFor_60 (by decide) ?_
        refine lv_istore_n (lv' := [(2, .int z4), (5, .int (if 0 ≤ (v8 - v15) then (v8 - v15) else 0 - (v8 - v15))), (0, .ref z0), (1, .int z1), (3, .int z3), (4, .int z4)]) hx hb dX2_cutFor_64 rfl hl (by decide) rfl (fun ls hl => ?_)
        refine lv_iload_n hx hb dX2_cutFor_65 rfl (lv_at hl 4 rfl) ?_
        refine lv_iload hx hb dX2_cutFor_66 (lv_at hl 1 rfl) ?_
        refine va_mmin hx hb (X.2.2.1.trans hl.1.symm) X.2.2.2.2.1 (X.w q887) (X.w q282) (X.w q110) (X.w q283) (Nat.le_of_ble_eq_true rfl) (Nat.le_of_ble_eq_true rfl) (Nat.le_refl _) (Nat.le_refl _) dX2_cutFor_68 ?_
        refine lv_istore_n (lv' := [(3, .int (if (if 0 ≤ (v8 - v15) then (v8 - v15) else 0 - (v8 - v15)) < z3 then (if 0 ≤ (v8 - v15) then (v8 - v15) else 0 - (v8 - v15)) else z3)), (2, .int z4), (5, .int (if 0 ≤ (v8 - v15) then (v8 - v15) else 0 - (v8 - v15))), (0, .ref z0), (1, .int z1), (4, .int z4)]) hx hb dX2_cutFor_71 rfl hl (by decide) rfl (fun ls hl => ?_)
        refine lv_iinc (v := (z4 + (1 : Int32))) (lv' := [(4, .int (z4 + (1 : Int32))), (3, .int (if (if 0 ≤ (v8 - v15) then (v8 - v15) else 0 - (v8 - v15)) < z3 then (if 0 ≤ (v8 - v15) then (v8 - v15) else 0 - (v8 - v15)) else z3)), (2, .int z4), (5, .int (if 0 ≤ (v8 - v15) then (v8 - v15) else 0 - (v8 - v15))), (0, .ref z0), (1, .int z1)]) hx hb dX2_cutFor_72 hl (k := 5) rfl (g_inc (by decide)) (by decide) rfl (fun ls hl => ?_)
        refine lv_goto (tgt := 8) hx hb dX2_cutFor_75 (by decide) ?_
        exact ih hr hI (lv_sub hl [4, 5, 2, 1, 0] rfl)
set_option maxHeartbeats 2000000 in
theorem w_X2_cutFor {l : Launch} {x : gV} {base : Nat} {z0 : Nat} {z1 : Int32} {h : gH} {n : Nat} {res : Int32} (hr : f_X2_cutFor z0 z1 h = some res) : gM l yX2_cutFor (ws_ yX2_cutFor cX2_cutFor 6 (some .int)) rm_X2_cutFor x base [.ref z0, .int z1] h n (some (.int res)) h n 0 0 := by
  refine g_met (cc := cX2_cutFor) (nL := 6) (ret := (some .int)) (by decide) (Nat.le_of_ble_eq_true rfl) (fun p e s m below meth c ls X hnm hl hI => ?_)
  have hl : lv_has ls 6 [(0, .ref z0), (1, .int z1)] := hl
  have hx := X.1
  have hb := X.2.1
  unfold f_X2_cutFor at hr
  refine lv_iconst (v := 0) hx hb dX2_cutFor_0 (by decide) ?_
  refine lv_istore_n (lv' := [(2, .int (0 : Int32)), (0, .ref z0), (1, .int z1)]) hx hb dX2_cutFor_1 rfl hl (by decide) rfl (fun ls hl => ?_)
  refine lv_ldc (v := 2147483647) hx hb X.2.2.2.2.1 (X.w q1387) dX2_cutFor_2 ?_
  refine lv_istore_n (lv' := [(3, .int (2147483647 : Int32)), (2, .int (0 : Int32)), (0, .ref z0), (1, .int z1)]) hx hb dX2_cutFor_4 rfl hl (by decide) rfl (fun ls hl => ?_)
  refine lv_iconst (v := 0) hx hb dX2_cutFor_5 (by decide) ?_
  refine lv_istore (lv' := [(4, .int (0 : Int32)), (3, .int (2147483647 : Int32)), (2, .int (0 : Int32)), (0, .ref z0), (1, .int z1)]) hx hb dX2_cutFor_6 hl (by decide) rfl (fun ls hl => ?_)
  exact w_X2_cutFor_L8 X gN hr hI (lv_sub hl [3, 4, 2, 1, 0] rfl)
abbrev rm_X1_cutFor : Room := { frames := 10, cells := 5, slots := 25, locals := 203 }
theorem hd_X1_cutFor : yX1_cutFor.cls = RX1 ∧ yX1_cutFor.cls ≠ "java/lang/invoke/MethodHandle" ∧ yX1_cutFor.cls ≠ "java/lang/invoke/VarHandle" ∧ (parseMethodDescriptor yX1_cutFor.desc).map (fun d => d.parameters.length) = some 1 := by decide +kernel
set_option maxHeartbeats 2000000 in
theorem w_X1_cutFor {l : Launch} {x : gV} {base : Nat} (hst : l.stackTraces = false) {z0 : Nat} {z1 : Int32} {h : gH} {n : Nat} {res : (Int32 ⊕ gX) × gH × Nat} (hr : f_X1_cutFor z0 z1 h n = some res) : gMX l yX1_cutFor (ws_ yX1_cutFor cX1_cutFor 2 (some .int)) rm_X1_cutFor x base (fun v => some (.int v)) [.ref z0, .int z1] h n res 5 25 := by
  refine g_metX (cc := cX1_cutFor) (nL := 2) (ret := (some .int)) (by decide) (Nat.le_of_ble_eq_true rfl) (fun p e s m below meth c ls X hnm hxt hl hI => ?_)
  have hl : lv_has ls 2 [(0, .ref z0), (1, .int z1)] := hl
  have hx := X.1
  have hb := X.2.1
  have hcc : 0 + 5 ≤ 5 ∧ 0 + 25 ≤ 25 := ⟨Nat.le_refl _, Nat.le_refl _⟩
  unfold f_X1_cutFor at hr
  refine lv_aload_n hx hb dX1_cutFor_0 rfl (lv_at hl 0 rfl) ?_
  refine lv_iconst (v := 1) hx hb dX1_cutFor_1 (by decide) ?_
  refine g_newI (t := 0) (b := 1) (atype := .int) X hI q512 rfl rfl (by decide) (show 0 + 1 ≤ 5 from by omega) (show 0 + 1 ≤ 25 from by omega) hr dX1_cutFor_2 (fun q1 h2 n3 H locs hI hr => ?_)
  refine lv_dup hx hb dX1_cutFor_4 rfl ?_
  refine lv_iconst (v := 0) hx hb dX1_cutFor_5 (by decide) ?_
  refine lv_iload_n hx hb dX1_cutFor_6 rfl (lv_at hl 1 rfl) ?_
  refine g_iast X hI hr dX1_cutFor_7 (fun h4 H locs hI hr => ?_)
  obtain ⟨_, ho5, hr⟩ := gB_i hr
  rcases gTX_i hr with ⟨u9, h8, n9, hc6, hr⟩ | ⟨q7, h10, n11, hc6, hr⟩
  · refine gXRet_v (g_xrunV X hI (w_X1_checkSiblings hst hc6) ho5 rfl hl (lw_V q1174 q1176 qs20 q96 q1177) rfl rfl hd_X1_checkSiblings ⟨Nat.le_of_ble_eq_true rfl, Nat.le_of_ble_eq_true rfl⟩ (as := [.ref q1]) (rest := []) rfl rfl (Nat.le_of_ble_eq_true rfl) ⟨(show (0 + 1) + 4 ≤ 5 from by omega), (show (0 + 1) + 24 ≤ 25 from by omega)⟩ dX1_cutFor_8) (fun H locs hI => ?_)
    refine lv_aload_n hx hb dX1_cutFor_11 rfl (lv_at hl 0 rfl) ?_
    refine g_getA (C := RX1) (T := TX1) (N := 10) X hI in_X1 rfl 4 (by decide) q760 (fun _ h9 => h9) hr dX1_cutFor_12 (fun v12 hr => ?_)
    refine lv_iload_n hx hb dX1_cutFor_15 rfl (lv_at hl 1 rfl) ?_
    obtain ⟨_, ho13, hr⟩ := gB_i hr
    obtain ⟨v15, hc14, hr⟩ := gB_i hr
    refine gRun_i (g_runV X hI (w_X2_cutFor hc14) ho13 rfl hl (lw_V q1383 q1384 q1385 q97 q1386) rfl rfl hd_X2_cutFor ⟨Nat.le_of_ble_eq_true rfl, Nat.le_of_ble_eq_true rfl⟩ (as := [.int z1]) (rest := []) rfl rfl (Nat.le_of_ble_eq_true rfl) ⟨(show ((0 + 1) + 4) + 0 ≤ 5 from by omega), (show ((0 + 1) + 24) + 0 ≤ 25 from by omega)⟩ dX1_cutFor_16) (fun H locs hI => ?_)
    have hr := gS_i hr
    subst hr
    exact g_xiret X hI rfl (show (((0 + 1) + 4) + 0) ≤ 5 from by omega) (show (((0 + 1) + 24) + 0) ≤ 25 from by omega) dX1_cutFor_19
  · refine gXThr (k := q7.1) (q := q7.2) (g_xrunV X hI (w_X1_checkSiblings hst hc6) ho5 rfl hl (lw_V q1174 q1176 qs20 q96 q1177) rfl rfl hd_X1_checkSiblings ⟨Nat.le_of_ble_eq_true rfl, Nat.le_of_ble_eq_true rfl⟩ (as := [.ref q1]) (rest := []) rfl rfl (Nat.le_of_ble_eq_true rfl) ⟨(show (0 + 1) + 4 ≤ 5 from by omega), (show (0 + 1) + 24 ≤ 25 from by omega)⟩ dX1_cutFor_8) (fun H locs hI hxc => ?_)
    have hr := gS_i hr
    subst hr
    exact g_xout X hI hxc hxt gPs_0 (show ((0 + 1) + 4) ≤ 5 from by omega) (show ((0 + 1) + 24) ≤ 25 from by omega)
abbrev rm_X1_welfareByKnife : Room := { frames := 10, cells := 10, slots := 67, locals := 203 }
theorem hd_X1_welfareByKnife : yX1_welfareByKnife.cls = RX1 ∧ yX1_welfareByKnife.cls ≠ "java/lang/invoke/MethodHandle" ∧ yX1_welfareByKnife.cls ≠ "java/lang/invoke/VarHandle" ∧ (parseMethodDescriptor yX1_welfareByKnife.desc).map (fun d => d.parameters.length) = some 1 := by decide +kernel
set_option maxHeartbeats 2000000 in
theorem w_X1_welfareByKnife {l : Launch} {x : gV} {base : Nat} (hst : l.stackTraces = false) {z0 : Nat} {z1 : Int32} {h : gH} {n : Nat} {res : (Int32 ⊕ gX) × gH × Nat} (hr : f_X1_welfareByKnife z0 z1 h n = some res) : gMX l yX1_welfareByKnife (ws_ yX1_welfareByKnife cX1_welfareByKnife 3 (some .int)) rm_X1_welfareByKnife x base (fun v => some (.int v)) [.ref z0, .int z1] h n res 10 67 := by
  refine g_metX (cc := cX1_welfareByKnife) (nL := 3) (ret := (some .int)) (by decide) (Nat.le_of_ble_eq_true rfl) (fun p e s m below meth c ls X hnm hxt hl hI => ?_)
  have hl : lv_has ls 3 [(0, .ref z0), (1, .int z1)] := hl
  have hx := X.1
  have hb := X.2.1
  have hcc : 0 + 10 ≤ 10 ∧ 0 + 67 ≤ 67 := ⟨Nat.le_refl _, Nat.le_refl _⟩
  unfold f_X1_welfareByKnife at hr
  refine lv_aload_n hx hb dX1_welfareByKnife_0 rfl (lv_at hl 0 rfl) ?_
  refine lv_iconst (v := 1) hx hb dX1_welfareByKnife_1 (by decide) ?_
  refine g_newI (t := 0) (b := 1) (atype := .int) X hI q512 rfl rfl (by decide) (show 0 + 1 ≤ 10 from by omega) (show 0 + 1 ≤ 67 from by omega) hr dX1_welfareByKnife_2 (fun q1 h2 n3 H locs hI hr => ?_)
  refine lv_dup hx hb dX1_welfareByKnife_4 rfl ?_
  refine lv_iconst (v := 0) hx hb dX1_welfareByKnife_5 (by decide) ?_
  refine lv_iload_n hx hb dX1_welfareByKnife_6 rfl (lv_at hl 1 rfl) ?_
  refine g_iast X hI hr dX1_welfareByKnife_7 (fun h4 H locs hI hr => ?_)
  obtain ⟨_, ho5, hr⟩ := gB_i hr
  rcases gTX_i hr with ⟨u9, h8, n9, hc6, hr⟩ | ⟨q7, h10, n11, hc6, hr⟩
  · refine gXRet_v (g_xrunV X hI (w_X1_checkSiblings hst hc6) ho5 rfl hl (lw_V q1174 q1176 qs20 q96 q1177) rfl rfl hd_X1_checkSiblings ⟨Nat.le_of_ble_eq_true rfl, Nat.le_of_ble_eq_true rfl⟩ (as := [.ref q1]) (rest := []) rfl rfl (Nat.le_of_ble_eq_true rfl) ⟨(show (0 + 1) + 4 ≤ 10 from by omega), (show (0 + 1) + 24 ≤ 67 from by omega)⟩ dX1_welfareByKnife_8) (fun H locs hI => ?_)
    refine g_newO (C := RX2) (T := TX2) (N := 3) (ci := 0) (fs := [.null, .null, .null]) X hI in_X2 tyX2 tyX2_ok q142 q143 q97 rfl (g_dflt3 rfl rfl rfl) (show ((0 + 1) + 4) + 1 ≤ 10 from by omega) (show ((0 + 1) + 24) + 3 ≤ 67 from by omega) hr dX1_welfareByKnife_11 (fun q12 h13 n14 H locs hI hr => ?_)
    refine lv_dup hx hb dX1_welfareByKnife_14 rfl ?_
    refine lv_aload_n hx hb dX1_welfareByKnife_15 rfl (lv_at hl 0 rfl) ?_
    refine g_getA (C := RX1) (T := TX1) (N := 10) X hI in_X1 rfl 4 (by decide) q760 (fun _ h9 => h9) hr dX1_welfareByKnife_16 (fun v15 hr => ?_)
    obtain ⟨h17, n18, hc16, hr⟩ := gT2_i hr
    refine gRun_v (g_runI X hI (w_X2_init_2 hst hc16) hl q979 q995 q978 q97 rfl rfl rfl hd_X2_init_2 ⟨Nat.le_of_ble_eq_true rfl, Nat.le_of_ble_eq_true rfl⟩ (as := [.ref v15]) (rest := [.ref q12]) rfl rfl (Nat.le_of_ble_eq_true rfl) ⟨(show (((0 + 1) + 4) + 1) + 4 ≤ 10 from by omega), (show (((0 + 1) + 24) + 3) + 39 ≤ 67 from by omega)⟩ dX1_welfareByKnife_19) (fun H locs hI => ?_)
    refine lv_astore_n (lv' := [(2, .ref q12), (0, .ref z0), (1, .int z1)]) hx hb dX1_welfareByKnife_22 rfl hl (by decide) rfl (fun ls hl => ?_)
    refine lv_aload_n hx hb dX1_welfareByKnife_23 rfl (lv_at hl 0 rfl) ?_
    obtain ⟨_, ho19, hr⟩ := gB_i hr
    obtain ⟨v21, h22, hc20, hr⟩ := gT2_i hr
    refine gRun_i (g_runV X hI (w_X2_movingKnife hc20) ho19 rfl hl (lw_V q996 q997 q998 q97 q999) rfl rfl hd_X2_movingKnife ⟨Nat.le_of_ble_eq_true rfl, Nat.le_of_ble_eq_true rfl⟩ (as := []) (rest := []) rfl rfl (Nat.le_of_ble_eq_true rfl) ⟨(show ((((0 + 1) + 4) + 1) + 4) + 0 ≤ 10 from by omega), (show ((((0 + 1) + 24) + 3) + 39) + 0 ≤ 67 from by omega)⟩ dX1_welfareByKnife_24) (fun H locs hI => ?_)
    refine lv_pop hx hb dX1_welfareByKnife_27 rfl ?_
    refine lv_aload_n hx hb dX1_welfareByKnife_28 rfl (lv_at hl 0 rfl) ?_
    refine lv_iload_n hx hb dX1_welfareByKnife_29 rfl (lv_at hl 2 rfl) ?_
    obtain ⟨_, ho23, hr⟩ := gB_i hr
    obtain ⟨v25, hc24, hr⟩ := gB_i hr
    refine gRun_i (g_runV X hI (w_X2_welfare hc24) ho23 rfl hl (lw_V q878 q834 q835 q97 q836) rfl rfl hd_X2_welfare ⟨Nat.le_of_ble_eq_true rfl, Nat.le_of_ble_eq_true rfl⟩ (as := [.int z1]) (rest := []) rfl rfl (Nat.le_of_ble_eq_true rfl) ⟨(show (((((0 + 1) + 4) + 1) + 4) + 0) + 0 ≤ 10 from by omega), (show (((((0 + 1) + 24) + 3) + 39) + 0) + 0 ≤ 67 from by omega)⟩ dX1_welfareByKnife_30) (fun H locs hI => ?_)
    have hr := gS_i hr
    subst hr
    exact g_xiret X hI rfl (show ((((((0 + 1) + 4) + 1) + 4) + 0) + 0) ≤ 10 from by omega) (show ((((((0 + 1) + 24) + 3) + 39) + 0) + 0) ≤ 67 from by omega) dX1_welfareByKnife_33
  · refine gXThr (k := q7.1) (q := q7.2) (g_xrunV X hI (w_X1_checkSiblings hst hc6) ho5 rfl hl (lw_V q1174 q1176 qs20 q96 q1177) rfl rfl hd_X1_checkSiblings ⟨Nat.le_of_ble_eq_true rfl, Nat.le_of_ble_eq_true rfl⟩ (as := [.ref q1]) (rest := []) rfl rfl (Nat.le_of_ble_eq_true rfl) ⟨(show (0 + 1) + 4 ≤ 10 from by omega), (show (0 + 1) + 24 ≤ 67 from by omega)⟩ dX1_welfareByKnife_8) (fun H locs hI hxc => ?_)
    have hr := gS_i hr
    subst hr
    exact g_xout X hI hxc hxt gPs_0 (show ((0 + 1) + 4) ≤ 10 from by omega) (show ((0 + 1) + 24) ≤ 67 from by omega)
abbrev rm_X1_welfareByRobin : Room := { frames := 10, cells := 10, slots := 68, locals := 203 }
theorem hd_X1_welfareByRobin : yX1_welfareByRobin.cls = RX1 ∧ yX1_welfareByRobin.cls ≠ "java/lang/invoke/MethodHandle" ∧ yX1_welfareByRobin.cls ≠ "java/lang/invoke/VarHandle" ∧ (parseMethodDescriptor yX1_welfareByRobin.desc).map (fun d => d.parameters.length) = some 2 := by decide +kernel
set_option maxHeartbeats 2000000 in
theorem w_X1_welfareByRobin {l : Launch} {x : gV} {base : Nat} (hst : l.stackTraces = false) {z0 : Nat} {z1 : Int32} {z2 : Int32} {h : gH} {n : Nat} {res : (Int32 ⊕ gX) × gH × Nat} (hr : f_X1_welfareByRobin z0 z1 z2 h n = some res) : gMX l yX1_welfareByRobin (ws_ yX1_welfareByRobin cX1_welfareByRobin 3 (some .int)) rm_X1_welfareByRobin x base (fun v => some (.int v)) [.ref z0, .int z1, .int z2] h n res 10 68 := by
  refine g_metX (cc := cX1_welfareByRobin) (nL := 3) (ret := (some .int)) (by decide) (Nat.le_of_ble_eq_true rfl) (fun p e s m below meth c ls X hnm hxt hl hI => ?_)
  have hl : lv_has ls 3 [(0, .ref z0), (1, .int z1), (2, .int z2)] := hl
  have hx := X.1
  have hb := X.2.1
  have hcc : 0 + 10 ≤ 10 ∧ 0 + 68 ≤ 68 := ⟨Nat.le_refl _, Nat.le_refl _⟩
  unfold f_X1_welfareByRobin at hr
  refine lv_aload_n hx hb dX1_welfareByRobin_0 rfl (lv_at hl 0 rfl) ?_
  refine lv_iconst (v := 2) hx hb dX1_welfareByRobin_1 (by decide) ?_
  refine g_newI (t := 0) (b := 2) (atype := .int) X hI q512 rfl rfl (by decide) (show 0 + 1 ≤ 10 from by omega) (show 0 + 2 ≤ 68 from by omega) hr dX1_welfareByRobin_2 (fun q1 h2 n3 H locs hI hr => ?_)
  refine lv_dup hx hb dX1_welfareByRobin_4 rfl ?_
  refine lv_iconst (v := 0) hx hb dX1_welfareByRobin_5 (by decide) ?_
  refine lv_iload_n hx hb dX1_welfareByRobin_6 rfl (lv_at hl 1 rfl) ?_
  refine g_iast X hI hr dX1_welfareByRobin_7 (fun h4 H locs hI hr => ?_)
  refine lv_dup hx hb dX1_welfareByRobin_8 rfl ?_
  refine lv_iconst (v := 1) hx hb dX1_welfareByRobin_9 (by decide) ?_
  refine lv_iload_n hx hb dX1_welfareByRobin_10 rfl (lv_at hl 2 rfl) ?_
  refine g_iast X hI hr dX1_welfareByRobin_11 (fun h5 H locs hI hr => ?_)
  obtain ⟨_, ho6, hr⟩ := gB_i hr
  rcases gTX_i hr with ⟨u9, h9, n10, hc7, hr⟩ | ⟨q8, h11, n12, hc7, hr⟩
  · refine gXRet_v (g_xrunV X hI (w_X1_checkSiblings hst hc7) ho6 rfl hl (lw_V q1174 q1176 qs20 q96 q1177) rfl rfl hd_X1_checkSiblings ⟨Nat.le_of_ble_eq_true rfl, Nat.le_of_ble_eq_true rfl⟩ (as := [.ref q1]) (rest := []) rfl rfl (Nat.le_of_ble_eq_true rfl) ⟨(show (0 + 1) + 4 ≤ 10 from by omega), (show (0 + 2) + 24 ≤ 68 from by omega)⟩ dX1_welfareByRobin_12) (fun H locs hI => ?_)
    refine lv_aload_n hx hb dX1_welfareByRobin_15 rfl (lv_at hl 0 rfl) ?_
    refine lv_iload_n hx hb dX1_welfareByRobin_16 rfl (lv_at hl 2 rfl) ?_
    obtain ⟨_, ho13, hr⟩ := gB_i hr
    obtain ⟨v15, h16, n17, hc14, hr⟩ := gT3_i hr
    refine gRun_a (g_runV X hI (w_X1_afterRobin hst hc14) ho13 rfl hl (lw_V q968 q970 qs10 q96 q971) rfl rfl hd_X1_afterRobin ⟨Nat.le_of_ble_eq_true rfl, Nat.le_of_ble_eq_true rfl⟩ (as := [.int z2]) (rest := []) rfl rfl (Nat.le_of_ble_eq_true rfl) ⟨(show ((0 + 1) + 4) + 5 ≤ 10 from by omega), (show ((0 + 2) + 24) + 42 ≤ 68 from by omega)⟩ dX1_welfareByRobin_17) (fun H locs hI => ?_)
    refine lv_iload_n hx hb dX1_welfareByRobin_20 rfl (lv_at hl 1 rfl) ?_
    obtain ⟨_, ho18, hr⟩ := gB_i hr
    obtain ⟨v20, hc19, hr⟩ := gB_i hr
    refine gRun_i (g_runV X hI (w_X2_welfare hc19) ho18 rfl hl (lw_V q878 q834 q835 q97 q836) rfl rfl hd_X2_welfare ⟨Nat.le_of_ble_eq_true rfl, Nat.le_of_ble_eq_true rfl⟩ (as := [.int z1]) (rest := []) rfl rfl (Nat.le_of_ble_eq_true rfl) ⟨(show (((0 + 1) + 4) + 5) + 0 ≤ 10 from by omega), (show (((0 + 2) + 24) + 42) + 0 ≤ 68 from by omega)⟩ dX1_welfareByRobin_21) (fun H locs hI => ?_)
    have hr := gS_i hr
    subst hr
    exact g_xiret X hI rfl (show ((((0 + 1) + 4) + 5) + 0) ≤ 10 from by omega) (show ((((0 + 2) + 24) + 42) + 0) ≤ 68 from by omega) dX1_welfareByRobin_24
  · refine gXThr (k := q8.1) (q := q8.2) (g_xrunV X hI (w_X1_checkSiblings hst hc7) ho6 rfl hl (lw_V q1174 q1176 qs20 q96 q1177) rfl rfl hd_X1_checkSiblings ⟨Nat.le_of_ble_eq_true rfl, Nat.le_of_ble_eq_true rfl⟩ (as := [.ref q1]) (rest := []) rfl rfl (Nat.le_of_ble_eq_true rfl) ⟨(show (0 + 1) + 4 ≤ 10 from by omega), (show (0 + 2) + 24 ≤ 68 from by omega)⟩ dX1_welfareByRobin_12) (fun H locs hI hxc => ?_)
    have hr := gS_i hr
    subst hr
    exact g_xout X hI hxc hxt gPs_0 (show ((0 + 1) + 4) ≤ 10 from by omega) (show ((0 + 2) + 24) ≤ 68 from by omega)
abbrev rm_X1_doGive : Room := { frames := 10, cells := 6, slots := 31, locals := 203 }
theorem hd_X1_doGive : yX1_doGive.cls = RX1 ∧ yX1_doGive.cls ≠ "java/lang/invoke/MethodHandle" ∧ yX1_doGive.cls ≠ "java/lang/invoke/VarHandle" ∧ (parseMethodDescriptor yX1_doGive.desc).map (fun d => d.parameters.length) = some 3 := by decide +kernel
set_option maxHeartbeats 2000000 in
theorem w_X1_doGive {l : Launch} {x : gV} {base : Nat} (hst : l.stackTraces = false) {z0 : Nat} {z1 : Int32} {z2 : Int32} {z3 : Int32} {h : gH} {n : Nat} {res : (Int32 ⊕ gX) × gH × Nat} (hr : f_X1_doGive z0 z1 z2 z3 h n = some res) : gMX l yX1_doGive (ws_ yX1_doGive cX1_doGive 4 (some .int)) rm_X1_doGive x base (fun v => some (.int v)) [.ref z0, .int z1, .int z2, .int z3] h n res 6 31 := by
  refine g_metX (cc := cX1_doGive) (nL := 4) (ret := (some .int)) (by decide) (Nat.le_of_ble_eq_true rfl) (fun p e s m below meth c ls X hnm hxt hl hI => ?_)
  have hl : lv_has ls 4 [(0, .ref z0), (1, .int z1), (2, .int z2), (3, .int z3)] := hl
  have hx := X.1
  have hb := X.2.1
  have hcc : 0 + 6 ≤ 6 ∧ 0 + 31 ≤ 31 := ⟨Nat.le_refl _, Nat.le_refl _⟩
  unfold f_X1_doGive at hr
  refine lv_aload_n hx hb dX1_doGive_0 rfl (lv_at hl 0 rfl) ?_
  refine lv_iconst (v := 1) hx hb dX1_doGive_1 (by decide) ?_
  refine g_newI (t := 0) (b := 1) (atype := .int) X hI q512 rfl rfl (by decide) (show 0 + 1 ≤ 6 from by omega) (show 0 + 1 ≤ 31 from by omega) hr dX1_doGive_2 (fun q1 h2 n3 H locs hI hr => ?_)
  refine lv_dup hx hb dX1_doGive_4 rfl ?_
  refine lv_iconst (v := 0) hx hb dX1_doGive_5 (by decide) ?_
  refine lv_iload_n hx hb dX1_doGive_6 rfl (lv_at hl 1 rfl) ?_
  refine g_iast X hI hr dX1_doGive_7 (fun h4 H locs hI hr => ?_)
  obtain ⟨_, ho5, hr⟩ := gB_i hr
  rcases gTX_i hr with ⟨u9, h8, n9, hc6, hr⟩ | ⟨q7, h10, n11, hc6, hr⟩
  · refine gXRet_v (g_xrunV X hI (w_X1_checkSiblings hst hc6) ho5 rfl hl (lw_V q1174 q1176 qs20 q96 q1177) rfl rfl hd_X1_checkSiblings ⟨Nat.le_of_ble_eq_true rfl, Nat.le_of_ble_eq_true rfl⟩ (as := [.ref q1]) (rest := []) rfl rfl (Nat.le_of_ble_eq_true rfl) ⟨(show (0 + 1) + 4 ≤ 6 from by omega), (show (0 + 1) + 24 ≤ 31 from by omega)⟩ dX1_doGive_8) (fun H locs hI => ?_)
    refine lv_aload_n hx hb dX1_doGive_11 rfl (lv_at hl 0 rfl) ?_
    refine lv_iload_n hx hb dX1_doGive_12 rfl (lv_at hl 2 rfl) ?_
    refine lv_iload_n hx hb dX1_doGive_13 rfl (lv_at hl 3 rfl) ?_
    obtain ⟨_, ho12, hr⟩ := gB_i hr
    rcases gTX_i hr with ⟨u9, h15, n16, hc13, hr⟩ | ⟨q14, h17, n18, hc13, hr⟩
    · refine gXRet_v (g_xrunV X hI (w_X1_checkCells hst hc13) ho12 rfl hl (lw_V q1229 q1231 qs21 q96 q1232) rfl rfl hd_X1_checkCells ⟨Nat.le_of_ble_eq_true rfl, Nat.le_of_ble_eq_true rfl⟩ (as := [.int z2, .int z3]) (rest := []) rfl rfl (Nat.le_of_ble_eq_true rfl) ⟨(show ((0 + 1) + 4) + 1 ≤ 6 from by omega), (show ((0 + 1) + 24) + 6 ≤ 31 from by omega)⟩ dX1_doGive_14) (fun H locs hI => ?_)
      refine lv_aload_n hx hb dX1_doGive_17 rfl (lv_at hl 0 rfl) ?_
      refine g_getA (C := RX1) (T := TX1) (N := 10) X hI in_X1 rfl 4 (by decide) q760 (fun _ h9 => h9) hr dX1_doGive_18 (fun v19 hr => ?_)
      refine lv_iload_n hx hb dX1_doGive_21 rfl (lv_at hl 1 rfl) ?_
      refine lv_iload_n hx hb dX1_doGive_22 rfl (lv_at hl 2 rfl) ?_
      refine lv_iload_n hx hb dX1_doGive_23 rfl (lv_at hl 3 rfl) ?_
      obtain ⟨_, ho20, hr⟩ := gB_i hr
      obtain ⟨h22, hc21, hr⟩ := gB_i hr
      refine gRun_v (g_runV X hI (w_X2_give hc21) ho20 rfl hl (lw_V q1417 q496 q497 q97 q498) rfl rfl hd_X2_give ⟨Nat.le_of_ble_eq_true rfl, Nat.le_of_ble_eq_true rfl⟩ (as := [.int z1, .int z2, .int z3]) (rest := []) rfl rfl (Nat.le_of_ble_eq_true rfl) ⟨(show (((0 + 1) + 4) + 1) + 0 ≤ 6 from by omega), (show (((0 + 1) + 24) + 6) + 0 ≤ 31 from by omega)⟩ dX1_doGive_24) (fun H locs hI => ?_)
      refine lv_aload_n hx hb dX1_doGive_27 rfl (lv_at hl 0 rfl) ?_
      refine g_getA (C := RX1) (T := TX1) (N := 10) X hI in_X1 rfl 4 (by decide) q760 (fun _ h9 => h9) hr dX1_doGive_28 (fun v23 hr => ?_)
      refine lv_iload_n hx hb dX1_doGive_31 rfl (lv_at hl 1 rfl) ?_
      obtain ⟨_, ho24, hr⟩ := gB_i hr
      obtain ⟨v26, hc25, hr⟩ := gB_i hr
      refine gRun_i (g_runV X hI (w_X2_welfare hc25) ho24 rfl hl (lw_V q878 q834 q835 q97 q836) rfl rfl hd_X2_welfare ⟨Nat.le_of_ble_eq_true rfl, Nat.le_of_ble_eq_true rfl⟩ (as := [.int z1]) (rest := []) rfl rfl (Nat.le_of_ble_eq_true rfl) ⟨(show ((((0 + 1) + 4) + 1) + 0) + 0 ≤ 6 from by omega), (show ((((0 + 1) + 24) + 6) + 0) + 0 ≤ 31 from by omega)⟩ dX1_doGive_32) (fun H locs hI => ?_)
      have hr := gS_i hr
      subst hr
      exact g_xiret X hI rfl (show (((((0 + 1) + 4) + 1) + 0) + 0) ≤ 6 from by omega) (show (((((0 + 1) + 24) + 6) + 0) + 0) ≤ 31 from by omega) dX1_doGive_35
    · refine gXThr (k := q14.1) (q := q14.2) (g_xrunV X hI (w_X1_checkCells hst hc13) ho12 rfl hl (lw_V q1229 q1231 qs21 q96 q1232) rfl rfl hd_X1_checkCells ⟨Nat.le_of_ble_eq_true rfl, Nat.le_of_ble_eq_true rfl⟩ (as := [.int z2, .int z3]) (rest := []) rfl rfl (Nat.le_of_ble_eq_true rfl) ⟨(show ((0 + 1) + 4) + 1 ≤ 6 from by omega), (show ((0 + 1) + 24) + 6 ≤ 31 from by omega)⟩ dX1_doGive_14) (fun H locs hI hxc => ?_)
      have hr := gS_i hr
      subst hr
      exact g_xout X hI hxc hxt gPs_0 (show (((0 + 1) + 4) + 1) ≤ 6 from by omega) (show (((0 + 1) + 24) + 6) ≤ 31 from by omega)
  · refine gXThr (k := q7.1) (q := q7.2) (g_xrunV X hI (w_X1_checkSiblings hst hc6) ho5 rfl hl (lw_V q1174 q1176 qs20 q96 q1177) rfl rfl hd_X1_checkSiblings ⟨Nat.le_of_ble_eq_true rfl, Nat.le_of_ble_eq_true rfl⟩ (as := [.ref q1]) (rest := []) rfl rfl (Nat.le_of_ble_eq_true rfl) ⟨(show (0 + 1) + 4 ≤ 6 from by omega), (show (0 + 1) + 24 ≤ 31 from by omega)⟩ dX1_doGive_8) (fun H locs hI hxc => ?_)
    have hr := gS_i hr
    subst hr
    exact g_xout X hI hxc hxt gPs_0 (show ((0 + 1) + 4) ≤ 6 from by omega) (show ((0 + 1) + 24) ≤ 31 from by omega)
abbrev rm_X1_give : Room := { frames := 11, cells := 11, slots := 73, locals := 226 }
theorem hd_X1_give : yX1_give.cls = RX1 ∧ yX1_give.cls ≠ "java/lang/invoke/MethodHandle" ∧ yX1_give.cls ≠ "java/lang/invoke/VarHandle" ∧ (parseMethodDescriptor yX1_give.desc).map (fun d => d.parameters.length) = some 3 := by decide +kernel
set_option maxHeartbeats 2000000 in
theorem w_X1_give {l : Launch} {x : gV} {base : Nat} (hst : l.stackTraces = false) {z0 : Nat} {z1 : Int32} {z2 : Int32} {z3 : Int32} {h : gH} {n : Nat} {res : (Int32 ⊕ gX) × gH × Nat} (hr : f_X1_give z0 z1 z2 z3 h n = some res) : gMX l yX1_give (ws_ yX1_give cX1_give 5 (some .int)) rm_X1_give x base (fun v => some (.int v)) [.ref z0, .int z1, .int z2, .int z3] h n res 11 73 := by
  refine g_metX (cc := cX1_give) (nL := 5) (ret := (some .int)) (by decide) (Nat.le_of_ble_eq_true rfl) (fun p e s m below meth c ls X hnm hxt hl hI => ?_)
  have hl : lv_has ls 5 [(0, .ref z0), (1, .int z1), (2, .int z2), (3, .int z3)] := hl
  have hx := X.1
  have hb := X.2.1
  have hcc : 0 + 11 ≤ 11 ∧ 0 + 73 ≤ 73 := ⟨Nat.le_refl _, Nat.le_refl _⟩
  unfold f_X1_give at hr
  refine g_newO (C := RX2) (T := TX2) (N := 3) (ci := 0) (fs := [.null, .null, .null]) X hI in_X2 tyX2 tyX2_ok q142 q143 q97 rfl (g_dflt3 rfl rfl rfl) (show 0 + 1 ≤ 11 from by omega) (show 0 + 3 ≤ 73 from by omega) hr dX1_give_0 (fun q1 h2 n3 H locs hI hr => ?_)
  refine lv_dup hx hb dX1_give_3 rfl ?_
  refine lv_aload_n hx hb dX1_give_4 rfl (lv_at hl 0 rfl) ?_
  refine g_getA (C := RX1) (T := TX1) (N := 10) X hI in_X1 rfl 4 (by decide) q760 (fun _ h9 => h9) hr dX1_give_5 (fun v4 hr => ?_)
  obtain ⟨h6, n7, hc5, hr⟩ := gT2_i hr
  refine gRun_v (g_runI X hI (w_X2_init_2 hst hc5) hl q979 q995 q978 q97 rfl rfl rfl hd_X2_init_2 ⟨Nat.le_of_ble_eq_true rfl, Nat.le_of_ble_eq_true rfl⟩ (as := [.ref v4]) (rest := [.ref q1]) rfl rfl (Nat.le_of_ble_eq_true rfl) ⟨(show (0 + 1) + 4 ≤ 11 from by omega), (show (0 + 3) + 39 ≤ 73 from by omega)⟩ dX1_give_8) (fun H locs hI => ?_)
  refine lv_astore (lv' := [(4, .ref q1), (0, .ref z0), (1, .int z1), (2, .int z2), (3, .int z3)]) hx hb dX1_give_11 hl (by decide) rfl (fun ls hl => ?_)
  refine lv_aload_n hx hb dX1_give_13 rfl (lv_at hl 1 rfl) ?_
  refine lv_aload hx hb dX1_give_14 (lv_at hl 0 rfl) ?_
  refine lv_aload_n hx hb dX1_give_16 rfl (lv_at hl 1 rfl) ?_
  refine lv_iload_n hx hb dX1_give_17 rfl (lv_at hl 2 rfl) ?_
  refine lv_iload_n hx hb dX1_give_18 rfl (lv_at hl 3 rfl) ?_
  refine lv_iload_n hx hb dX1_give_19 rfl (lv_at hl 4 rfl) ?_
  obtain ⟨_, ho8, hr⟩ := gB_i hr
  rcases gTX_i hr with ⟨v10, h12, n13, hc9, hr⟩ | ⟨q11, h14, n15, hc9, hr⟩
  · refine gXRet_i (g_xrunV X hI (w_X1_doGive hst hc9) ho8 rfl hl (lw_V q1413 q1415 qs23 q96 q1416) rfl rfl hd_X1_doGive ⟨Nat.le_of_ble_eq_true rfl, Nat.le_of_ble_eq_true rfl⟩ (as := [.int z1, .int z2, .int z3]) (rest := [.ref q1, .ref z0]) rfl rfl (Nat.le_of_ble_eq_true rfl) ⟨(show ((0 + 1) + 4) + 6 ≤ 11 from by omega), (show ((0 + 3) + 39) + 31 ≤ 73 from by omega)⟩ dX1_give_20) (fun H locs hI => ?_)
    obtain ⟨_, ho16, hr⟩ := gB_i hr
    obtain ⟨v18, h19, hc17, hr⟩ := gT2_i hr
    refine gRun_i (g_runV X hI (w_X1_record hc17) ho16 rfl hl (lw_V q1009 q1011 qs12 q96 q1012) rfl rfl hd_X1_record ⟨Nat.le_of_ble_eq_true rfl, Nat.le_of_ble_eq_true rfl⟩ (as := [.ref q1, .int v10]) (rest := []) rfl rfl (Nat.le_of_ble_eq_true rfl) ⟨(show (((0 + 1) + 4) + 6) + 0 ≤ 11 from by omega), (show (((0 + 3) + 39) + 31) + 0 ≤ 73 from by omega)⟩ dX1_give_23) (fun H locs hI => ?_)
    have hr := gS_i hr
    subst hr
    exact g_xiret X hI rfl (show ((((0 + 1) + 4) + 6) + 0) ≤ 11 from by omega) (show ((((0 + 3) + 39) + 31) + 0) ≤ 73 from by omega) dX1_give_26
  · refine gXThr (k := q11.1) (q := q11.2) (g_xrunV X hI (w_X1_doGive hst hc9) ho8 rfl hl (lw_V q1413 q1415 qs23 q96 q1416) rfl rfl hd_X1_doGive ⟨Nat.le_of_ble_eq_true rfl, Nat.le_of_ble_eq_true rfl⟩ (as := [.int z1, .int z2, .int z3]) (rest := [.ref q1, .ref z0]) rfl rfl (Nat.le_of_ble_eq_true rfl) ⟨(show ((0 + 1) + 4) + 6 ≤ 11 from by omega), (show ((0 + 3) + 39) + 31 ≤ 73 from by omega)⟩ dX1_give_20) (fun H locs hI hxc => ?_)
    have hr := gS_i hr
    subst hr
    exact g_xout X hI hxc hxt gPs_0 (show (((0 + 1) + 4) + 6) ≤ 11 from by omega) (show (((0 + 3) + 39) + 31) ≤ 73 from by omega)
abbrev rm_X1_doRelease : Room := { frames := 10, cells := 1, slots := 6, locals := 202 }
theorem hd_X1_doRelease : yX1_doRelease.cls = RX1 ∧ yX1_doRelease.cls ≠ "java/lang/invoke/MethodHandle" ∧ yX1_doRelease.cls ≠ "java/lang/invoke/VarHandle" ∧ (parseMethodDescriptor yX1_doRelease.desc).map (fun d => d.parameters.length) = some 2 := by decide +kernel
set_option maxHeartbeats 2000000 in
theorem w_X1_doRelease {l : Launch} {x : gV} {base : Nat} (hst : l.stackTraces = false) {z0 : Nat} {z1 : Int32} {z2 : Int32} {h : gH} {n : Nat} {res : (Int32 ⊕ gX) × gH × Nat} (hr : f_X1_doRelease z0 z1 z2 h n = some res) : gMX l yX1_doRelease (ws_ yX1_doRelease cX1_doRelease 3 (some .int)) rm_X1_doRelease x base (fun v => some (.int v)) [.ref z0, .int z1, .int z2] h n res 1 6 := by
  refine g_metX (cc := cX1_doRelease) (nL := 3) (ret := (some .int)) (by decide) (Nat.le_of_ble_eq_true rfl) (fun p e s m below meth c ls X hnm hxt hl hI => ?_)
  have hl : lv_has ls 3 [(0, .ref z0), (1, .int z1), (2, .int z2)] := hl
  have hx := X.1
  have hb := X.2.1
  have hcc : 0 + 1 ≤ 1 ∧ 0 + 6 ≤ 6 := ⟨Nat.le_refl _, Nat.le_refl _⟩
  unfold f_X1_doRelease at hr
  refine lv_aload_n hx hb dX1_doRelease_0 rfl (lv_at hl 0 rfl) ?_
  refine lv_iload_n hx hb dX1_doRelease_1 rfl (lv_at hl 1 rfl) ?_
  refine lv_iload_n hx hb dX1_doRelease_2 rfl (lv_at hl 2 rfl) ?_
  obtain ⟨_, ho1, hr⟩ := gB_i hr
  rcases gTX_i hr with ⟨u9, h4, n5, hc2, hr⟩ | ⟨q3, h6, n7, hc2, hr⟩
  · refine gXRet_v (g_xrunV X hI (w_X1_checkCells hst hc2) ho1 rfl hl (lw_V q1229 q1231 qs21 q96 q1232) rfl rfl hd_X1_checkCells ⟨Nat.le_of_ble_eq_true rfl, Nat.le_of_ble_eq_true rfl⟩ (as := [.int z1, .int z2]) (rest := []) rfl rfl (Nat.le_of_ble_eq_true rfl) ⟨(show 0 + 1 ≤ 1 from by omega), (show 0 + 6 ≤ 6 from by omega)⟩ dX1_doRelease_3) (fun H locs hI => ?_)
    refine lv_aload_n hx hb dX1_doRelease_6 rfl (lv_at hl 0 rfl) ?_
    refine g_getA (C := RX1) (T := TX1) (N := 10) X hI in_X1 rfl 4 (by decide) q760 (fun _ h9 => h9) hr dX1_doRelease_7 (fun v8 hr => ?_)
    refine lv_iload_n hx hb dX1_doRelease_10 rfl (lv_at hl 1 rfl) ?_
    refine lv_iload_n hx hb dX1_doRelease_11 rfl (lv_at hl 2 rfl) ?_
    obtain ⟨_, ho9, hr⟩ := gB_i hr
    obtain ⟨h11, hc10, hr⟩ := gB_i hr
    refine gRun_v (g_runV X hI (w_X2_release hc10) ho9 rfl hl (lw_V q1429 q492 q493 q97 q494) rfl rfl hd_X2_release ⟨Nat.le_of_ble_eq_true rfl, Nat.le_of_ble_eq_true rfl⟩ (as := [.int z1, .int z2]) (rest := []) rfl rfl (Nat.le_of_ble_eq_true rfl) ⟨(show (0 + 1) + 0 ≤ 1 from by omega), (show (0 + 6) + 0 ≤ 6 from by omega)⟩ dX1_doRelease_12) (fun H locs hI => ?_)
    refine lv_aload_n hx hb dX1_doRelease_15 rfl (lv_at hl 0 rfl) ?_
    refine g_getA (C := RX1) (T := TX1) (N := 10) X hI in_X1 rfl 4 (by decide) q760 (fun _ h9 => h9) hr dX1_doRelease_16 (fun v12 hr => ?_)
    refine lv_iconst (v := (-1)) hx hb dX1_doRelease_19 (by decide) ?_
    obtain ⟨_, ho13, hr⟩ := gB_i hr
    obtain ⟨v15, hc14, hr⟩ := gB_i hr
    refine gRun_i (g_runV X hI (w_X2_count hc14) ho13 rfl hl (lw_V q808 q809 q810 q97 q811) rfl rfl hd_X2_count ⟨Nat.le_of_ble_eq_true rfl, Nat.le_of_ble_eq_true rfl⟩ (as := [.int (-1 : Int32)]) (rest := []) rfl rfl (Nat.le_of_ble_eq_true rfl) ⟨(show ((0 + 1) + 0) + 0 ≤ 1 from by omega), (show ((0 + 6) + 0) + 0 ≤ 6 from by omega)⟩ dX1_doRelease_20) (fun H locs hI => ?_)
    have hr := gS_i hr
    subst hr
    exact g_xiret X hI rfl (show (((0 + 1) + 0) + 0) ≤ 1 from by omega) (show (((0 + 6) + 0) + 0) ≤ 6 from by omega) dX1_doRelease_23
  · refine gXThr (k := q3.1) (q := q3.2) (g_xrunV X hI (w_X1_checkCells hst hc2) ho1 rfl hl (lw_V q1229 q1231 qs21 q96 q1232) rfl rfl hd_X1_checkCells ⟨Nat.le_of_ble_eq_true rfl, Nat.le_of_ble_eq_true rfl⟩ (as := [.int z1, .int z2]) (rest := []) rfl rfl (Nat.le_of_ble_eq_true rfl) ⟨(show 0 + 1 ≤ 1 from by omega), (show 0 + 6 ≤ 6 from by omega)⟩ dX1_doRelease_3) (fun H locs hI hxc => ?_)
    have hr := gS_i hr
    subst hr
    exact g_xout X hI hxc hxt gPs_0 (show (0 + 1) ≤ 1 from by omega) (show (0 + 6) ≤ 6 from by omega)
abbrev rm_X1_release : Room := { frames := 11, cells := 6, slots := 48, locals := 224 }
theorem hd_X1_release : yX1_release.cls = RX1 ∧ yX1_release.cls ≠ "java/lang/invoke/MethodHandle" ∧ yX1_release.cls ≠ "java/lang/invoke/VarHandle" ∧ (parseMethodDescriptor yX1_release.desc).map (fun d => d.parameters.length) = some 2 := by decide +kernel
set_option maxHeartbeats 2000000 in
theorem w_X1_release {l : Launch} {x : gV} {base : Nat} (hst : l.stackTraces = false) {z0 : Nat} {z1 : Int32} {z2 : Int32} {h : gH} {n : Nat} {res : (Int32 ⊕ gX) × gH × Nat} (hr : f_X1_release z0 z1 z2 h n = some res) : gMX l yX1_release (ws_ yX1_release cX1_release 4 (some .int)) rm_X1_release x base (fun v => some (.int v)) [.ref z0, .int z1, .int z2] h n res 6 48 := by
  refine g_metX (cc := cX1_release) (nL := 4) (ret := (some .int)) (by decide) (Nat.le_of_ble_eq_true rfl) (fun p e s m below meth c ls X hnm hxt hl hI => ?_)
  have hl : lv_has ls 4 [(0, .ref z0), (1, .int z1), (2, .int z2)] := hl
  have hx := X.1
  have hb := X.2.1
  have hcc : 0 + 6 ≤ 6 ∧ 0 + 48 ≤ 48 := ⟨Nat.le_refl _, Nat.le_refl _⟩
  unfold f_X1_release at hr
  refine g_newO (C := RX2) (T := TX2) (N := 3) (ci := 0) (fs := [.null, .null, .null]) X hI in_X2 tyX2 tyX2_ok q142 q143 q97 rfl (g_dflt3 rfl rfl rfl) (show 0 + 1 ≤ 6 from by omega) (show 0 + 3 ≤ 48 from by omega) hr dX1_release_0 (fun q1 h2 n3 H locs hI hr => ?_)
  refine lv_dup hx hb dX1_release_3 rfl ?_
  refine lv_aload_n hx hb dX1_release_4 rfl (lv_at hl 0 rfl) ?_
  refine g_getA (C := RX1) (T := TX1) (N := 10) X hI in_X1 rfl 4 (by decide) q760 (fun _ h9 => h9) hr dX1_release_5 (fun v4 hr => ?_)
  obtain ⟨h6, n7, hc5, hr⟩ := gT2_i hr
  refine gRun_v (g_runI X hI (w_X2_init_2 hst hc5) hl q979 q995 q978 q97 rfl rfl rfl hd_X2_init_2 ⟨Nat.le_of_ble_eq_true rfl, Nat.le_of_ble_eq_true rfl⟩ (as := [.ref v4]) (rest := [.ref q1]) rfl rfl (Nat.le_of_ble_eq_true rfl) ⟨(show (0 + 1) + 4 ≤ 6 from by omega), (show (0 + 3) + 39 ≤ 48 from by omega)⟩ dX1_release_8) (fun H locs hI => ?_)
  refine lv_astore_n (lv' := [(3, .ref q1), (0, .ref z0), (1, .int z1), (2, .int z2)]) hx hb dX1_release_11 rfl hl (by decide) rfl (fun ls hl => ?_)
  refine lv_aload_n hx hb dX1_release_12 rfl (lv_at hl 1 rfl) ?_
  refine lv_aload_n hx hb dX1_release_13 rfl (lv_at hl 0 rfl) ?_
  refine lv_aload_n hx hb dX1_release_14 rfl (lv_at hl 1 rfl) ?_
  refine lv_iload_n hx hb dX1_release_15 rfl (lv_at hl 2 rfl) ?_
  refine lv_iload_n hx hb dX1_release_16 rfl (lv_at hl 3 rfl) ?_
  obtain ⟨_, ho8, hr⟩ := gB_i hr
  rcases gTX_i hr with ⟨v10, h12, n13, hc9, hr⟩ | ⟨q11, h14, n15, hc9, hr⟩
  · refine gXRet_i (g_xrunV X hI (w_X1_doRelease hst hc9) ho8 rfl hl (lw_V q1425 q1427 qs24 q96 q1428) rfl rfl hd_X1_doRelease ⟨Nat.le_of_ble_eq_true rfl, Nat.le_of_ble_eq_true rfl⟩ (as := [.int z1, .int z2]) (rest := [.ref q1, .ref z0]) rfl rfl (Nat.le_of_ble_eq_true rfl) ⟨(show ((0 + 1) + 4) + 1 ≤ 6 from by omega), (show ((0 + 3) + 39) + 6 ≤ 48 from by omega)⟩ dX1_release_17) (fun H locs hI => ?_)
    obtain ⟨_, ho16, hr⟩ := gB_i hr
    obtain ⟨v18, h19, hc17, hr⟩ := gT2_i hr
    refine gRun_i (g_runV X hI (w_X1_record hc17) ho16 rfl hl (lw_V q1009 q1011 qs12 q96 q1012) rfl rfl hd_X1_record ⟨Nat.le_of_ble_eq_true rfl, Nat.le_of_ble_eq_true rfl⟩ (as := [.ref q1, .int v10]) (rest := []) rfl rfl (Nat.le_of_ble_eq_true rfl) ⟨(show (((0 + 1) + 4) + 1) + 0 ≤ 6 from by omega), (show (((0 + 3) + 39) + 6) + 0 ≤ 48 from by omega)⟩ dX1_release_20) (fun H locs hI => ?_)
    have hr := gS_i hr
    subst hr
    exact g_xiret X hI rfl (show ((((0 + 1) + 4) + 1) + 0) ≤ 6 from by omega) (show ((((0 + 3) + 39) + 6) + 0) ≤ 48 from by omega) dX1_release_23
  · refine gXThr (k := q11.1) (q := q11.2) (g_xrunV X hI (w_X1_doRelease hst hc9) ho8 rfl hl (lw_V q1425 q1427 qs24 q96 q1428) rfl rfl hd_X1_doRelease ⟨Nat.le_of_ble_eq_true rfl, Nat.le_of_ble_eq_true rfl⟩ (as := [.int z1, .int z2]) (rest := [.ref q1, .ref z0]) rfl rfl (Nat.le_of_ble_eq_true rfl) ⟨(show ((0 + 1) + 4) + 1 ≤ 6 from by omega), (show ((0 + 3) + 39) + 6 ≤ 48 from by omega)⟩ dX1_release_17) (fun H locs hI hxc => ?_)
    have hr := gS_i hr
    subst hr
    exact g_xout X hI hxc hxt gPs_0 (show (((0 + 1) + 4) + 1) ≤ 6 from by omega) (show (((0 + 3) + 39) + 6) ≤ 48 from by omega)
abbrev rm_X1_doSwapShares : Room := { frames := 10, cells := 6, slots := 32, locals := 203 }
theorem hd_X1_doSwapShares : yX1_doSwapShares.cls = RX1 ∧ yX1_doSwapShares.cls ≠ "java/lang/invoke/MethodHandle" ∧ yX1_doSwapShares.cls ≠ "java/lang/invoke/VarHandle" ∧ (parseMethodDescriptor yX1_doSwapShares.desc).map (fun d => d.parameters.length) = some 2 := by decide +kernel
set_option maxHeartbeats 2000000 in
theorem w_X1_doSwapShares_L30 {n : Nat} {z0 : Nat} {z1 : Int32} {z2 : Int32} {res : (Int32 ⊕ gX) × gH × Nat} (X : gXX x base RX1 cX1_doSwapShares 5 (some .int) p l s m args meth c) (hst : l.stackTraces = false) (hxt : c.exceptionTable.toList = tableOf []) : ∀ (k : Nat) {z3 : Int32} {h : gH} {H : Heap} {locs : List Loc} {ls : Array Slot} {cells slots : Nat}, gL2 (f_X1_doSwapShares_L30 z0 z1 z2 n) k z3 h = some res → gI x base s.heap h n H locs → lv_has ls 5 [(0, .ref z0), (1, .int z1), (2, .int z2), (3, .int z3)] → (cells + (k * 0 + (0)) ≤ 6 ∧ slots + (k * 0 + (0)) ≤ 32) → W p l e rm_X1_doSwapShares s m args below meth c H locs cells slots (vx_MQ below (gXQ x base (fun v => some (.int v)) res) (gXC x base res) args s 6 32 (fun q => base ≤ q)) (F0 m 30 ls []) := by
  have hx := X.1
  have hb := X.2.1
  intro k
  induction k with
  | zero =>
    intros
    rename_i hr _ _ _
    exact nomatch (show (none : Option _) = some _ from hr)
  | succ k ih =>
    intro z3 h H locs ls cells slots hr hI hl hcc
    replace hr : f_X1_doSwapShares_L30 z0 z1 z2 n (gL2 (f_X1_doSwapShares_L30 z0 z1 z2 n) k) z3 h = some res := hr
    unfold f_X1_doSwapShares_L30 at hr
    refine lv_iload_n hx hb dX1_doSwapShares_30 rfl (lv_at hl 3 rfl) ?_
    refine lv_aload_n hx hb dX1_doSwapShares_31 rfl (lv_at hl 0 rfl) ?_
    refine g_getA (C := RX1) (T := TX1) (N := 10) X hI in_X1 rfl 4 (by decide) q760 (fun _ h9 => h9) hr dX1_doSwapShares_32 (fun v19 hr => ?_)
    obtain ⟨_, ho20, hr⟩ := gB_i hr
    obtain ⟨v22, hc21, hr⟩ := gB_i hr
    refine gRun_i (g_runV X hI (w_X2_cells hc21) ho20 rfl hl (lw_V q686 q687 q688 q97 q689) rfl rfl hd_X2_cells ⟨Nat.le_of_ble_eq_true rfl, Nat.le_of_ble_eq_true rfl⟩ (as := []) (rest := [.int z3]) rfl rfl (Nat.le_of_ble_eq_true rfl) ⟨(show cells + 0 ≤ 6 from by omega), (show slots + 0 ≤ 32 from by omega)⟩ dX1_doSwapShares_35) (fun H locs hI => ?_)
    refine lv_icmp_ge (tgt := 89) hx hb dX1_doSwapShares_38 (by decide) (fun c9 => ?_) (fun c9 => ?_)
    · replace hr := gIf_t c9 hr
      refine lv_aload_n hx hb dX1_doSwapShares_89 rfl (lv_at hl 0 rfl) ?_
      refine g_getA (C := RX1) (T := TX1) (N := 10) X hI in_X1 rfl 4 (by decide) q760 (fun _ h9 => h9) hr dX1_doSwapShares_90 (fun v23 hr => ?_)
      obtain ⟨_, ho24, hr⟩ := gB_i hr
      obtain ⟨v26, hc25, hr⟩ := gB_i hr
      refine gRun_i (g_runV X hI (w_X2_envies hc25) ho24 rfl hl (lw_V q817 q818 q819 q97 q820) rfl rfl hd_X2_envies ⟨Nat.le_of_ble_eq_true rfl, Nat.le_of_ble_eq_true rfl⟩ (as := []) (rest := []) rfl rfl (Nat.le_of_ble_eq_true rfl) ⟨(show (cells + 0) + 0 ≤ 6 from by omega), (show (slots + 0) + 0 ≤ 32 from by omega)⟩ dX1_doSwapShares_93) (fun H locs hI => ?_)
      have hr := gS_i hr
      subst hr
      exact g_xiret X hI rfl (show ((cells + 0) + 0) ≤ 6 from by omega) (show ((slots + 0) + 0) ≤ 32 from by omega) dX1_doSwapShares_96
    · replace hr := gIf_f c9 hr
      refine lv_aload_n hx hb dX1_doSwapShares_41 rfl (lv_at hl 0 rfl) ?_
      refine g_getA (C := RX1) (T := TX1) (N := 10) X hI in_X1 rfl 4 (by decide) q760 (fun _ h9 => h9) hr dX1_doSwapShares_42 (fun v27 hr => ?_)
      refine g_getA (C := RX2) (T := TX2) (N := 3) X hI in_X2 rfl 1 (by decide) q502 (fun _ h9 => h9) hr dX1_doSwapShares_45 (fun v28 hr => ?_)
      refine lv_iload_n hx hb dX1_doSwapShares_48 rfl (lv_at hl 3 rfl) ?_
      refine g_iald X hI hr dX1_doSwapShares_49 (fun v29 hr => ?_)
      refine lv_istore (lv' := [(4, .int v29), (0, .ref z0), (1, .int z1), (2, .int z2), (3, .int z3)]) hx hb dX1_doSwapShares_50 hl (by decide) rfl (fun ls hl => ?_)
      refine lv_aload_n hx hb dX1_doSwapShares_52 rfl (lv_at hl 1 rfl) ?_
      refine g_getA (C := RX1) (T := TX1) (N := 10) X hI in_X1 rfl 4 (by decide) q760 (fun _ h9 => h9) hr dX1_doSwapShares_53 (fun v30 hr => ?_)
      refine g_getA (C := RX2) (T := TX2) (N := 3) X hI in_X2 rfl 1 (by decide) q502 (fun _ h9 => h9) hr dX1_doSwapShares_56 (fun v31 hr => ?_)
      refine lv_iload_n hx hb dX1_doSwapShares_59 rfl (lv_at hl 4 rfl) ?_
      refine lv_iload hx hb dX1_doSwapShares_60 (lv_at hl 0 rfl) ?_
      refine lv_iload_n hx hb dX1_doSwapShares_62 rfl (lv_at hl 2 rfl) ?_
      refine lv_icmp_ne (tgt := 70) hx hb dX1_doSwapShares_63 (by decide) (fun c9 => ?_) (fun c9 => ?_)
      · replace hr := gIf_f c9 hr
        refine lv_iload hx hb dX1_doSwapShares_70 (lv_at hl 0 rfl) ?_
        refine lv_iload_n hx hb dX1_doSwapShares_72 rfl (lv_at hl 3 rfl) ?_
        refine lv_icmp_ne (tgt := 80) hx hb dX1_doSwapShares_73 (by decide) (fun c9 => ?_) (fun c9 => ?_)
        · replace hr := gIf_f c9 hr
          refine lv_iload hx hb dX1_doSwapShares_80 (lv_at hl 0 rfl) ?_
          refine g_iast X hI hr dX1_doSwapShares_82 (fun h32 H locs hI hr => ?_)
          refine lv_iinc (v := (z3 + (1 : Int32))) (lv' := [(3, .int (z3 + (1 : Int32))), (4, .int v29), (0, .ref z0), (1, .int z1), (2, .int z2)]) hx hb dX1_doSwapShares_83 hl (k := 4) rfl (g_inc (by decide)) (by decide) rfl (fun ls hl => ?_)
          refine lv_goto (tgt := 30) hx hb dX1_doSwapShares_86 (by decide) ?_
          exact ih hr hI (lv_sub hl [2, 3, 4, 0] rfl) (by omega)
        · replace hr := gIf_t c9 hr
          refine lv_iload_n hx hb dX1_doSwapShares_76 rfl (lv_at hl 2 rfl) ?_
          refine lv_goto (tgt := 82) hx hb dX1_doSwapShares_77 (by decide) ?_
          refine g_iast X hI hr dX1_doSwapShares_82 (fun h33 H locs hI hr => ?_)
          refine lv_iinc (v := (z3 + (1 : Int32))) (lv' := [(3, .int (z3 + (1 : Int32))), (4, .int v29), (0, .ref z0), (1, .int z1), (2, .int z2)]) hx hb dX1_doSwapShares_83 hl (k := 4) rfl (g_inc (by decide)) (by decide) rfl (fun ls hl => ?_)
          refine lv_goto (tgt := 30) hx hb dX1_doSwapShares_86 (by decide) ?_
          exact ih hr hI (lv_sub hl [2, 3, 4, 0] rfl) (by omega)
      · replace hr := gIf_t c9 hr
        refine lv_iload_n hx hb dX1_doSwapShares_66 rfl (lv_at hl 3 rfl) ?_
        refine lv_goto (tgt := 82) hx hb dX1_doSwapShares_67 (by decide) ?_
        refine g_iast X hI hr dX1_doSwapShares_82 (fun h34 H locs hI hr => ?_)
        refine lv_iinc (v := (z3 + (1 : Int32))) (lv' := [(3, .int (z3 + (1 : Int32))), (4, .int v29), (0, .ref z0), (1, .int z1), (2, .int z2)]) hx hb dX1_doSwapShares_83 hl (k := 4) rfl (g_inc (by decide)) (by decide) rfl (fun ls hl => ?_)
        refine lv_goto (tgt := 30) hx hb dX1_doSwapShares_86 (by decide) ?_
        exact ih hr hI (lv_sub hl [2, 3, 4, 0] rfl) (by omega)
set_option maxHeartbeats 2000000 in
theorem w_X1_doSwapShares_J25 {h : gH} {n : Nat} {z0 : Nat} {z1 : Int32} {z2 : Int32} {s0 : Int32} {res : (Int32 ⊕ gX) × gH × Nat} (X : gXX x base RX1 cX1_doSwapShares 5 (some .int) p l s m args meth c) (hst : l.stackTraces = false) (hxt : c.exceptionTable.toList = tableOf []) {H : Heap} {locs : List Loc} {ls : Array Slot} {cells slots : Nat} (hr : f_X1_doSwapShares_J25 z0 z1 z2 s0 h n = some res) (hI : gI x base s.heap h n H locs) (hl : lv_has ls 5 [(0, .ref z0), (1, .int z1), (2, .int z2)]) (hcc : cells + (1) ≤ 6 ∧ slots + (6) ≤ 32) : W p l e rm_X1_doSwapShares s m args below meth c H locs cells slots (vx_MQ below (gXQ x base (fun v => some (.int v)) res) (gXC x base res) args s 6 32 (fun q => base ≤ q)) (F0 m 25 ls [.int s0]) := by
  have hx := X.1
  have hb := X.2.1
  unfold f_X1_doSwapShares_J25 at hr
  rcases gTX_i hr with ⟨u9, h15, n16, hc13, hr⟩ | ⟨q14, h17, n18, hc13, hr⟩
  · refine gXRet_v (g_xrunS X hI (w_X1_checkState hst hc13) hl (lw_S q1300 q1301 q96 q1302) rfl rfl hd_X1_checkState ⟨Nat.le_of_ble_eq_true rfl, Nat.le_of_ble_eq_true rfl⟩ (as := [.int s0]) (rest := []) rfl rfl (Nat.le_of_ble_eq_true rfl) ⟨(show cells + 1 ≤ 6 from by omega), (show slots + 6 ≤ 32 from by omega)⟩ dX1_doSwapShares_25) (fun H locs hI => ?_)
    refine lv_iconst (v := 0) hx hb dX1_doSwapShares_28 (by decide) ?_
    refine lv_istore_n (lv' := [(3, .int (0 : Int32)), (0, .ref z0), (1, .int z1), (2, .int z2)]) hx hb dX1_doSwapShares_29 rfl hl (by decide) rfl (fun ls hl => ?_)
    exact w_X1_doSwapShares_L30 X hst hxt gN hr hI (lv_sub hl [1, 2, 3, 0] rfl) (by omega)
  · refine gXThr (k := q14.1) (q := q14.2) (g_xrunS X hI (w_X1_checkState hst hc13) hl (lw_S q1300 q1301 q96 q1302) rfl rfl hd_X1_checkState ⟨Nat.le_of_ble_eq_true rfl, Nat.le_of_ble_eq_true rfl⟩ (as := [.int s0]) (rest := []) rfl rfl (Nat.le_of_ble_eq_true rfl) ⟨(show cells + 1 ≤ 6 from by omega), (show slots + 6 ≤ 32 from by omega)⟩ dX1_doSwapShares_25) (fun H locs hI hxc => ?_)
    have hr := gS_i hr
    subst hr
    exact g_xout X hI hxc hxt gPs_0 (show (cells + 1) ≤ 6 from by omega) (show (slots + 6) ≤ 32 from by omega)
set_option maxHeartbeats 2000000 in
theorem w_X1_doSwapShares {l : Launch} {x : gV} {base : Nat} (hst : l.stackTraces = false) {z0 : Nat} {z1 : Int32} {z2 : Int32} {h : gH} {n : Nat} {res : (Int32 ⊕ gX) × gH × Nat} (hr : f_X1_doSwapShares z0 z1 z2 h n = some res) : gMX l yX1_doSwapShares (ws_ yX1_doSwapShares cX1_doSwapShares 5 (some .int)) rm_X1_doSwapShares x base (fun v => some (.int v)) [.ref z0, .int z1, .int z2] h n res 6 32 := by
  refine g_metX (cc := cX1_doSwapShares) (nL := 5) (ret := (some .int)) (by decide) (Nat.le_of_ble_eq_true rfl) (fun p e s m below meth c ls X hnm hxt hl hI => ?_)
  have hl : lv_has ls 5 [(0, .ref z0), (1, .int z1), (2, .int z2)] := hl
  have hx := X.1
  have hb := X.2.1
  have hcc : 0 + 6 ≤ 6 ∧ 0 + 32 ≤ 32 := ⟨Nat.le_refl _, Nat.le_refl _⟩
  unfold f_X1_doSwapShares at hr
  refine lv_aload_n hx hb dX1_doSwapShares_0 rfl (lv_at hl 0 rfl) ?_
  refine lv_iconst (v := 2) hx hb dX1_doSwapShares_1 (by decide) ?_
  refine g_newI (t := 0) (b := 2) (atype := .int) X hI q512 rfl rfl (by decide) (show 0 + 1 ≤ 6 from by omega) (show 0 + 2 ≤ 32 from by omega) hr dX1_doSwapShares_2 (fun q1 h2 n3 H locs hI hr => ?_)
  refine lv_dup hx hb dX1_doSwapShares_4 rfl ?_
  refine lv_iconst (v := 0) hx hb dX1_doSwapShares_5 (by decide) ?_
  refine lv_iload_n hx hb dX1_doSwapShares_6 rfl (lv_at hl 1 rfl) ?_
  refine g_iast X hI hr dX1_doSwapShares_7 (fun h4 H locs hI hr => ?_)
  refine lv_dup hx hb dX1_doSwapShares_8 rfl ?_
  refine lv_iconst (v := 1) hx hb dX1_doSwapShares_9 (by decide) ?_
  refine lv_iload_n hx hb dX1_doSwapShares_10 rfl (lv_at hl 2 rfl) ?_
  refine g_iast X hI hr dX1_doSwapShares_11 (fun h5 H locs hI hr => ?_)
  obtain ⟨_, ho6, hr⟩ := gB_i hr
  rcases gTX_i hr with ⟨u9, h9, n10, hc7, hr⟩ | ⟨q8, h11, n12, hc7, hr⟩
  · refine gXRet_v (g_xrunV X hI (w_X1_checkSiblings hst hc7) ho6 rfl hl (lw_V q1174 q1176 qs20 q96 q1177) rfl rfl hd_X1_checkSiblings ⟨Nat.le_of_ble_eq_true rfl, Nat.le_of_ble_eq_true rfl⟩ (as := [.ref q1]) (rest := []) rfl rfl (Nat.le_of_ble_eq_true rfl) ⟨(show (0 + 1) + 4 ≤ 6 from by omega), (show (0 + 2) + 24 ≤ 32 from by omega)⟩ dX1_doSwapShares_12) (fun H locs hI => ?_)
    refine lv_iload_n hx hb dX1_doSwapShares_15 rfl (lv_at hl 1 rfl) ?_
    refine lv_iload_n hx hb dX1_doSwapShares_16 rfl (lv_at hl 2 rfl) ?_
    refine lv_icmp_eq (tgt := 24) hx hb dX1_doSwapShares_17 (by decide) (fun c9 => ?_) (fun c9 => ?_)
    · replace hr := gIf_t c9 hr
      refine lv_iconst (v := 0) hx hb dX1_doSwapShares_24 (by decide) ?_
      exact w_X1_doSwapShares_J25 X hst hxt hr hI (lv_sub hl [0, 1, 2] rfl) (by omega)
    · replace hr := gIf_f c9 hr
      refine lv_iconst (v := 1) hx hb dX1_doSwapShares_20 (by decide) ?_
      refine lv_goto (tgt := 25) hx hb dX1_doSwapShares_21 (by decide) ?_
      exact w_X1_doSwapShares_J25 X hst hxt hr hI (lv_sub hl [0, 1, 2] rfl) (by omega)
  · refine gXThr (k := q8.1) (q := q8.2) (g_xrunV X hI (w_X1_checkSiblings hst hc7) ho6 rfl hl (lw_V q1174 q1176 qs20 q96 q1177) rfl rfl hd_X1_checkSiblings ⟨Nat.le_of_ble_eq_true rfl, Nat.le_of_ble_eq_true rfl⟩ (as := [.ref q1]) (rest := []) rfl rfl (Nat.le_of_ble_eq_true rfl) ⟨(show (0 + 1) + 4 ≤ 6 from by omega), (show (0 + 2) + 24 ≤ 32 from by omega)⟩ dX1_doSwapShares_12) (fun H locs hI hxc => ?_)
    have hr := gS_i hr
    subst hr
    exact g_xout X hI hxc hxt gPs_0 (show ((0 + 1) + 4) ≤ 6 from by omega) (show ((0 + 2) + 24) ≤ 32 from by omega)
abbrev rm_X1_swapShares : Room := { frames := 11, cells := 11, slots := 74, locals := 227 }
theorem hd_X1_swapShares : yX1_swapShares.cls = RX1 ∧ yX1_swapShares.cls ≠ "java/lang/invoke/MethodHandle" ∧ yX1_swapShares.cls ≠ "java/lang/invoke/VarHandle" ∧ (parseMethodDescriptor yX1_swapShares.desc).map (fun d => d.parameters.length) = some 2 := by decide +kernel
set_option maxHeartbeats 2000000 in
theorem w_X1_swapShares {l : Launch} {x : gV} {base : Nat} (hst : l.stackTraces = false) {z0 : Nat} {z1 : Int32} {z2 : Int32} {h : gH} {n : Nat} {res : (Int32 ⊕ gX) × gH × Nat} (hr : f_X1_swapShares z0 z1 z2 h n = some res) : gMX l yX1_swapShares (ws_ yX1_swapShares cX1_swapShares 4 (some .int)) rm_X1_swapShares x base (fun v => some (.int v)) [.ref z0, .int z1, .int z2] h n res 11 74 := by
  refine g_metX (cc := cX1_swapShares) (nL := 4) (ret := (some .int)) (by decide) (Nat.le_of_ble_eq_true rfl) (fun p e s m below meth c ls X hnm hxt hl hI => ?_)
  have hl : lv_has ls 4 [(0, .ref z0), (1, .int z1), (2, .int z2)] := hl
  have hx := X.1
  have hb := X.2.1
  have hcc : 0 + 11 ≤ 11 ∧ 0 + 74 ≤ 74 := ⟨Nat.le_refl _, Nat.le_refl _⟩
  unfold f_X1_swapShares at hr
  refine g_newO (C := RX2) (T := TX2) (N := 3) (ci := 0) (fs := [.null, .null, .null]) X hI in_X2 tyX2 tyX2_ok q142 q143 q97 rfl (g_dflt3 rfl rfl rfl) (show 0 + 1 ≤ 11 from by omega) (show 0 + 3 ≤ 74 from by omega) hr dX1_swapShares_0 (fun q1 h2 n3 H locs hI hr => ?_)
  refine lv_dup hx hb dX1_swapShares_3 rfl ?_
  refine lv_aload_n hx hb dX1_swapShares_4 rfl (lv_at hl 0 rfl) ?_
  refine g_getA (C := RX1) (T := TX1) (N := 10) X hI in_X1 rfl 4 (by decide) q760 (fun _ h9 => h9) hr dX1_swapShares_5 (fun v4 hr => ?_)
  obtain ⟨h6, n7, hc5, hr⟩ := gT2_i hr
  refine gRun_v (g_runI X hI (w_X2_init_2 hst hc5) hl q979 q995 q978 q97 rfl rfl rfl hd_X2_init_2 ⟨Nat.le_of_ble_eq_true rfl, Nat.le_of_ble_eq_true rfl⟩ (as := [.ref v4]) (rest := [.ref q1]) rfl rfl (Nat.le_of_ble_eq_true rfl) ⟨(show (0 + 1) + 4 ≤ 11 from by omega), (show (0 + 3) + 39 ≤ 74 from by omega)⟩ dX1_swapShares_8) (fun H locs hI => ?_)
  refine lv_astore_n (lv' := [(3, .ref q1), (0, .ref z0), (1, .int z1), (2, .int z2)]) hx hb dX1_swapShares_11 rfl hl (by decide) rfl (fun ls hl => ?_)
  refine lv_aload_n hx hb dX1_swapShares_12 rfl (lv_at hl 1 rfl) ?_
  refine lv_aload_n hx hb dX1_swapShares_13 rfl (lv_at hl 0 rfl) ?_
  refine lv_aload_n hx hb dX1_swapShares_14 rfl (lv_at hl 1 rfl) ?_
  refine lv_iload_n hx hb dX1_swapShares_15 rfl (lv_at hl 2 rfl) ?_
  refine lv_iload_n hx hb dX1_swapShares_16 rfl (lv_at hl 3 rfl) ?_
  obtain ⟨_, ho8, hr⟩ := gB_i hr
  rcases gTX_i hr with ⟨v10, h12, n13, hc9, hr⟩ | ⟨q11, h14, n15, hc9, hr⟩
  · refine gXRet_i (g_xrunV X hI (w_X1_doSwapShares hst hc9) ho8 rfl hl (lw_V q1437 q1439 qs25 q96 q1440) rfl rfl hd_X1_doSwapShares ⟨Nat.le_of_ble_eq_true rfl, Nat.le_of_ble_eq_true rfl⟩ (as := [.int z1, .int z2]) (rest := [.ref q1, .ref z0]) rfl rfl (Nat.le_of_ble_eq_true rfl) ⟨(show ((0 + 1) + 4) + 6 ≤ 11 from by omega), (show ((0 + 3) + 39) + 32 ≤ 74 from by omega)⟩ dX1_swapShares_17) (fun H locs hI => ?_)
    obtain ⟨_, ho16, hr⟩ := gB_i hr
    obtain ⟨v18, h19, hc17, hr⟩ := gT2_i hr
    refine gRun_i (g_runV X hI (w_X1_record hc17) ho16 rfl hl (lw_V q1009 q1011 qs12 q96 q1012) rfl rfl hd_X1_record ⟨Nat.le_of_ble_eq_true rfl, Nat.le_of_ble_eq_true rfl⟩ (as := [.ref q1, .int v10]) (rest := []) rfl rfl (Nat.le_of_ble_eq_true rfl) ⟨(show (((0 + 1) + 4) + 6) + 0 ≤ 11 from by omega), (show (((0 + 3) + 39) + 32) + 0 ≤ 74 from by omega)⟩ dX1_swapShares_20) (fun H locs hI => ?_)
    have hr := gS_i hr
    subst hr
    exact g_xiret X hI rfl (show ((((0 + 1) + 4) + 6) + 0) ≤ 11 from by omega) (show ((((0 + 3) + 39) + 32) + 0) ≤ 74 from by omega) dX1_swapShares_23
  · refine gXThr (k := q11.1) (q := q11.2) (g_xrunV X hI (w_X1_doSwapShares hst hc9) ho8 rfl hl (lw_V q1437 q1439 qs25 q96 q1440) rfl rfl hd_X1_doSwapShares ⟨Nat.le_of_ble_eq_true rfl, Nat.le_of_ble_eq_true rfl⟩ (as := [.int z1, .int z2]) (rest := [.ref q1, .ref z0]) rfl rfl (Nat.le_of_ble_eq_true rfl) ⟨(show ((0 + 1) + 4) + 6 ≤ 11 from by omega), (show ((0 + 3) + 39) + 32 ≤ 74 from by omega)⟩ dX1_swapShares_17) (fun H locs hI hxc => ?_)
    have hr := gS_i hr
    subst hr
    exact g_xout X hI hxc hxt gPs_0 (show (((0 + 1) + 4) + 6) ≤ 11 from by omega) (show (((0 + 3) + 39) + 32) ≤ 74 from by omega)
abbrev rm_X5_init_2 : Room := { frames := 2, cells := 1, slots := 24, locals := 86 }
theorem hd_X5_init_2 : yX5_init_2.cls ≠ "java/lang/invoke/MethodHandle" ∧ yX5_init_2.cls ≠ "java/lang/invoke/VarHandle" ∧ (parseMethodDescriptor yX5_init_2.desc).map (fun d => d.parameters.length) = some 3 := by decide +kernel
set_option maxHeartbeats 2000000 in
theorem w_X5_init_2 {l : Launch} {x : gV} {base : Nat} (hst : l.stackTraces = false) {z0 : Nat} {z1 : Nat} {z2 : Int32} {z3 : Int32} {h : gH} {n : Nat} {res : gH × Nat} (hr : f_X5_init_2 z0 z1 z2 z3 h n = some res) : gM l yX5_init_2 (ws_ yX5_init_2 cX5_init_2 4 none) rm_X5_init_2 x base [.ref z0, .ref z1, .int z2, .int z3] h n none res.1 res.2 1 24 := by
  refine g_met (cc := cX5_init_2) (nL := 4) (ret := none) (by decide) (Nat.le_of_ble_eq_true rfl) (fun p e s m below meth c ls X hnm hl hI => ?_)
  have hl : lv_has ls 4 [(0, .ref z0), (1, .ref z1), (2, .int z2), (3, .int z3)] := hl
  have hx := X.1
  have hb := X.2.1
  have hcc : 0 + 1 ≤ 1 ∧ 0 + 24 ≤ 24 := ⟨Nat.le_refl _, Nat.le_refl _⟩
  unfold f_X5_init_2 at hr
  refine lv_aload_n hx hb dX5_init_2_0 rfl (lv_at hl 0 rfl) ?_
  refine lv_aload_n hx hb dX5_init_2_1 rfl (lv_at hl 1 rfl) ?_
  refine g_getA (C := RX5) (T := TX5) (N := 2) X hI in_X5 rfl 0 (by decide) q697 (fun _ h9 => h9) hr dX5_init_2_2 (fun v1 hr => ?_)
  refine lv_aload_n hx hb dX5_init_2_5 rfl (lv_at hl 1 rfl) ?_
  refine g_getA (C := RX5) (T := TX5) (N := 2) X hI in_X5 rfl 1 (by decide) q699 (fun _ h9 => h9) hr dX5_init_2_6 (fun v2 hr => ?_)
  obtain ⟨h4, n5, hc3, hr⟩ := gT2_i hr
  refine gRun_v (g_runI X hI (w_X5_init hst hc3) hl q694 q1455 q693 q121 rfl rfl rfl hd_X5_init ⟨Nat.le_of_ble_eq_true rfl, Nat.le_of_ble_eq_true rfl⟩ (as := [.ref v1, .ref v2]) (rest := []) rfl rfl (Nat.le_of_ble_eq_true rfl) ⟨(show 0 + 1 ≤ 1 from by omega), (show 0 + 24 ≤ 24 from by omega)⟩ dX5_init_2_9) (fun H locs hI => ?_)
  refine lv_aload_n hx hb dX5_init_2_12 rfl (lv_at hl 0 rfl) ?_
  refine g_getA (C := RX5) (T := TX5) (N := 2) X hI in_X5 rfl 1 (by decide) q699 (fun _ h9 => h9) hr dX5_init_2_13 (fun v6 hr => ?_)
  refine lv_iload_n hx hb dX5_init_2_16 rfl (lv_at hl 2 rfl) ?_
  refine lv_iload_n hx hb dX5_init_2_17 rfl (lv_at hl 3 rfl) ?_
  refine g_iast X hI hr dX5_init_2_18 (fun h7 H locs hI hr => ?_)
  have hr := gS_i hr
  subst hr
  exact g_vret X hI (show (0 + 1) ≤ 1 from by omega) (show (0 + 24) ≤ 24 from by omega) dX5_init_2_19
abbrev rm_X1_doSetValue : Room := { frames := 11, cells := 9, slots := 63, locals := 224 }
theorem hd_X1_doSetValue : yX1_doSetValue.cls = RX1 ∧ yX1_doSetValue.cls ≠ "java/lang/invoke/MethodHandle" ∧ yX1_doSetValue.cls ≠ "java/lang/invoke/VarHandle" ∧ (parseMethodDescriptor yX1_doSetValue.desc).map (fun d => d.parameters.length) = some 3 := by decide +kernel
set_option maxHeartbeats 2000000 in
theorem w_X1_doSetValue {l : Launch} {x : gV} {base : Nat} (hst : l.stackTraces = false) {z0 : Nat} {z1 : Int32} {z2 : Int32} {z3 : Int32} {h : gH} {n : Nat} {res : (Int32 ⊕ gX) × gH × Nat} (hr : f_X1_doSetValue z0 z1 z2 z3 h n = some res) : gMX l yX1_doSetValue (ws_ yX1_doSetValue cX1_doSetValue 5 (some .int)) rm_X1_doSetValue x base (fun v => some (.int v)) [.ref z0, .int z1, .int z2, .int z3] h n res 9 63 := by
  refine g_metX (cc := cX1_doSetValue) (nL := 5) (ret := (some .int)) (by decide) (Nat.le_of_ble_eq_true rfl) (fun p e s m below meth c ls X hnm hxt hl hI => ?_)
  have hl : lv_has ls 5 [(0, .ref z0), (1, .int z1), (2, .int z2), (3, .int z3)] := hl
  have hx := X.1
  have hb := X.2.1
  have hcc : 0 + 9 ≤ 9 ∧ 0 + 63 ≤ 63 := ⟨Nat.le_refl _, Nat.le_refl _⟩
  unfold f_X1_doSetValue at hr
  refine lv_aload_n hx hb dX1_doSetValue_0 rfl (lv_at hl 0 rfl) ?_
  refine lv_iload_n hx hb dX1_doSetValue_1 rfl (lv_at hl 1 rfl) ?_
  obtain ⟨_, ho1, hr⟩ := gB_i hr
  rcases gTX_i hr with ⟨v3, h5, n6, hc2, hr⟩ | ⟨q4, h7, n8, hc2, hr⟩
  · refine gXRet_a (g_xrunV X hI (w_X1_siblingAt hst hc2) ho1 rfl hl (lw_V q1170 q1172 qs19 q96 q1173) rfl rfl hd_X1_siblingAt ⟨Nat.le_of_ble_eq_true rfl, Nat.le_of_ble_eq_true rfl⟩ (as := [.int z1]) (rest := []) rfl rfl (Nat.le_of_ble_eq_true rfl) ⟨(show 0 + 5 ≤ 9 from by omega), (show 0 + 25 ≤ 63 from by omega)⟩ dX1_doSetValue_2) (fun H locs hI => ?_)
    refine lv_astore (lv' := [(4, .ref v3), (0, .ref z0), (1, .int z1), (2, .int z2), (3, .int z3)]) hx hb dX1_doSetValue_5 hl (by decide) rfl (fun ls hl => ?_)
    refine lv_iload_n hx hb dX1_doSetValue_7 rfl (lv_at hl 3 rfl) ?_
    refine lv_aload_n hx hb dX1_doSetValue_8 rfl (lv_at hl 1 rfl) ?_
    refine g_getA (C := RX1) (T := TX1) (N := 10) X hI in_X1 rfl 4 (by decide) q760 (fun _ h9 => h9) hr dX1_doSetValue_9 (fun v9 hr => ?_)
    obtain ⟨_, ho10, hr⟩ := gB_i hr
    obtain ⟨v12, hc11, hr⟩ := gB_i hr
    refine gRun_i (g_runV X hI (w_X2_cells hc11) ho10 rfl hl (lw_V q686 q687 q688 q97 q689) rfl rfl hd_X2_cells ⟨Nat.le_of_ble_eq_true rfl, Nat.le_of_ble_eq_true rfl⟩ (as := []) (rest := [.int z2]) rfl rfl (Nat.le_of_ble_eq_true rfl) ⟨(show (0 + 5) + 0 ≤ 9 from by omega), (show (0 + 25) + 0 ≤ 63 from by omega)⟩ dX1_doSetValue_12) (fun H locs hI => ?_)
    rcases gTX_i hr with ⟨u9, h15, n16, hc13, hr⟩ | ⟨q14, h17, n18, hc13, hr⟩
    · refine gXRet_v (g_xrunS X hI (w_X1_checkIndex hst hc13) hl (lw_S q1178 q1179 q96 q1180) rfl rfl hd_X1_checkIndex ⟨Nat.le_of_ble_eq_true rfl, Nat.le_of_ble_eq_true rfl⟩ (as := [.int z2, .int v12]) (rest := []) rfl rfl (Nat.le_of_ble_eq_true rfl) ⟨(show ((0 + 5) + 0) + 1 ≤ 9 from by omega), (show ((0 + 25) + 0) + 6 ≤ 63 from by omega)⟩ dX1_doSetValue_15) (fun H locs hI => ?_)
      refine lv_iload_n hx hb dX1_doSetValue_18 rfl (lv_at hl 4 rfl) ?_
      refine lv_iconst (v := 0) hx hb dX1_doSetValue_19 (by decide) ?_
      refine lv_bipush (v := 9) hx hb dX1_doSetValue_20 (by decide) ?_
      obtain ⟨v20, hc19, hr⟩ := gB_i hr
      refine gRun_i (g_runS X hI (w_X1_isBetween hc19) hl (lw_S q1233 q1234 q96 q1235) rfl rfl hd_X1_isBetween ⟨Nat.le_of_ble_eq_true rfl, Nat.le_of_ble_eq_true rfl⟩ (as := [.int z3, .int (0 : Int32), .int (9 : Int32)]) (rest := []) rfl rfl (Nat.le_of_ble_eq_true rfl) ⟨(show (((0 + 5) + 0) + 1) + 0 ≤ 9 from by omega), (show (((0 + 25) + 0) + 6) + 0 ≤ 63 from by omega)⟩ dX1_doSetValue_22) (fun H locs hI => ?_)
      rcases gTX_i hr with ⟨u9, h23, n24, hc21, hr⟩ | ⟨q22, h25, n26, hc21, hr⟩
      · refine gXRet_v (g_xrunS X hI (w_X1_checkArgument hst hc21) hl (lw_S q1236 q1237 q96 q1238) rfl rfl hd_X1_checkArgument ⟨Nat.le_of_ble_eq_true rfl, Nat.le_of_ble_eq_true rfl⟩ (as := [.int v20]) (rest := []) rfl rfl (Nat.le_of_ble_eq_true rfl) ⟨(show ((((0 + 5) + 0) + 1) + 0) + 1 ≤ 9 from by omega), (show ((((0 + 25) + 0) + 6) + 0) + 6 ≤ 63 from by omega)⟩ dX1_doSetValue_25) (fun H locs hI => ?_)
        refine lv_aload_n hx hb dX1_doSetValue_28 rfl (lv_at hl 1 rfl) ?_
        refine g_getA (C := RX1) (T := TX1) (N := 10) X hI in_X1 rfl 4 (by decide) q760 (fun _ h9 => h9) hr dX1_doSetValue_29 (fun v27 hr => ?_)
        refine g_getA (C := RX2) (T := TX2) (N := 3) X hI in_X2 rfl 0 (by decide) q500 (fun _ h9 => h9) hr dX1_doSetValue_32 (fun v28 hr => ?_)
        refine lv_iload_n hx hb dX1_doSetValue_35 rfl (lv_at hl 2 rfl) ?_
        refine g_newO (C := RX5) (T := TX5) (N := 2) (ci := 1) (fs := [.null, .null]) X hI in_X5 tyX5 tyX5_ok q690 q691 q121 rfl (g_dflt2 rfl rfl) (show (((((0 + 5) + 0) + 1) + 0) + 1) + 1 ≤ 9 from by omega) (show (((((0 + 25) + 0) + 6) + 0) + 6) + 2 ≤ 63 from by omega) hr dX1_doSetValue_36 (fun q29 h30 n31 H locs hI hr => ?_)
        refine lv_dup hx hb dX1_doSetValue_39 rfl ?_
        refine lv_aload hx hb dX1_doSetValue_40 (lv_at hl 0 rfl) ?_
        refine lv_iload_n hx hb dX1_doSetValue_42 rfl (lv_at hl 3 rfl) ?_
        refine lv_iload_n hx hb dX1_doSetValue_43 rfl (lv_at hl 4 rfl) ?_
        obtain ⟨h33, n34, hc32, hr⟩ := gT2_i hr
        refine gRun_v (g_runI X hI (w_X5_init_2 hst hc32) hl q1454 q1452 q1453 q121 rfl rfl rfl hd_X5_init_2 ⟨Nat.le_of_ble_eq_true rfl, Nat.le_of_ble_eq_true rfl⟩ (as := [.ref v3, .int z2, .int z3]) (rest := [.ref q29, .int z1, .ref v28]) rfl rfl (Nat.le_of_ble_eq_true rfl) ⟨(show ((((((0 + 5) + 0) + 1) + 0) + 1) + 1) + 1 ≤ 9 from by omega), (show ((((((0 + 25) + 0) + 6) + 0) + 6) + 2) + 24 ≤ 63 from by omega)⟩ dX1_doSetValue_44) (fun H locs hI => ?_)
        obtain ⟨_, ho35, hr⟩ := gB_i hr
        obtain ⟨v37, h38, hc36, hr⟩ := gT2_i hr
        refine gRun_a (g_runV X hI (w_J2_set hc36) ho35 rfl hl (lw_V q1456 q1457 q1458 q100 q1459) rfl rfl hd_J2_set ⟨Nat.le_of_ble_eq_true rfl, Nat.le_of_ble_eq_true rfl⟩ (as := [.int z1, .ref q29]) (rest := []) rfl rfl (Nat.le_of_ble_eq_true rfl) ⟨(show (((((((0 + 5) + 0) + 1) + 0) + 1) + 1) + 1) + 0 ≤ 9 from by omega), (show (((((((0 + 25) + 0) + 6) + 0) + 6) + 2) + 24) + 0 ≤ 63 from by omega)⟩ dX1_doSetValue_47) (fun H locs hI => ?_)
        refine lv_pop hx hb dX1_doSetValue_50 rfl ?_
        refine lv_aload hx hb dX1_doSetValue_51 (lv_at hl 0 rfl) ?_
        refine lv_iload_n hx hb dX1_doSetValue_53 rfl (lv_at hl 3 rfl) ?_
        obtain ⟨_, ho39, hr⟩ := gB_i hr
        obtain ⟨v41, hc40, hr⟩ := gB_i hr
        refine gRun_i (g_runV X hI (w_X5_value hc40) ho39 rfl hl (lw_V q901 q830 q831 q121 q832) rfl rfl hd_X5_value ⟨Nat.le_of_ble_eq_true rfl, Nat.le_of_ble_eq_true rfl⟩ (as := [.int z2]) (rest := []) rfl rfl (Nat.le_of_ble_eq_true rfl) ⟨(show ((((((((0 + 5) + 0) + 1) + 0) + 1) + 1) + 1) + 0) + 0 ≤ 9 from by omega), (show ((((((((0 + 25) + 0) + 6) + 0) + 6) + 2) + 24) + 0) + 0 ≤ 63 from by omega)⟩ dX1_doSetValue_54) (fun H locs hI => ?_)
        have hr := gS_i hr
        subst hr
        exact g_xiret X hI rfl (show (((((((((0 + 5) + 0) + 1) + 0) + 1) + 1) + 1) + 0) + 0) ≤ 9 from by omega) (show (((((((((0 + 25) + 0) + 6) + 0) + 6) + 2) + 24) + 0) + 0) ≤ 63 from by omega) dX1_doSetValue_57
      · refine gXThr (k := q22.1) (q := q22.2) (g_xrunS X hI (w_X1_checkArgument hst hc21) hl (lw_S q1236 q1237 q96 q1238) rfl rfl hd_X1_checkArgument ⟨Nat.le_of_ble_eq_true rfl, Nat.le_of_ble_eq_true rfl⟩ (as := [.int v20]) (rest := []) rfl rfl (Nat.le_of_ble_eq_true rfl) ⟨(show ((((0 + 5) + 0) + 1) + 0) + 1 ≤ 9 from by omega), (show ((((0 + 25) + 0) + 6) + 0) + 6 ≤ 63 from by omega)⟩ dX1_doSetValue_25) (fun H locs hI hxc => ?_)
        have hr := gS_i hr
        subst hr
        exact g_xout X hI hxc hxt gPs_0 (show (((((0 + 5) + 0) + 1) + 0) + 1) ≤ 9 from by omega) (show (((((0 + 25) + 0) + 6) + 0) + 6) ≤ 63 from by omega)
    · refine gXThr (k := q14.1) (q := q14.2) (g_xrunS X hI (w_X1_checkIndex hst hc13) hl (lw_S q1178 q1179 q96 q1180) rfl rfl hd_X1_checkIndex ⟨Nat.le_of_ble_eq_true rfl, Nat.le_of_ble_eq_true rfl⟩ (as := [.int z2, .int v12]) (rest := []) rfl rfl (Nat.le_of_ble_eq_true rfl) ⟨(show ((0 + 5) + 0) + 1 ≤ 9 from by omega), (show ((0 + 25) + 0) + 6 ≤ 63 from by omega)⟩ dX1_doSetValue_15) (fun H locs hI hxc => ?_)
      have hr := gS_i hr
      subst hr
      exact g_xout X hI hxc hxt gPs_0 (show (((0 + 5) + 0) + 1) ≤ 9 from by omega) (show (((0 + 25) + 0) + 6) ≤ 63 from by omega)
  · refine gXThr (k := q4.1) (q := q4.2) (g_xrunV X hI (w_X1_siblingAt hst hc2) ho1 rfl hl (lw_V q1170 q1172 qs19 q96 q1173) rfl rfl hd_X1_siblingAt ⟨Nat.le_of_ble_eq_true rfl, Nat.le_of_ble_eq_true rfl⟩ (as := [.int z1]) (rest := []) rfl rfl (Nat.le_of_ble_eq_true rfl) ⟨(show 0 + 5 ≤ 9 from by omega), (show 0 + 25 ≤ 63 from by omega)⟩ dX1_doSetValue_2) (fun H locs hI hxc => ?_)
    have hr := gS_i hr
    subst hr
    exact g_xout X hI hxc hxt gPs_0 (show (0 + 5) ≤ 9 from by omega) (show (0 + 25) ≤ 63 from by omega)
abbrev rm_X1_setValue : Room := { frames := 12, cells := 14, slots := 105, locals := 248 }
theorem hd_X1_setValue : yX1_setValue.cls = RX1 ∧ yX1_setValue.cls ≠ "java/lang/invoke/MethodHandle" ∧ yX1_setValue.cls ≠ "java/lang/invoke/VarHandle" ∧ (parseMethodDescriptor yX1_setValue.desc).map (fun d => d.parameters.length) = some 3 := by decide +kernel
set_option maxHeartbeats 2000000 in
theorem w_X1_setValue {l : Launch} {x : gV} {base : Nat} (hst : l.stackTraces = false) {z0 : Nat} {z1 : Int32} {z2 : Int32} {z3 : Int32} {h : gH} {n : Nat} {res : (Int32 ⊕ gX) × gH × Nat} (hr : f_X1_setValue z0 z1 z2 z3 h n = some res) : gMX l yX1_setValue (ws_ yX1_setValue cX1_setValue 5 (some .int)) rm_X1_setValue x base (fun v => some (.int v)) [.ref z0, .int z1, .int z2, .int z3] h n res 14 105 := by
  refine g_metX (cc := cX1_setValue) (nL := 5) (ret := (some .int)) (by decide) (Nat.le_of_ble_eq_true rfl) (fun p e s m below meth c ls X hnm hxt hl hI => ?_)
  have hl : lv_has ls 5 [(0, .ref z0), (1, .int z1), (2, .int z2), (3, .int z3)] := hl
  have hx := X.1
  have hb := X.2.1
  have hcc : 0 + 14 ≤ 14 ∧ 0 + 105 ≤ 105 := ⟨Nat.le_refl _, Nat.le_refl _⟩
  unfold f_X1_setValue at hr
  refine g_newO (C := RX2) (T := TX2) (N := 3) (ci := 0) (fs := [.null, .null, .null]) X hI in_X2 tyX2 tyX2_ok q142 q143 q97 rfl (g_dflt3 rfl rfl rfl) (show 0 + 1 ≤ 14 from by omega) (show 0 + 3 ≤ 105 from by omega) hr dX1_setValue_0 (fun q1 h2 n3 H locs hI hr => ?_)
  refine lv_dup hx hb dX1_setValue_3 rfl ?_
  refine lv_aload_n hx hb dX1_setValue_4 rfl (lv_at hl 0 rfl) ?_
  refine g_getA (C := RX1) (T := TX1) (N := 10) X hI in_X1 rfl 4 (by decide) q760 (fun _ h9 => h9) hr dX1_setValue_5 (fun v4 hr => ?_)
  obtain ⟨h6, n7, hc5, hr⟩ := gT2_i hr
  refine gRun_v (g_runI X hI (w_X2_init_2 hst hc5) hl q979 q995 q978 q97 rfl rfl rfl hd_X2_init_2 ⟨Nat.le_of_ble_eq_true rfl, Nat.le_of_ble_eq_true rfl⟩ (as := [.ref v4]) (rest := [.ref q1]) rfl rfl (Nat.le_of_ble_eq_true rfl) ⟨(show (0 + 1) + 4 ≤ 14 from by omega), (show (0 + 3) + 39 ≤ 105 from by omega)⟩ dX1_setValue_8) (fun H locs hI => ?_)
  refine lv_astore (lv' := [(4, .ref q1), (0, .ref z0), (1, .int z1), (2, .int z2), (3, .int z3)]) hx hb dX1_setValue_11 hl (by decide) rfl (fun ls hl => ?_)
  refine lv_aload_n hx hb dX1_setValue_13 rfl (lv_at hl 1 rfl) ?_
  refine lv_aload hx hb dX1_setValue_14 (lv_at hl 0 rfl) ?_
  refine lv_aload_n hx hb dX1_setValue_16 rfl (lv_at hl 1 rfl) ?_
  refine lv_iload_n hx hb dX1_setValue_17 rfl (lv_at hl 2 rfl) ?_
  refine lv_iload_n hx hb dX1_setValue_18 rfl (lv_at hl 3 rfl) ?_
  refine lv_iload_n hx hb dX1_setValue_19 rfl (lv_at hl 4 rfl) ?_
  obtain ⟨_, ho8, hr⟩ := gB_i hr
  rcases gTX_i hr with ⟨v10, h12, n13, hc9, hr⟩ | ⟨q11, h14, n15, hc9, hr⟩
  · refine gXRet_i (g_xrunV X hI (w_X1_doSetValue hst hc9) ho8 rfl hl (lw_V q1448 q1450 qs26 q96 q1451) rfl rfl hd_X1_doSetValue ⟨Nat.le_of_ble_eq_true rfl, Nat.le_of_ble_eq_true rfl⟩ (as := [.int z1, .int z2, .int z3]) (rest := [.ref q1, .ref z0]) rfl rfl (Nat.le_of_ble_eq_true rfl) ⟨(show ((0 + 1) + 4) + 9 ≤ 14 from by omega), (show ((0 + 3) + 39) + 63 ≤ 105 from by omega)⟩ dX1_setValue_20) (fun H locs hI => ?_)
    obtain ⟨_, ho16, hr⟩ := gB_i hr
    obtain ⟨v18, h19, hc17, hr⟩ := gT2_i hr
    refine gRun_i (g_runV X hI (w_X1_record hc17) ho16 rfl hl (lw_V q1009 q1011 qs12 q96 q1012) rfl rfl hd_X1_record ⟨Nat.le_of_ble_eq_true rfl, Nat.le_of_ble_eq_true rfl⟩ (as := [.ref q1, .int v10]) (rest := []) rfl rfl (Nat.le_of_ble_eq_true rfl) ⟨(show (((0 + 1) + 4) + 9) + 0 ≤ 14 from by omega), (show (((0 + 3) + 39) + 63) + 0 ≤ 105 from by omega)⟩ dX1_setValue_23) (fun H locs hI => ?_)
    have hr := gS_i hr
    subst hr
    exact g_xiret X hI rfl (show ((((0 + 1) + 4) + 9) + 0) ≤ 14 from by omega) (show ((((0 + 3) + 39) + 63) + 0) ≤ 105 from by omega) dX1_setValue_26
  · refine gXThr (k := q11.1) (q := q11.2) (g_xrunV X hI (w_X1_doSetValue hst hc9) ho8 rfl hl (lw_V q1448 q1450 qs26 q96 q1451) rfl rfl hd_X1_doSetValue ⟨Nat.le_of_ble_eq_true rfl, Nat.le_of_ble_eq_true rfl⟩ (as := [.int z1, .int z2, .int z3]) (rest := [.ref q1, .ref z0]) rfl rfl (Nat.le_of_ble_eq_true rfl) ⟨(show ((0 + 1) + 4) + 9 ≤ 14 from by omega), (show ((0 + 3) + 39) + 63 ≤ 105 from by omega)⟩ dX1_setValue_20) (fun H locs hI hxc => ?_)
    have hr := gS_i hr
    subst hr
    exact g_xout X hI hxc hxt gPs_0 (show (((0 + 1) + 4) + 9) ≤ 14 from by omega) (show (((0 + 3) + 39) + 63) ≤ 105 from by omega)
abbrev rm_X2_divideAndChoose : Room := { frames := 5, cells := 0, slots := 0, locals := 110 }
theorem hd_X2_divideAndChoose : yX2_divideAndChoose.cls = RX2 ∧ yX2_divideAndChoose.cls ≠ "java/lang/invoke/MethodHandle" ∧ yX2_divideAndChoose.cls ≠ "java/lang/invoke/VarHandle" ∧ (parseMethodDescriptor yX2_divideAndChoose.desc).map (fun d => d.parameters.length) = some 2 := by decide +kernel
set_option maxHeartbeats 2000000 in
theorem w_X2_divideAndChoose_J72 {h : gH} {n : Nat} {z0 : Nat} {z3 : Int32} {s0 : Nat} {s1 : Int32} {res : Int32 × gH} (X : gXX x base RX2 cX2_divideAndChoose 5 (some .int) p l s m args meth c) {H : Heap} {locs : List Loc} {ls : Array Slot} (hr : f_X2_divideAndChoose_J72 z0 z3 s0 s1 h = some res) (hI : gI x base s.heap h n H locs) (hl : lv_has ls 5 [(0, .ref z0), (3, .int z3)]) : W p l e rm_X2_divideAndChoose s m args below meth c H locs 0 0 (MQ below (gQ x base (some (.int res.1)) res.2 n) args s 0 0 (fun q => base ≤ q)) (F0 m 72 ls [.int s1, .ref s0]) := by
  have hx := X.1
  have hb := X.2.1
  unfold f_X2_divideAndChoose_J72 at hr
  refine lv_iload_n hx hb dX2_divideAndChoose_72 rfl (lv_at hl 1 rfl) ?_
  refine lv_aload_n hx hb dX2_divideAndChoose_73 rfl (lv_at hl 0 rfl) ?_
  obtain ⟨_, ho19, hr⟩ := gB_i hr
  obtain ⟨v21, hc20, hr⟩ := gB_i hr
  refine gRun_i (g_runV X hI (w_X2_cells hc20) ho19 rfl hl (lw_V q812 q687 q688 q97 q689) rfl rfl hd_X2_cells ⟨Nat.le_of_ble_eq_true rfl, Nat.le_of_ble_eq_true rfl⟩ (as := []) (rest := [.int z3, .int s1, .ref s0]) rfl rfl (Nat.le_of_ble_eq_true rfl) ⟨(Nat.le_refl _), (Nat.le_refl _)⟩ dX2_divideAndChoose_74) (fun H locs hI => ?_)
  refine lv_iconst (v := 1) hx hb dX2_divideAndChoose_77 (by decide) ?_
  refine lv_isub hx hb dX2_divideAndChoose_78 ?_
  obtain ⟨_, ho22, hr⟩ := gB_i hr
  obtain ⟨h24, hc23, hr⟩ := gB_i hr
  refine gRun_v (g_runV X hI (w_X2_give hc23) ho22 rfl hl (lw_V q495 q496 q497 q97 q498) rfl rfl hd_X2_give ⟨Nat.le_of_ble_eq_true rfl, Nat.le_of_ble_eq_true rfl⟩ (as := [.int s1, .int z3, .int (v21 - (1 : Int32))]) (rest := []) rfl rfl (Nat.le_of_ble_eq_true rfl) ⟨(Nat.le_refl _), (Nat.le_refl _)⟩ dX2_divideAndChoose_79) (fun H locs hI => ?_)
  refine lv_iload_n hx hb dX2_divideAndChoose_82 rfl (lv_at hl 1 rfl) ?_
  have hr := gS_i hr
  subst hr
  exact g_iret X hI rfl (Nat.le_refl _) (Nat.le_refl _) dX2_divideAndChoose_83
set_option maxHeartbeats 2000000 in
theorem w_X2_divideAndChoose_J54 {h : gH} {n : Nat} {z0 : Nat} {z1 : Int32} {z2 : Int32} {z3 : Int32} {z4 : Int32} {s0 : Nat} {s1 : Int32} {res : Int32 × gH} (X : gXX x base RX2 cX2_divideAndChoose 5 (some .int) p l s m args meth c) {H : Heap} {locs : List Loc} {ls : Array Slot} (hr : f_X2_divideAndChoose_J54 z0 z1 z2 z3 z4 s0 s1 h = some res) (hI : gI x base s.heap h n H locs) (hl : lv_has ls 5 [(0, .ref z0), (1, .int z1), (2, .int z2), (3, .int z3), (4, .int z4)]) : W p l e rm_X2_divideAndChoose s m args below meth c H locs 0 0 (MQ below (gQ x base (some (.int res.1)) res.2 n) args s 0 0 (fun q => base ≤ q)) (F0 m 54 ls [.int s1, .ref s0]) := by
  have hx := X.1
  have hb := X.2.1
  unfold f_X2_divideAndChoose_J54 at hr
  refine lv_iconst (v := 0) hx hb dX2_divideAndChoose_54 (by decide) ?_
  refine lv_iload_n hx hb dX2_divideAndChoose_55 rfl (lv_at hl 3 rfl) ?_
  refine lv_iconst (v := 1) hx hb dX2_divideAndChoose_56 (by decide) ?_
  refine lv_isub hx hb dX2_divideAndChoose_57 ?_
  obtain ⟨_, ho16, hr⟩ := gB_i hr
  obtain ⟨h18, hc17, hr⟩ := gB_i hr
  refine gRun_v (g_runV X hI (w_X2_give hc17) ho16 rfl hl (lw_V q495 q496 q497 q97 q498) rfl rfl hd_X2_give ⟨Nat.le_of_ble_eq_true rfl, Nat.le_of_ble_eq_true rfl⟩ (as := [.int s1, .int (0 : Int32), .int (z3 - (1 : Int32))]) (rest := []) rfl rfl (Nat.le_of_ble_eq_true rfl) ⟨(Nat.le_refl _), (Nat.le_refl _)⟩ dX2_divideAndChoose_58) (fun H locs hI => ?_)
  refine lv_aload_n hx hb dX2_divideAndChoose_61 rfl (lv_at hl 0 rfl) ?_
  refine lv_iload hx hb dX2_divideAndChoose_62 (lv_at hl 4 rfl) ?_
  refine lv_if_eq (tgt := 71) hx hb dX2_divideAndChoose_64 (by decide) (fun c9 => ?_) (fun c9 => ?_)
  · replace hr := gIf_t c9 hr
    refine lv_iload_n hx hb dX2_divideAndChoose_71 rfl (lv_at hl 2 rfl) ?_
    exact w_X2_divideAndChoose_J72 X hr hI (lv_sub hl [0, 3] rfl)
  · replace hr := gIf_f c9 hr
    refine lv_iload_n hx hb dX2_divideAndChoose_67 rfl (lv_at hl 1 rfl) ?_
    refine lv_goto (tgt := 72) hx hb dX2_divideAndChoose_68 (by decide) ?_
    exact w_X2_divideAndChoose_J72 X hr hI (lv_sub hl [0, 3] rfl)
set_option maxHeartbeats 2000000 in
theorem w_X2_divideAndChoose_J41 {h : gH} {n : Nat} {z0 : Nat} {z1 : Int32} {z2 : Int32} {z3 : Int32} {s0 : Int32} {res : Int32 × gH} (X : gXX x base RX2 cX2_divideAndChoose 5 (some .int) p l s m args meth c) {H : Heap} {locs : List Loc} {ls : Array Slot} (hr : f_X2_divideAndChoose_J41 z0 z1 z2 z3 s0 h = some res) (hI : gI x base s.heap h n H locs) (hl : lv_has ls 5 [(0, .ref z0), (1, .int z1), (2, .int z2), (3, .int z3)]) : W p l e rm_X2_divideAndChoose s m args below meth c H locs 0 0 (MQ below (gQ x base (some (.int res.1)) res.2 n) args s 0 0 (fun q => base ≤ q)) (F0 m 41 ls [.int s0]) := by
  have hx := X.1
  have hb := X.2.1
  unfold f_X2_divideAndChoose_J41 at hr
  refine lv_istore (lv' := [(4, .int s0), (0, .ref z0), (1, .int z1), (2, .int z2), (3, .int z3)]) hx hb dX2_divideAndChoose_41 hl (by decide) rfl (fun ls hl => ?_)
  refine lv_aload_n hx hb dX2_divideAndChoose_43 rfl (lv_at hl 1 rfl) ?_
  refine lv_iload hx hb dX2_divideAndChoose_44 (lv_at hl 0 rfl) ?_
  refine lv_if_eq (tgt := 53) hx hb dX2_divideAndChoose_46 (by decide) (fun c9 => ?_) (fun c9 => ?_)
  · replace hr := gIf_t c9 hr
    refine lv_iload_n hx hb dX2_divideAndChoose_53 rfl (lv_at hl 2 rfl) ?_
    exact w_X2_divideAndChoose_J54 X hr hI (lv_sub hl [1, 2, 3, 4, 0] rfl)
  · replace hr := gIf_f c9 hr
    refine lv_iload_n hx hb dX2_divideAndChoose_49 rfl (lv_at hl 3 rfl) ?_
    refine lv_goto (tgt := 54) hx hb dX2_divideAndChoose_50 (by decide) ?_
    exact w_X2_divideAndChoose_J54 X hr hI (lv_sub hl [1, 2, 3, 4, 0] rfl)
set_option maxHeartbeats 2000000 in
theorem w_X2_divideAndChoose {l : Launch} {x : gV} {base : Nat} {z0 : Nat} {z1 : Int32} {z2 : Int32} {h : gH} {n : Nat} {res : Int32 × gH} (hr : f_X2_divideAndChoose z0 z1 z2 h = some res) : gM l yX2_divideAndChoose (ws_ yX2_divideAndChoose cX2_divideAndChoose 5 (some .int)) rm_X2_divideAndChoose x base [.ref z0, .int z1, .int z2] h n (some (.int res.1)) res.2 n 0 0 := by
  refine g_met (cc := cX2_divideAndChoose) (nL := 5) (ret := (some .int)) (by decide) (Nat.le_of_ble_eq_true rfl) (fun p e s m below meth c ls X hnm hl hI => ?_)
  have hl : lv_has ls 5 [(0, .ref z0), (1, .int z1), (2, .int z2)] := hl
  have hx := X.1
  have hb := X.2.1
  unfold f_X2_divideAndChoose at hr
  refine lv_aload_n hx hb dX2_divideAndChoose_0 rfl (lv_at hl 0 rfl) ?_
  refine lv_iload_n hx hb dX2_divideAndChoose_1 rfl (lv_at hl 1 rfl) ?_
  obtain ⟨_, ho1, hr⟩ := gB_i hr
  obtain ⟨v3, hc2, hr⟩ := gB_i hr
  refine gRun_i (g_runV X hI (w_X2_cutFor hc2) ho1 rfl hl (lw_V q1475 q1384 q1385 q97 q1386) rfl rfl hd_X2_cutFor ⟨Nat.le_of_ble_eq_true rfl, Nat.le_of_ble_eq_true rfl⟩ (as := [.int z1]) (rest := []) rfl rfl (Nat.le_of_ble_eq_true rfl) ⟨(Nat.le_refl _), (Nat.le_refl _)⟩ dX2_divideAndChoose_2) (fun H locs hI => ?_)
  refine lv_istore_n (lv' := [(3, .int v3), (0, .ref z0), (1, .int z1), (2, .int z2)]) hx hb dX2_divideAndChoose_5 rfl hl (by decide) rfl (fun ls hl => ?_)
  refine lv_aload_n hx hb dX2_divideAndChoose_6 rfl (lv_at hl 1 rfl) ?_
  refine lv_iload_n hx hb dX2_divideAndChoose_7 rfl (lv_at hl 3 rfl) ?_
  obtain ⟨v5, hc4, hr⟩ := gB_i hr
  refine gRun_a (g_runV X hI (w_X2_sibling hc4) ho1 rfl hl (lw_V q665 q666 q667 q97 q668) rfl rfl hd_X2_sibling ⟨Nat.le_of_ble_eq_true rfl, Nat.le_of_ble_eq_true rfl⟩ (as := [.int z2]) (rest := []) rfl rfl (Nat.le_of_ble_eq_true rfl) ⟨(Nat.le_refl _), (Nat.le_refl _)⟩ dX2_divideAndChoose_8) (fun H locs hI => ?_)
  refine lv_iconst (v := 0) hx hb dX2_divideAndChoose_11 (by decide) ?_
  refine lv_iload_n hx hb dX2_divideAndChoose_12 rfl (lv_at hl 0 rfl) ?_
  refine lv_iconst (v := 1) hx hb dX2_divideAndChoose_13 (by decide) ?_
  refine lv_isub hx hb dX2_divideAndChoose_14 ?_
  obtain ⟨_, ho6, hr⟩ := gB_i hr
  obtain ⟨v8, hc7, hr⟩ := gB_i hr
  refine gRun_i (g_runV X hI (w_X5_worth hc7) ho6 rfl hl (lw_V q1388 q871 q872 q121 q873) rfl rfl hd_X5_worth ⟨Nat.le_of_ble_eq_true rfl, Nat.le_of_ble_eq_true rfl⟩ (as := [.int (0 : Int32), .int (v3 - (1 : Int32))]) (rest := []) rfl rfl (Nat.le_of_ble_eq_true rfl) ⟨(Nat.le_refl _), (Nat.le_refl _)⟩ dX2_divideAndChoose_15) (fun H locs hI => ?_)
  refine lv_aload_n hx hb dX2_divideAndChoose_18 rfl (lv_at hl 1 rfl) ?_
  refine lv_iload_n hx hb dX2_divideAndChoose_19 rfl (lv_at hl 3 rfl) ?_
  obtain ⟨v10, hc9, hr⟩ := gB_i hr
  refine gRun_a (g_runV X hI (w_X2_sibling hc9) ho1 rfl hl (lw_V q665 q666 q667 q97 q668) rfl rfl hd_X2_sibling ⟨Nat.le_of_ble_eq_true rfl, Nat.le_of_ble_eq_true rfl⟩ (as := [.int z2]) (rest := [.int v8]) rfl rfl (Nat.le_of_ble_eq_true rfl) ⟨(Nat.le_refl _), (Nat.le_refl _)⟩ dX2_divideAndChoose_20) (fun H locs hI => ?_)
  refine lv_iload_n hx hb dX2_divideAndChoose_23 rfl (lv_at hl 0 rfl) ?_
  refine lv_aload_n hx hb dX2_divideAndChoose_24 rfl (lv_at hl 1 rfl) ?_
  obtain ⟨v12, hc11, hr⟩ := gB_i hr
  refine gRun_i (g_runV X hI (w_X2_cells hc11) ho1 rfl hl (lw_V q812 q687 q688 q97 q689) rfl rfl hd_X2_cells ⟨Nat.le_of_ble_eq_true rfl, Nat.le_of_ble_eq_true rfl⟩ (as := []) (rest := [.int v3, .ref v10, .int v8]) rfl rfl (Nat.le_of_ble_eq_true rfl) ⟨(Nat.le_refl _), (Nat.le_refl _)⟩ dX2_divideAndChoose_25) (fun H locs hI => ?_)
  refine lv_iconst (v := 1) hx hb dX2_divideAndChoose_28 (by decide) ?_
  refine lv_isub hx hb dX2_divideAndChoose_29 ?_
  obtain ⟨_, ho13, hr⟩ := gB_i hr
  obtain ⟨v15, hc14, hr⟩ := gB_i hr
  refine gRun_i (g_runV X hI (w_X5_worth hc14) ho13 rfl hl (lw_V q1388 q871 q872 q121 q873) rfl rfl hd_X5_worth ⟨Nat.le_of_ble_eq_true rfl, Nat.le_of_ble_eq_true rfl⟩ (as := [.int v3, .int (v12 - (1 : Int32))]) (rest := [.int v8]) rfl rfl (Nat.le_of_ble_eq_true rfl) ⟨(Nat.le_refl _), (Nat.le_refl _)⟩ dX2_divideAndChoose_30) (fun H locs hI => ?_)
  refine lv_icmp_lt (tgt := 40) hx hb dX2_divideAndChoose_33 (by decide) (fun c9 => ?_) (fun c9 => ?_)
  · replace hr := gIf_t c9 hr
    refine lv_iconst (v := 0) hx hb dX2_divideAndChoose_40 (by decide) ?_
    exact w_X2_divideAndChoose_J41 X hr hI (lv_sub hl [1, 2, 3, 0] rfl)
  · replace hr := gIf_f c9 hr
    refine lv_iconst (v := 1) hx hb dX2_divideAndChoose_36 (by decide) ?_
    refine lv_goto (tgt := 41) hx hb dX2_divideAndChoose_37 (by decide) ?_
    exact w_X2_divideAndChoose_J41 X hr hI (lv_sub hl [1, 2, 3, 0] rfl)
abbrev rm_X1_doDivide : Room := { frames := 10, cells := 6, slots := 32, locals := 203 }
theorem hd_X1_doDivide : yX1_doDivide.cls = RX1 ∧ yX1_doDivide.cls ≠ "java/lang/invoke/MethodHandle" ∧ yX1_doDivide.cls ≠ "java/lang/invoke/VarHandle" ∧ (parseMethodDescriptor yX1_doDivide.desc).map (fun d => d.parameters.length) = some 2 := by decide +kernel
set_option maxHeartbeats 2000000 in
theorem w_X1_doDivide {l : Launch} {x : gV} {base : Nat} (hst : l.stackTraces = false) {z0 : Nat} {z1 : Int32} {z2 : Int32} {h : gH} {n : Nat} {res : (Int32 ⊕ gX) × gH × Nat} (hr : f_X1_doDivide z0 z1 z2 h n = some res) : gMX l yX1_doDivide (ws_ yX1_doDivide cX1_doDivide 3 (some .int)) rm_X1_doDivide x base (fun v => some (.int v)) [.ref z0, .int z1, .int z2] h n res 6 32 := by
  refine g_metX (cc := cX1_doDivide) (nL := 3) (ret := (some .int)) (by decide) (Nat.le_of_ble_eq_true rfl) (fun p e s m below meth c ls X hnm hxt hl hI => ?_)
  have hl : lv_has ls 3 [(0, .ref z0), (1, .int z1), (2, .int z2)] := hl
  have hx := X.1
  have hb := X.2.1
  have hcc : 0 + 6 ≤ 6 ∧ 0 + 32 ≤ 32 := ⟨Nat.le_refl _, Nat.le_refl _⟩
  unfold f_X1_doDivide at hr
  refine lv_aload_n hx hb dX1_doDivide_0 rfl (lv_at hl 0 rfl) ?_
  refine lv_iconst (v := 2) hx hb dX1_doDivide_1 (by decide) ?_
  refine g_newI (t := 0) (b := 2) (atype := .int) X hI q512 rfl rfl (by decide) (show 0 + 1 ≤ 6 from by omega) (show 0 + 2 ≤ 32 from by omega) hr dX1_doDivide_2 (fun q1 h2 n3 H locs hI hr => ?_)
  refine lv_dup hx hb dX1_doDivide_4 rfl ?_
  refine lv_iconst (v := 0) hx hb dX1_doDivide_5 (by decide) ?_
  refine lv_iload_n hx hb dX1_doDivide_6 rfl (lv_at hl 1 rfl) ?_
  refine g_iast X hI hr dX1_doDivide_7 (fun h4 H locs hI hr => ?_)
  refine lv_dup hx hb dX1_doDivide_8 rfl ?_
  refine lv_iconst (v := 1) hx hb dX1_doDivide_9 (by decide) ?_
  refine lv_iload_n hx hb dX1_doDivide_10 rfl (lv_at hl 2 rfl) ?_
  refine g_iast X hI hr dX1_doDivide_11 (fun h5 H locs hI hr => ?_)
  obtain ⟨_, ho6, hr⟩ := gB_i hr
  rcases gTX_i hr with ⟨u9, h9, n10, hc7, hr⟩ | ⟨q8, h11, n12, hc7, hr⟩
  · refine gXRet_v (g_xrunV X hI (w_X1_checkSiblings hst hc7) ho6 rfl hl (lw_V q1174 q1176 qs20 q96 q1177) rfl rfl hd_X1_checkSiblings ⟨Nat.le_of_ble_eq_true rfl, Nat.le_of_ble_eq_true rfl⟩ (as := [.ref q1]) (rest := []) rfl rfl (Nat.le_of_ble_eq_true rfl) ⟨(show (0 + 1) + 4 ≤ 6 from by omega), (show (0 + 2) + 24 ≤ 32 from by omega)⟩ dX1_doDivide_12) (fun H locs hI => ?_)
    refine lv_iload_n hx hb dX1_doDivide_15 rfl (lv_at hl 1 rfl) ?_
    refine lv_iload_n hx hb dX1_doDivide_16 rfl (lv_at hl 2 rfl) ?_
    refine lv_icmp_eq (tgt := 24) hx hb dX1_doDivide_17 (by decide) (fun c9 => ?_) (fun c9 => ?_)
    · replace hr := gIf_t c9 hr
      refine lv_iconst (v := 0) hx hb dX1_doDivide_24 (by decide) ?_
      rcases gTX_i hr with ⟨u9, h15, n16, hc13, hr⟩ | ⟨q14, h17, n18, hc13, hr⟩
      · refine gXRet_v (g_xrunS X hI (w_X1_checkState hst hc13) hl (lw_S q1300 q1301 q96 q1302) rfl rfl hd_X1_checkState ⟨Nat.le_of_ble_eq_true rfl, Nat.le_of_ble_eq_true rfl⟩ (as := [.int (0 : Int32)]) (rest := []) rfl rfl (Nat.le_of_ble_eq_true rfl) ⟨(show ((0 + 1) + 4) + 1 ≤ 6 from by omega), (show ((0 + 2) + 24) + 6 ≤ 32 from by omega)⟩ dX1_doDivide_25) (fun H locs hI => ?_)
        refine lv_aload_n hx hb dX1_doDivide_28 rfl (lv_at hl 0 rfl) ?_
        refine g_getA (C := RX1) (T := TX1) (N := 10) X hI in_X1 rfl 4 (by decide) q760 (fun _ h9 => h9) hr dX1_doDivide_29 (fun v19 hr => ?_)
        refine lv_iload_n hx hb dX1_doDivide_32 rfl (lv_at hl 1 rfl) ?_
        refine lv_iload_n hx hb dX1_doDivide_33 rfl (lv_at hl 2 rfl) ?_
        obtain ⟨_, ho20, hr⟩ := gB_i hr
        obtain ⟨v22, h23, hc21, hr⟩ := gT2_i hr
        refine gRun_i (g_runV X hI (w_X2_divideAndChoose hc21) ho20 rfl hl (lw_V q1471 q1472 q1473 q97 q1474) rfl rfl hd_X2_divideAndChoose ⟨Nat.le_of_ble_eq_true rfl, Nat.le_of_ble_eq_true rfl⟩ (as := [.int z1, .int z2]) (rest := []) rfl rfl (Nat.le_of_ble_eq_true rfl) ⟨(show (((0 + 1) + 4) + 1) + 0 ≤ 6 from by omega), (show (((0 + 2) + 24) + 6) + 0 ≤ 32 from by omega)⟩ dX1_doDivide_34) (fun H locs hI => ?_)
        have hr := gS_i hr
        subst hr
        exact g_xiret X hI rfl (show ((((0 + 1) + 4) + 1) + 0) ≤ 6 from by omega) (show ((((0 + 2) + 24) + 6) + 0) ≤ 32 from by omega) dX1_doDivide_37
      · refine gXThr (k := q14.1) (q := q14.2) (g_xrunS X hI (w_X1_checkState hst hc13) hl (lw_S q1300 q1301 q96 q1302) rfl rfl hd_X1_checkState ⟨Nat.le_of_ble_eq_true rfl, Nat.le_of_ble_eq_true rfl⟩ (as := [.int (0 : Int32)]) (rest := []) rfl rfl (Nat.le_of_ble_eq_true rfl) ⟨(show ((0 + 1) + 4) + 1 ≤ 6 from by omega), (show ((0 + 2) + 24) + 6 ≤ 32 from by omega)⟩ dX1_doDivide_25) (fun H locs hI hxc => ?_)
        have hr := gS_i hr
        subst hr
        exact g_xout X hI hxc hxt gPs_0 (show (((0 + 1) + 4) + 1) ≤ 6 from by omega) (show (((0 + 2) + 24) + 6) ≤ 32 from by omega)
    · replace hr := gIf_f c9 hr
      refine lv_iconst (v := 1) hx hb dX1_doDivide_20 (by decide) ?_
      refine lv_goto (tgt := 25) hx hb dX1_doDivide_21 (by decide) ?_
      rcases gTX_i hr with ⟨u9, h26, n27, hc24, hr⟩ | ⟨q25, h28, n29, hc24, hr⟩
      · refine gXRet_v (g_xrunS X hI (w_X1_checkState hst hc24) hl (lw_S q1300 q1301 q96 q1302) rfl rfl hd_X1_checkState ⟨Nat.le_of_ble_eq_true rfl, Nat.le_of_ble_eq_true rfl⟩ (as := [.int (1 : Int32)]) (rest := []) rfl rfl (Nat.le_of_ble_eq_true rfl) ⟨(show ((0 + 1) + 4) + 1 ≤ 6 from by omega), (show ((0 + 2) + 24) + 6 ≤ 32 from by omega)⟩ dX1_doDivide_25) (fun H locs hI => ?_)
        refine lv_aload_n hx hb dX1_doDivide_28 rfl (lv_at hl 0 rfl) ?_
        refine g_getA (C := RX1) (T := TX1) (N := 10) X hI in_X1 rfl 4 (by decide) q760 (fun _ h9 => h9) hr dX1_doDivide_29 (fun v30 hr => ?_)
        refine lv_iload_n hx hb dX1_doDivide_32 rfl (lv_at hl 1 rfl) ?_
        refine lv_iload_n hx hb dX1_doDivide_33 rfl (lv_at hl 2 rfl) ?_
        obtain ⟨_, ho31, hr⟩ := gB_i hr
        obtain ⟨v33, h34, hc32, hr⟩ := gT2_i hr
        refine gRun_i (g_runV X hI (w_X2_divideAndChoose hc32) ho31 rfl hl (lw_V q1471 q1472 q1473 q97 q1474) rfl rfl hd_X2_divideAndChoose ⟨Nat.le_of_ble_eq_true rfl, Nat.le_of_ble_eq_true rfl⟩ (as := [.int z1, .int z2]) (rest := []) rfl rfl (Nat.le_of_ble_eq_true rfl) ⟨(show (((0 + 1) + 4) + 1) + 0 ≤ 6 from by omega), (show (((0 + 2) + 24) + 6) + 0 ≤ 32 from by omega)⟩ dX1_doDivide_34) (fun H locs hI => ?_)
        have hr := gS_i hr
        subst hr
        exact g_xiret X hI rfl (show ((((0 + 1) + 4) + 1) + 0) ≤ 6 from by omega) (show ((((0 + 2) + 24) + 6) + 0) ≤ 32 from by omega) dX1_doDivide_37
      · refine gXThr (k := q25.1) (q := q25.2) (g_xrunS X hI (w_X1_checkState hst hc24) hl (lw_S q1300 q1301 q96 q1302) rfl rfl hd_X1_checkState ⟨Nat.le_of_ble_eq_true rfl, Nat.le_of_ble_eq_true rfl⟩ (as := [.int (1 : Int32)]) (rest := []) rfl rfl (Nat.le_of_ble_eq_true rfl) ⟨(show ((0 + 1) + 4) + 1 ≤ 6 from by omega), (show ((0 + 2) + 24) + 6 ≤ 32 from by omega)⟩ dX1_doDivide_25) (fun H locs hI hxc => ?_)
        have hr := gS_i hr
        subst hr
        exact g_xout X hI hxc hxt gPs_0 (show (((0 + 1) + 4) + 1) ≤ 6 from by omega) (show (((0 + 2) + 24) + 6) ≤ 32 from by omega)
  · refine gXThr (k := q8.1) (q := q8.2) (g_xrunV X hI (w_X1_checkSiblings hst hc7) ho6 rfl hl (lw_V q1174 q1176 qs20 q96 q1177) rfl rfl hd_X1_checkSiblings ⟨Nat.le_of_ble_eq_true rfl, Nat.le_of_ble_eq_true rfl⟩ (as := [.ref q1]) (rest := []) rfl rfl (Nat.le_of_ble_eq_true rfl) ⟨(show (0 + 1) + 4 ≤ 6 from by omega), (show (0 + 2) + 24 ≤ 32 from by omega)⟩ dX1_doDivide_12) (fun H locs hI hxc => ?_)
    have hr := gS_i hr
    subst hr
    exact g_xout X hI hxc hxt gPs_0 (show ((0 + 1) + 4) ≤ 6 from by omega) (show ((0 + 2) + 24) ≤ 32 from by omega)
abbrev rm_X1_divideAndChoose : Room := { frames := 11, cells := 11, slots := 74, locals := 225 }
theorem hd_X1_divideAndChoose : yX1_divideAndChoose.cls = RX1 ∧ yX1_divideAndChoose.cls ≠ "java/lang/invoke/MethodHandle" ∧ yX1_divideAndChoose.cls ≠ "java/lang/invoke/VarHandle" ∧ (parseMethodDescriptor yX1_divideAndChoose.desc).map (fun d => d.parameters.length) = some 2 := by decide +kernel
set_option maxHeartbeats 2000000 in
theorem w_X1_divideAndChoose {l : Launch} {x : gV} {base : Nat} (hst : l.stackTraces = false) {z0 : Nat} {z1 : Int32} {z2 : Int32} {h : gH} {n : Nat} {res : (Int32 ⊕ gX) × gH × Nat} (hr : f_X1_divideAndChoose z0 z1 z2 h n = some res) : gMX l yX1_divideAndChoose (ws_ yX1_divideAndChoose cX1_divideAndChoose 4 (some .int)) rm_X1_divideAndChoose x base (fun v => some (.int v)) [.ref z0, .int z1, .int z2] h n res 11 74 := by
  refine g_metX (cc := cX1_divideAndChoose) (nL := 4) (ret := (some .int)) (by decide) (Nat.le_of_ble_eq_true rfl) (fun p e s m below meth c ls X hnm hxt hl hI => ?_)
  have hl : lv_has ls 4 [(0, .ref z0), (1, .int z1), (2, .int z2)] := hl
  have hx := X.1
  have hb := X.2.1
  have hcc : 0 + 11 ≤ 11 ∧ 0 + 74 ≤ 74 := ⟨Nat.le_refl _, Nat.le_refl _⟩
  unfold f_X1_divideAndChoose at hr
  refine g_newO (C := RX2) (T := TX2) (N := 3) (ci := 0) (fs := [.null, .null, .null]) X hI in_X2 tyX2 tyX2_ok q142 q143 q97 rfl (g_dflt3 rfl rfl rfl) (show 0 + 1 ≤ 11 from by omega) (show 0 + 3 ≤ 74 from by omega) hr dX1_divideAndChoose_0 (fun q1 h2 n3 H locs hI hr => ?_)
  refine lv_dup hx hb dX1_divideAndChoose_3 rfl ?_
  refine lv_aload_n hx hb dX1_divideAndChoose_4 rfl (lv_at hl 0 rfl) ?_
  refine g_getA (C := RX1) (T := TX1) (N := 10) X hI in_X1 rfl 4 (by decide) q760 (fun _ h9 => h9) hr dX1_divideAndChoose_5 (fun v4 hr => ?_)
  obtain ⟨h6, n7, hc5, hr⟩ := gT2_i hr
  refine gRun_v (g_runI X hI (w_X2_init_2 hst hc5) hl q979 q995 q978 q97 rfl rfl rfl hd_X2_init_2 ⟨Nat.le_of_ble_eq_true rfl, Nat.le_of_ble_eq_true rfl⟩ (as := [.ref v4]) (rest := [.ref q1]) rfl rfl (Nat.le_of_ble_eq_true rfl) ⟨(show (0 + 1) + 4 ≤ 11 from by omega), (show (0 + 3) + 39 ≤ 74 from by omega)⟩ dX1_divideAndChoose_8) (fun H locs hI => ?_)
  refine lv_astore_n (lv' := [(3, .ref q1), (0, .ref z0), (1, .int z1), (2, .int z2)]) hx hb dX1_divideAndChoose_11 rfl hl (by decide) rfl (fun ls hl => ?_)
  refine lv_aload_n hx hb dX1_divideAndChoose_12 rfl (lv_at hl 1 rfl) ?_
  refine lv_aload_n hx hb dX1_divideAndChoose_13 rfl (lv_at hl 0 rfl) ?_
  refine lv_aload_n hx hb dX1_divideAndChoose_14 rfl (lv_at hl 1 rfl) ?_
  refine lv_iload_n hx hb dX1_divideAndChoose_15 rfl (lv_at hl 2 rfl) ?_
  refine lv_iload_n hx hb dX1_divideAndChoose_16 rfl (lv_at hl 3 rfl) ?_
  obtain ⟨_, ho8, hr⟩ := gB_i hr
  rcases gTX_i hr with ⟨v10, h12, n13, hc9, hr⟩ | ⟨q11, h14, n15, hc9, hr⟩
  · refine gXRet_i (g_xrunV X hI (w_X1_doDivide hst hc9) ho8 rfl hl (lw_V q1467 q1469 qs27 q96 q1470) rfl rfl hd_X1_doDivide ⟨Nat.le_of_ble_eq_true rfl, Nat.le_of_ble_eq_true rfl⟩ (as := [.int z1, .int z2]) (rest := [.ref q1, .ref z0]) rfl rfl (Nat.le_of_ble_eq_true rfl) ⟨(show ((0 + 1) + 4) + 6 ≤ 11 from by omega), (show ((0 + 3) + 39) + 32 ≤ 74 from by omega)⟩ dX1_divideAndChoose_17) (fun H locs hI => ?_)
    obtain ⟨_, ho16, hr⟩ := gB_i hr
    obtain ⟨v18, h19, hc17, hr⟩ := gT2_i hr
    refine gRun_i (g_runV X hI (w_X1_record hc17) ho16 rfl hl (lw_V q1009 q1011 qs12 q96 q1012) rfl rfl hd_X1_record ⟨Nat.le_of_ble_eq_true rfl, Nat.le_of_ble_eq_true rfl⟩ (as := [.ref q1, .int v10]) (rest := []) rfl rfl (Nat.le_of_ble_eq_true rfl) ⟨(show (((0 + 1) + 4) + 6) + 0 ≤ 11 from by omega), (show (((0 + 3) + 39) + 32) + 0 ≤ 74 from by omega)⟩ dX1_divideAndChoose_20) (fun H locs hI => ?_)
    have hr := gS_i hr
    subst hr
    exact g_xiret X hI rfl (show ((((0 + 1) + 4) + 6) + 0) ≤ 11 from by omega) (show ((((0 + 3) + 39) + 32) + 0) ≤ 74 from by omega) dX1_divideAndChoose_23
  · refine gXThr (k := q11.1) (q := q11.2) (g_xrunV X hI (w_X1_doDivide hst hc9) ho8 rfl hl (lw_V q1467 q1469 qs27 q96 q1470) rfl rfl hd_X1_doDivide ⟨Nat.le_of_ble_eq_true rfl, Nat.le_of_ble_eq_true rfl⟩ (as := [.int z1, .int z2]) (rest := [.ref q1, .ref z0]) rfl rfl (Nat.le_of_ble_eq_true rfl) ⟨(show ((0 + 1) + 4) + 6 ≤ 11 from by omega), (show ((0 + 3) + 39) + 32 ≤ 74 from by omega)⟩ dX1_divideAndChoose_17) (fun H locs hI hxc => ?_)
    have hr := gS_i hr
    subst hr
    exact g_xout X hI hxc hxt gPs_0 (show (((0 + 1) + 4) + 6) ≤ 11 from by omega) (show (((0 + 3) + 39) + 32) ≤ 74 from by omega)
abbrev rm_X1_doRoundRobin : Room := { frames := 10, cells := 5, slots := 25, locals := 203 }
theorem hd_X1_doRoundRobin : yX1_doRoundRobin.cls = RX1 ∧ yX1_doRoundRobin.cls ≠ "java/lang/invoke/MethodHandle" ∧ yX1_doRoundRobin.cls ≠ "java/lang/invoke/VarHandle" ∧ (parseMethodDescriptor yX1_doRoundRobin.desc).map (fun d => d.parameters.length) = some 1 := by decide +kernel
set_option maxHeartbeats 2000000 in
theorem w_X1_doRoundRobin {l : Launch} {x : gV} {base : Nat} (hst : l.stackTraces = false) {z0 : Nat} {z1 : Int32} {h : gH} {n : Nat} {res : (Int32 ⊕ gX) × gH × Nat} (hr : f_X1_doRoundRobin z0 z1 h n = some res) : gMX l yX1_doRoundRobin (ws_ yX1_doRoundRobin cX1_doRoundRobin 2 (some .int)) rm_X1_doRoundRobin x base (fun v => some (.int v)) [.ref z0, .int z1] h n res 5 25 := by
  refine g_metX (cc := cX1_doRoundRobin) (nL := 2) (ret := (some .int)) (by decide) (Nat.le_of_ble_eq_true rfl) (fun p e s m below meth c ls X hnm hxt hl hI => ?_)
  have hl : lv_has ls 2 [(0, .ref z0), (1, .int z1)] := hl
  have hx := X.1
  have hb := X.2.1
  have hcc : 0 + 5 ≤ 5 ∧ 0 + 25 ≤ 25 := ⟨Nat.le_refl _, Nat.le_refl _⟩
  unfold f_X1_doRoundRobin at hr
  refine lv_aload_n hx hb dX1_doRoundRobin_0 rfl (lv_at hl 0 rfl) ?_
  refine lv_iconst (v := 1) hx hb dX1_doRoundRobin_1 (by decide) ?_
  refine g_newI (t := 0) (b := 1) (atype := .int) X hI q512 rfl rfl (by decide) (show 0 + 1 ≤ 5 from by omega) (show 0 + 1 ≤ 25 from by omega) hr dX1_doRoundRobin_2 (fun q1 h2 n3 H locs hI hr => ?_)
  refine lv_dup hx hb dX1_doRoundRobin_4 rfl ?_
  refine lv_iconst (v := 0) hx hb dX1_doRoundRobin_5 (by decide) ?_
  refine lv_iload_n hx hb dX1_doRoundRobin_6 rfl (lv_at hl 1 rfl) ?_
  refine g_iast X hI hr dX1_doRoundRobin_7 (fun h4 H locs hI hr => ?_)
  obtain ⟨_, ho5, hr⟩ := gB_i hr
  rcases gTX_i hr with ⟨u9, h8, n9, hc6, hr⟩ | ⟨q7, h10, n11, hc6, hr⟩
  · refine gXRet_v (g_xrunV X hI (w_X1_checkSiblings hst hc6) ho5 rfl hl (lw_V q1174 q1176 qs20 q96 q1177) rfl rfl hd_X1_checkSiblings ⟨Nat.le_of_ble_eq_true rfl, Nat.le_of_ble_eq_true rfl⟩ (as := [.ref q1]) (rest := []) rfl rfl (Nat.le_of_ble_eq_true rfl) ⟨(show (0 + 1) + 4 ≤ 5 from by omega), (show (0 + 1) + 24 ≤ 25 from by omega)⟩ dX1_doRoundRobin_8) (fun H locs hI => ?_)
    refine lv_aload_n hx hb dX1_doRoundRobin_11 rfl (lv_at hl 0 rfl) ?_
    refine g_getA (C := RX1) (T := TX1) (N := 10) X hI in_X1 rfl 4 (by decide) q760 (fun _ h9 => h9) hr dX1_doRoundRobin_12 (fun v12 hr => ?_)
    refine lv_iload_n hx hb dX1_doRoundRobin_15 rfl (lv_at hl 1 rfl) ?_
    obtain ⟨_, ho13, hr⟩ := gB_i hr
    obtain ⟨v15, h16, hc14, hr⟩ := gT2_i hr
    refine gRun_i (g_runV X hI (w_X2_roundRobin hc14) ho13 rfl hl (lw_V q983 q984 q985 q97 q986) rfl rfl hd_X2_roundRobin ⟨Nat.le_of_ble_eq_true rfl, Nat.le_of_ble_eq_true rfl⟩ (as := [.int z1]) (rest := []) rfl rfl (Nat.le_of_ble_eq_true rfl) ⟨(show ((0 + 1) + 4) + 0 ≤ 5 from by omega), (show ((0 + 1) + 24) + 0 ≤ 25 from by omega)⟩ dX1_doRoundRobin_16) (fun H locs hI => ?_)
    have hr := gS_i hr
    subst hr
    exact g_xiret X hI rfl (show (((0 + 1) + 4) + 0) ≤ 5 from by omega) (show (((0 + 1) + 24) + 0) ≤ 25 from by omega) dX1_doRoundRobin_19
  · refine gXThr (k := q7.1) (q := q7.2) (g_xrunV X hI (w_X1_checkSiblings hst hc6) ho5 rfl hl (lw_V q1174 q1176 qs20 q96 q1177) rfl rfl hd_X1_checkSiblings ⟨Nat.le_of_ble_eq_true rfl, Nat.le_of_ble_eq_true rfl⟩ (as := [.ref q1]) (rest := []) rfl rfl (Nat.le_of_ble_eq_true rfl) ⟨(show (0 + 1) + 4 ≤ 5 from by omega), (show (0 + 1) + 24 ≤ 25 from by omega)⟩ dX1_doRoundRobin_8) (fun H locs hI hxc => ?_)
    have hr := gS_i hr
    subst hr
    exact g_xout X hI hxc hxt gPs_0 (show ((0 + 1) + 4) ≤ 5 from by omega) (show ((0 + 1) + 24) ≤ 25 from by omega)
abbrev rm_X1_roundRobin : Room := { frames := 11, cells := 10, slots := 67, locals := 224 }
theorem hd_X1_roundRobin : yX1_roundRobin.cls = RX1 ∧ yX1_roundRobin.cls ≠ "java/lang/invoke/MethodHandle" ∧ yX1_roundRobin.cls ≠ "java/lang/invoke/VarHandle" ∧ (parseMethodDescriptor yX1_roundRobin.desc).map (fun d => d.parameters.length) = some 1 := by decide +kernel
set_option maxHeartbeats 2000000 in
theorem w_X1_roundRobin {l : Launch} {x : gV} {base : Nat} (hst : l.stackTraces = false) {z0 : Nat} {z1 : Int32} {h : gH} {n : Nat} {res : (Int32 ⊕ gX) × gH × Nat} (hr : f_X1_roundRobin z0 z1 h n = some res) : gMX l yX1_roundRobin (ws_ yX1_roundRobin cX1_roundRobin 3 (some .int)) rm_X1_roundRobin x base (fun v => some (.int v)) [.ref z0, .int z1] h n res 10 67 := by
  refine g_metX (cc := cX1_roundRobin) (nL := 3) (ret := (some .int)) (by decide) (Nat.le_of_ble_eq_true rfl) (fun p e s m below meth c ls X hnm hxt hl hI => ?_)
  have hl : lv_has ls 3 [(0, .ref z0), (1, .int z1)] := hl
  have hx := X.1
  have hb := X.2.1
  have hcc : 0 + 10 ≤ 10 ∧ 0 + 67 ≤ 67 := ⟨Nat.le_refl _, Nat.le_refl _⟩
  unfold f_X1_roundRobin at hr
  refine g_newO (C := RX2) (T := TX2) (N := 3) (ci := 0) (fs := [.null, .null, .null]) X hI in_X2 tyX2 tyX2_ok q142 q143 q97 rfl (g_dflt3 rfl rfl rfl) (show 0 + 1 ≤ 10 from by omega) (show 0 + 3 ≤ 67 from by omega) hr dX1_roundRobin_0 (fun q1 h2 n3 H locs hI hr => ?_)
  refine lv_dup hx hb dX1_roundRobin_3 rfl ?_
  refine lv_aload_n hx hb dX1_roundRobin_4 rfl (lv_at hl 0 rfl) ?_
  refine g_getA (C := RX1) (T := TX1) (N := 10) X hI in_X1 rfl 4 (by decide) q760 (fun _ h9 => h9) hr dX1_roundRobin_5 (fun v4 hr => ?_)
  obtain ⟨h6, n7, hc5, hr⟩ := gT2_i hr
  refine gRun_v (g_runI X hI (w_X2_init_2 hst hc5) hl q979 q995 q978 q97 rfl rfl rfl hd_X2_init_2 ⟨Nat.le_of_ble_eq_true rfl, Nat.le_of_ble_eq_true rfl⟩ (as := [.ref v4]) (rest := [.ref q1]) rfl rfl (Nat.le_of_ble_eq_true rfl) ⟨(show (0 + 1) + 4 ≤ 10 from by omega), (show (0 + 3) + 39 ≤ 67 from by omega)⟩ dX1_roundRobin_8) (fun H locs hI => ?_)
  refine lv_astore_n (lv' := [(2, .ref q1), (0, .ref z0), (1, .int z1)]) hx hb dX1_roundRobin_11 rfl hl (by decide) rfl (fun ls hl => ?_)
  refine lv_aload_n hx hb dX1_roundRobin_12 rfl (lv_at hl 1 rfl) ?_
  refine lv_aload_n hx hb dX1_roundRobin_13 rfl (lv_at hl 0 rfl) ?_
  refine lv_aload_n hx hb dX1_roundRobin_14 rfl (lv_at hl 1 rfl) ?_
  refine lv_iload_n hx hb dX1_roundRobin_15 rfl (lv_at hl 2 rfl) ?_
  obtain ⟨_, ho8, hr⟩ := gB_i hr
  rcases gTX_i hr with ⟨v10, h12, n13, hc9, hr⟩ | ⟨q11, h14, n15, hc9, hr⟩
  · refine gXRet_i (g_xrunV X hI (w_X1_doRoundRobin hst hc9) ho8 rfl hl (lw_V q1483 q1485 qs28 q96 q1486) rfl rfl hd_X1_doRoundRobin ⟨Nat.le_of_ble_eq_true rfl, Nat.le_of_ble_eq_true rfl⟩ (as := [.int z1]) (rest := [.ref q1, .ref z0]) rfl rfl (Nat.le_of_ble_eq_true rfl) ⟨(show ((0 + 1) + 4) + 5 ≤ 10 from by omega), (show ((0 + 3) + 39) + 25 ≤ 67 from by omega)⟩ dX1_roundRobin_16) (fun H locs hI => ?_)
    obtain ⟨_, ho16, hr⟩ := gB_i hr
    obtain ⟨v18, h19, hc17, hr⟩ := gT2_i hr
    refine gRun_i (g_runV X hI (w_X1_record hc17) ho16 rfl hl (lw_V q1009 q1011 qs12 q96 q1012) rfl rfl hd_X1_record ⟨Nat.le_of_ble_eq_true rfl, Nat.le_of_ble_eq_true rfl⟩ (as := [.ref q1, .int v10]) (rest := []) rfl rfl (Nat.le_of_ble_eq_true rfl) ⟨(show (((0 + 1) + 4) + 5) + 0 ≤ 10 from by omega), (show (((0 + 3) + 39) + 25) + 0 ≤ 67 from by omega)⟩ dX1_roundRobin_19) (fun H locs hI => ?_)
    have hr := gS_i hr
    subst hr
    exact g_xiret X hI rfl (show ((((0 + 1) + 4) + 5) + 0) ≤ 10 from by omega) (show ((((0 + 3) + 39) + 25) + 0) ≤ 67 from by omega) dX1_roundRobin_22
  · refine gXThr (k := q11.1) (q := q11.2) (g_xrunV X hI (w_X1_doRoundRobin hst hc9) ho8 rfl hl (lw_V q1483 q1485 qs28 q96 q1486) rfl rfl hd_X1_doRoundRobin ⟨Nat.le_of_ble_eq_true rfl, Nat.le_of_ble_eq_true rfl⟩ (as := [.int z1]) (rest := [.ref q1, .ref z0]) rfl rfl (Nat.le_of_ble_eq_true rfl) ⟨(show ((0 + 1) + 4) + 5 ≤ 10 from by omega), (show ((0 + 3) + 39) + 25 ≤ 67 from by omega)⟩ dX1_roundRobin_16) (fun H locs hI hxc => ?_)
    have hr := gS_i hr
    subst hr
    exact g_xout X hI hxc hxt gPs_0 (show (((0 + 1) + 4) + 5) ≤ 10 from by omega) (show (((0 + 3) + 39) + 25) ≤ 67 from by omega)
abbrev rm_X1_doRotate : Room := { frames := 10, cells := 9, slots := 47, locals := 222 }
theorem hd_X1_doRotate : yX1_doRotate.cls = RX1 ∧ yX1_doRotate.cls ≠ "java/lang/invoke/MethodHandle" ∧ yX1_doRotate.cls ≠ "java/lang/invoke/VarHandle" ∧ (parseMethodDescriptor yX1_doRotate.desc).map (fun d => d.parameters.length) = some 1 := by decide +kernel
set_option maxHeartbeats 2000000 in
theorem w_X1_doRotate_L123 {n : Nat} {z0 : Nat} {z2 : Nat} {z3 : Nat} {res : (Int32 ⊕ gX) × gH × Nat} (X : gXX x base RX1 cX1_doRotate 6 (some .int) p l s m args meth c) (hst : l.stackTraces = false) (hxt : c.exceptionTable.toList = tableOf []) : ∀ (k : Nat) {z4 : Int32} {h : gH} {H : Heap} {locs : List Loc} {ls : Array Slot} {cells slots : Nat}, gL2 (f_X1_doRotate_L123 z0 z2 z3 n) k z4 h = some res → gI x base s.heap h n H locs → lv_has ls 6 [(0, .ref z0), (2, .ref z2), (3, .ref z3), (4, .int z4)] → (cells + (k * 0 + (0)) ≤ 9 ∧ slots + (k * 0 + (0)) ≤ 47) → W p l e rm_X1_doRotate s m args below meth c H locs cells slots (vx_MQ below (gXQ x base (fun v => some (.int v)) res) (gXC x base res) args s 9 47 (fun q => base ≤ q)) (F0 m 123 ls []) := by
  have hx := X.1
  have hb := X.2.1
  intro k
  induction k with
  | zero =>
    intros
    rename_i hr _ _ _
    exact nomatch (show (none : Option _) = some _ from hr)
  | succ k ih =>
    intro z4 h H locs ls cells slots hr hI hl hcc
    replace hr : f_X1_doRotate_L123 z0 z2 z3 n (gL2 (f_X1_doRotate_L123 z0 z2 z3 n) k) z4 h = some res := hr
    unfold f_X1_doRotate_L123 at hr
    refine lv_iload hx hb dX1_doRotate_123 (lv_at hl 3 rfl) ?_
    refine lv_aload_n hx hb dX1_doRotate_125 rfl (lv_at hl 0 rfl) ?_
    refine g_getA (C := RX1) (T := TX1) (N := 10) X hI in_X1 rfl 4 (by decide) q760 (fun _ h9 => h9) hr dX1_doRotate_126 (fun v30 hr => ?_)
    obtain ⟨_, ho31, hr⟩ := gB_i hr
    obtain ⟨v33, hc32, hr⟩ := gB_i hr
    refine gRun_i (g_runV X hI (w_X2_cells hc32) ho31 rfl hl (lw_V q686 q687 q688 q97 q689) rfl rfl hd_X2_cells ⟨Nat.le_of_ble_eq_true rfl, Nat.le_of_ble_eq_true rfl⟩ (as := []) (rest := [.int z4]) rfl rfl (Nat.le_of_ble_eq_true rfl) ⟨(show cells + 0 ≤ 9 from by omega), (show slots + 0 ≤ 47 from by omega)⟩ dX1_doRotate_129) (fun H locs hI => ?_)
    refine lv_icmp_ge (tgt := 177) hx hb dX1_doRotate_132 (by decide) (fun c9 => ?_) (fun c9 => ?_)
    · replace hr := gIf_t c9 hr
      refine lv_aload_n hx hb dX1_doRotate_177 rfl (lv_at hl 1 rfl) ?_
      refine g_getI (C := RX7) (T := TX7) (N := 4) X hI in_X7 rfl 3 (by decide) q1341 (fun _ h9 => h9) hr dX1_doRotate_178 (fun v34 hr => ?_)
      have hr := gS_i hr
      subst hr
      exact g_xiret X hI rfl (show (cells + 0) ≤ 9 from by omega) (show (slots + 0) ≤ 47 from by omega) dX1_doRotate_181
    · replace hr := gIf_f c9 hr
      refine lv_aload_n hx hb dX1_doRotate_135 rfl (lv_at hl 0 rfl) ?_
      refine g_getA (C := RX1) (T := TX1) (N := 10) X hI in_X1 rfl 4 (by decide) q760 (fun _ h9 => h9) hr dX1_doRotate_136 (fun v35 hr => ?_)
      refine g_getA (C := RX2) (T := TX2) (N := 3) X hI in_X2 rfl 1 (by decide) q502 (fun _ h9 => h9) hr dX1_doRotate_139 (fun v36 hr => ?_)
      refine lv_iload hx hb dX1_doRotate_142 (lv_at hl 3 rfl) ?_
      refine g_iald X hI hr dX1_doRotate_144 (fun v37 hr => ?_)
      refine lv_istore (lv' := [(5, .int v37), (0, .ref z0), (2, .ref z2), (3, .ref z3), (4, .int z4)]) hx hb dX1_doRotate_145 hl (by decide) rfl (fun ls hl => ?_)
      refine lv_aload_n hx hb dX1_doRotate_147 rfl (lv_at hl 1 rfl) ?_
      refine g_getA (C := RX1) (T := TX1) (N := 10) X hI in_X1 rfl 4 (by decide) q760 (fun _ h9 => h9) hr dX1_doRotate_148 (fun v38 hr => ?_)
      refine g_getA (C := RX2) (T := TX2) (N := 3) X hI in_X2 rfl 1 (by decide) q502 (fun _ h9 => h9) hr dX1_doRotate_151 (fun v39 hr => ?_)
      refine lv_iload hx hb dX1_doRotate_154 (lv_at hl 4 rfl) ?_
      refine lv_iload hx hb dX1_doRotate_156 (lv_at hl 0 rfl) ?_
      refine lv_iconst (v := (-1)) hx hb dX1_doRotate_158 (by decide) ?_
      refine lv_icmp_ne (tgt := 166) hx hb dX1_doRotate_159 (by decide) (fun c9 => ?_) (fun c9 => ?_)
      · replace hr := gIf_f c9 hr
        refine lv_aload_n hx hb dX1_doRotate_166 rfl (lv_at hl 3 rfl) ?_
        refine lv_iload hx hb dX1_doRotate_167 (lv_at hl 0 rfl) ?_
        refine g_iald X hI hr dX1_doRotate_169 (fun v40 hr => ?_)
        refine g_iast X hI hr dX1_doRotate_170 (fun h41 H locs hI hr => ?_)
        refine lv_iinc (v := (z4 + (1 : Int32))) (lv' := [(4, .int (z4 + (1 : Int32))), (5, .int v37), (0, .ref z0), (2, .ref z2), (3, .ref z3)]) hx hb dX1_doRotate_171 hl (k := 4) rfl (g_inc (by decide)) (by decide) rfl (fun ls hl => ?_)
        refine lv_goto (tgt := 123) hx hb dX1_doRotate_174 (by decide) ?_
        exact ih hr hI (lv_sub hl [2, 3, 4, 0] rfl) (by omega)
      · replace hr := gIf_t c9 hr
        refine lv_iconst (v := (-1)) hx hb dX1_doRotate_162 (by decide) ?_
        refine lv_goto (tgt := 170) hx hb dX1_doRotate_163 (by decide) ?_
        refine g_iast X hI hr dX1_doRotate_170 (fun h42 H locs hI hr => ?_)
        refine lv_iinc (v := (z4 + (1 : Int32))) (lv' := [(4, .int (z4 + (1 : Int32))), (5, .int v37), (0, .ref z0), (2, .ref z2), (3, .ref z3)]) hx hb dX1_doRotate_171 hl (k := 4) rfl (g_inc (by decide)) (by decide) rfl (fun ls hl => ?_)
        refine lv_goto (tgt := 123) hx hb dX1_doRotate_174 (by decide) ?_
        exact ih hr hI (lv_sub hl [2, 3, 4, 0] rfl) (by omega)
set_option maxHeartbeats 2000000 in
theorem w_X1_doRotate_J120 {h : gH} {n : Nat} {z0 : Nat} {z2 : Nat} {z3 : Nat} {res : (Int32 ⊕ gX) × gH × Nat} (X : gXX x base RX1 cX1_doRotate 6 (some .int) p l s m args meth c) (hst : l.stackTraces = false) (hxt : c.exceptionTable.toList = tableOf []) {H : Heap} {locs : List Loc} {ls : Array Slot} {cells slots : Nat} (hr : f_X1_doRotate_J120 z0 z2 z3 h n = some res) (hI : gI x base s.heap h n H locs) (hl : lv_has ls 6 [(0, .ref z0), (2, .ref z2), (3, .ref z3)]) (hcc : cells + (0) ≤ 9 ∧ slots + (0) ≤ 47) : W p l e rm_X1_doRotate s m args below meth c H locs cells slots (vx_MQ below (gXQ x base (fun v => some (.int v)) res) (gXC x base res) args s 9 47 (fun q => base ≤ q)) (F0 m 120 ls []) := by
  have hx := X.1
  have hb := X.2.1
  unfold f_X1_doRotate_J120 at hr
  refine lv_iconst (v := 0) hx hb dX1_doRotate_120 (by decide) ?_
  refine lv_istore (lv' := [(4, .int (0 : Int32)), (0, .ref z0), (2, .ref z2), (3, .ref z3)]) hx hb dX1_doRotate_121 hl (by decide) rfl (fun ls hl => ?_)
  exact w_X1_doRotate_L123 X hst hxt gN hr hI (lv_sub hl [1, 2, 3, 0] rfl) (by omega)
set_option maxHeartbeats 2000000 in
theorem w_X1_doRotate_J102 {h : gH} {n : Nat} {r70 : Int32 → gH → Option ((Int32 ⊕ gX) × gH × Nat)} {z0 : Nat} {z1 : Int32} {z2 : Nat} {z3 : Nat} {b70 : Nat} {d70 : Nat} {z4 : Int32} {s0 : Int32} {res : (Int32 ⊕ gX) × gH × Nat} (X : gXX x base RX1 cX1_doRotate 6 (some .int) p l s m args meth c) (hst : l.stackTraces = false) (hxt : c.exceptionTable.toList = tableOf []) (Hr70 : ∀ {z4 : Int32} {h : gH} {H : Heap} {locs : List Loc} {ls : Array Slot} {cells slots : Nat}, r70 z4 h = some res → gI x base s.heap h n H locs → lv_has ls 6 [(0, .ref z0), (1, .int z1), (2, .ref z2), (3, .ref z3), (4, .int z4)] → (cells + b70 ≤ 9 ∧ slots + d70 ≤ 47) → W p l e rm_X1_doRotate s m args below meth c H locs cells slots (vx_MQ below (gXQ x base (fun v => some (.int v)) res) (gXC x base res) args s 9 47 (fun q => base ≤ q)) (F0 m 70 ls [])) {H : Heap} {locs : List Loc} {ls : Array Slot} {cells slots : Nat} (hr : f_X1_doRotate_J102 r70 z0 z1 z2 z3 z4 s0 h n = some res) (hI : gI x base s.heap h n H locs) (hl : lv_has ls 6 [(0, .ref z0), (1, .int z1), (2, .ref z2), (3, .ref z3), (4, .int z4)]) (hcc : cells + (0 + b70) ≤ 9 ∧ slots + (0 + d70) ≤ 47) : W p l e rm_X1_doRotate s m args below meth c H locs cells slots (vx_MQ below (gXQ x base (fun v => some (.int v)) res) (gXC x base res) args s 9 47 (fun q => base ≤ q)) (F0 m 102 ls [.int s0]) := by
  have hx := X.1
  have hb := X.2.1
  unfold f_X1_doRotate_J102 at hr
  refine lv_istore (lv' := [(5, .int s0), (0, .ref z0), (1, .int z1), (2, .ref z2), (3, .ref z3), (4, .int z4)]) hx hb dX1_doRotate_102 hl (by decide) rfl (fun ls hl => ?_)
  refine lv_aload_n hx hb dX1_doRotate_104 rfl (lv_at hl 4 rfl) ?_
  refine lv_iload hx hb dX1_doRotate_105 (lv_at hl 0 rfl) ?_
  refine lv_aload_n hx hb dX1_doRotate_107 rfl (lv_at hl 3 rfl) ?_
  refine lv_iload hx hb dX1_doRotate_108 (lv_at hl 5 rfl) ?_
  obtain ⟨_, ho44, hr⟩ := gB_i hr
  obtain ⟨v46, hc45, hr⟩ := gB_i hr
  refine gRun_i (g_runV X hI (w_X7_member hc45) ho44 rfl hl (lw_V q1358 q1359 q1360 q127 q1361) rfl rfl hd_X7_member ⟨Nat.le_of_ble_eq_true rfl, Nat.le_of_ble_eq_true rfl⟩ (as := [.int z4]) (rest := [.int s0, .ref z3]) rfl rfl (Nat.le_of_ble_eq_true rfl) ⟨(show cells + 0 ≤ 9 from by omega), (show slots + 0 ≤ 47 from by omega)⟩ dX1_doRotate_110) (fun H locs hI => ?_)
  refine g_iast X hI hr dX1_doRotate_113 (fun h47 H locs hI hr => ?_)
  refine lv_iinc (v := (z4 + (1 : Int32))) (lv' := [(4, .int (z4 + (1 : Int32))), (5, .int s0), (0, .ref z0), (1, .int z1), (2, .ref z2), (3, .ref z3)]) hx hb dX1_doRotate_114 hl (k := 5) rfl (g_inc (by decide)) (by decide) rfl (fun ls hl => ?_)
  refine lv_goto (tgt := 70) hx hb dX1_doRotate_117 (by decide) ?_
  exact Hr70 hr hI (lv_sub hl [2, 3, 4, 5, 0] rfl) (by omega)
set_option maxHeartbeats 2000000 in
theorem w_X1_doRotate_L70 {n : Nat} {z0 : Nat} {z1 : Int32} {z2 : Nat} {z3 : Nat} {res : (Int32 ⊕ gX) × gH × Nat} (X : gXX x base RX1 cX1_doRotate 6 (some .int) p l s m args meth c) (hst : l.stackTraces = false) (hxt : c.exceptionTable.toList = tableOf []) : ∀ (k : Nat) {z4 : Int32} {h : gH} {H : Heap} {locs : List Loc} {ls : Array Slot} {cells slots : Nat}, gL2 (f_X1_doRotate_L70 z0 z1 z2 z3 n) k z4 h = some res → gI x base s.heap h n H locs → lv_has ls 6 [(0, .ref z0), (1, .int z1), (2, .ref z2), (3, .ref z3), (4, .int z4)] → (cells + (k * 0 + (0)) ≤ 9 ∧ slots + (k * 0 + (0)) ≤ 47) → W p l e rm_X1_doRotate s m args below meth c H locs cells slots (vx_MQ below (gXQ x base (fun v => some (.int v)) res) (gXC x base res) args s 9 47 (fun q => base ≤ q)) (F0 m 70 ls []) := by
  have hx := X.1
  have hb := X.2.1
  intro k
  induction k with
  | zero =>
    intros
    rename_i hr _ _ _
    exact nomatch (show (none : Option _) = some _ from hr)
  | succ k ih =>
    intro z4 h H locs ls cells slots hr hI hl hcc
    replace hr : f_X1_doRotate_L70 z0 z1 z2 z3 n (gL2 (f_X1_doRotate_L70 z0 z1 z2 z3 n) k) z4 h = some res := hr
    unfold f_X1_doRotate_L70 at hr
    refine lv_iload hx hb dX1_doRotate_70 (lv_at hl 4 rfl) ?_
    refine lv_aload_n hx hb dX1_doRotate_72 rfl (lv_at hl 2 rfl) ?_
    refine g_getI (C := RX7) (T := TX7) (N := 4) X hI in_X7 rfl 3 (by decide) q1341 (fun _ h9 => h9) hr dX1_doRotate_73 (fun v29 hr => ?_)
    refine lv_icmp_ge (tgt := 120) hx hb dX1_doRotate_76 (by decide) (fun c9 => ?_) (fun c9 => ?_)
    · replace hr := gIf_t c9 hr
      exact w_X1_doRotate_J120 X hst hxt hr hI (lv_sub hl [0, 2, 3] rfl) (by omega)
    · replace hr := gIf_f c9 hr
      refine lv_iload hx hb dX1_doRotate_79 (lv_at hl 4 rfl) ?_
      refine lv_iconst (v := 1) hx hb dX1_doRotate_81 (by decide) ?_
      refine lv_iadd hx hb dX1_doRotate_82 ?_
      refine lv_aload_n hx hb dX1_doRotate_83 rfl (lv_at hl 2 rfl) ?_
      refine g_getI (C := RX7) (T := TX7) (N := 4) X hI in_X7 rfl 3 (by decide) q1341 (fun _ h9 => h9) hr dX1_doRotate_84 (fun v43 hr => ?_)
      refine lv_icmp_ge (tgt := 101) hx hb dX1_doRotate_87 (by decide) (fun c9 => ?_) (fun c9 => ?_)
      · replace hr := gIf_t c9 hr
        refine lv_iload_n hx hb dX1_doRotate_101 rfl (lv_at hl 1 rfl) ?_
        exact w_X1_doRotate_J102 X hst hxt ih hr hI (lv_sub hl [0, 1, 2, 3, 4] rfl) (by omega)
      · replace hr := gIf_f c9 hr
        refine lv_aload_n hx hb dX1_doRotate_90 rfl (lv_at hl 2 rfl) ?_
        refine lv_iload hx hb dX1_doRotate_91 (lv_at hl 4 rfl) ?_
        refine lv_iconst (v := 1) hx hb dX1_doRotate_93 (by decide) ?_
        refine lv_iadd hx hb dX1_doRotate_94 ?_
        obtain ⟨_, ho48, hr⟩ := gB_i hr
        obtain ⟨v50, hc49, hr⟩ := gB_i hr
        refine gRun_i (g_runV X hI (w_X7_member hc49) ho48 rfl hl (lw_V q1358 q1359 q1360 q127 q1361) rfl rfl hd_X7_member ⟨Nat.le_of_ble_eq_true rfl, Nat.le_of_ble_eq_true rfl⟩ (as := [.int (z4 + (1 : Int32))]) (rest := []) rfl rfl (Nat.le_of_ble_eq_true rfl) ⟨(show cells + 0 ≤ 9 from by omega), (show slots + 0 ≤ 47 from by omega)⟩ dX1_doRotate_95) (fun H locs hI => ?_)
        refine lv_goto (tgt := 102) hx hb dX1_doRotate_98 (by decide) ?_
        exact w_X1_doRotate_J102 X hst hxt ih hr hI (lv_sub hl [0, 1, 2, 3, 4] rfl) (by omega)
set_option maxHeartbeats 2000000 in
theorem w_X1_doRotate_J67 {h : gH} {n : Nat} {z0 : Nat} {z1 : Int32} {z2 : Nat} {z3 : Nat} {res : (Int32 ⊕ gX) × gH × Nat} (X : gXX x base RX1 cX1_doRotate 6 (some .int) p l s m args meth c) (hst : l.stackTraces = false) (hxt : c.exceptionTable.toList = tableOf []) {H : Heap} {locs : List Loc} {ls : Array Slot} {cells slots : Nat} (hr : f_X1_doRotate_J67 z0 z1 z2 z3 h n = some res) (hI : gI x base s.heap h n H locs) (hl : lv_has ls 6 [(0, .ref z0), (1, .int z1), (2, .ref z2), (3, .ref z3)]) (hcc : cells + (0) ≤ 9 ∧ slots + (0) ≤ 47) : W p l e rm_X1_doRotate s m args below meth c H locs cells slots (vx_MQ below (gXQ x base (fun v => some (.int v)) res) (gXC x base res) args s 9 47 (fun q => base ≤ q)) (F0 m 67 ls []) := by
  have hx := X.1
  have hb := X.2.1
  unfold f_X1_doRotate_J67 at hr
  refine lv_iconst (v := 0) hx hb dX1_doRotate_67 (by decide) ?_
  refine lv_istore (lv' := [(4, .int (0 : Int32)), (0, .ref z0), (1, .int z1), (2, .ref z2), (3, .ref z3)]) hx hb dX1_doRotate_68 hl (by decide) rfl (fun ls hl => ?_)
  exact w_X1_doRotate_L70 X hst hxt gN hr hI (lv_sub hl [1, 2, 3, 4, 0] rfl) (by omega)
set_option maxHeartbeats 2000000 in
theorem w_X1_doRotate_L48 {n : Nat} {z0 : Nat} {z1 : Int32} {z2 : Nat} {z3 : Nat} {res : (Int32 ⊕ gX) × gH × Nat} (X : gXX x base RX1 cX1_doRotate 6 (some .int) p l s m args meth c) (hst : l.stackTraces = false) (hxt : c.exceptionTable.toList = tableOf []) : ∀ (k : Nat) {z4 : Int32} {h : gH} {H : Heap} {locs : List Loc} {ls : Array Slot} {cells slots : Nat}, gL2 (f_X1_doRotate_L48 z0 z1 z2 z3 n) k z4 h = some res → gI x base s.heap h n H locs → lv_has ls 6 [(0, .ref z0), (1, .int z1), (2, .ref z2), (3, .ref z3), (4, .int z4)] → (cells + (k * 0 + (0)) ≤ 9 ∧ slots + (k * 0 + (0)) ≤ 47) → W p l e rm_X1_doRotate s m args below meth c H locs cells slots (vx_MQ below (gXQ x base (fun v => some (.int v)) res) (gXC x base res) args s 9 47 (fun q => base ≤ q)) (F0 m 48 ls []) := by
  have hx := X.1
  have hb := X.2.1
  intro k
  induction k with
  | zero =>
    intros
    rename_i hr _ _ _
    exact nomatch (show (none : Option _) = some _ from hr)
  | succ k ih =>
    intro z4 h H locs ls cells slots hr hI hl hcc
    replace hr : f_X1_doRotate_L48 z0 z1 z2 z3 n (gL2 (f_X1_doRotate_L48 z0 z1 z2 z3 n) k) z4 h = some res := hr
    unfold f_X1_doRotate_L48 at hr
    refine lv_iload hx hb dX1_doRotate_48 (lv_at hl 4 rfl) ?_
    refine lv_bipush (v := 6) hx hb dX1_doRotate_50 (by decide) ?_
    refine lv_icmp_ge (tgt := 67) hx hb dX1_doRotate_52 (by decide) (fun c9 => ?_) (fun c9 => ?_)
    · replace hr := gIf_t c9 hr
      exact w_X1_doRotate_J67 X hst hxt hr hI (lv_sub hl [0, 1, 2, 3] rfl) (by omega)
    · replace hr := gIf_f c9 hr
      refine lv_aload_n hx hb dX1_doRotate_55 rfl (lv_at hl 3 rfl) ?_
      refine lv_iload hx hb dX1_doRotate_56 (lv_at hl 4 rfl) ?_
      refine lv_iload hx hb dX1_doRotate_58 (lv_at hl 4 rfl) ?_
      refine g_iast X hI hr dX1_doRotate_60 (fun h51 H locs hI hr => ?_)
      refine lv_iinc (v := (z4 + (1 : Int32))) (lv' := [(4, .int (z4 + (1 : Int32))), (0, .ref z0), (1, .int z1), (2, .ref z2), (3, .ref z3)]) hx hb dX1_doRotate_61 hl (k := 4) rfl (g_inc (by decide)) (by decide) rfl (fun ls hl => ?_)
      refine lv_goto (tgt := 48) hx hb dX1_doRotate_64 (by decide) ?_
      exact ih hr hI (lv_sub hl [1, 2, 3, 4, 0] rfl) (by omega)
set_option maxHeartbeats 2000000 in
theorem w_X1_doRotate_J37 {h : gH} {n : Nat} {z0 : Nat} {z1 : Int32} {z2 : Nat} {s0 : Int32} {res : (Int32 ⊕ gX) × gH × Nat} (X : gXX x base RX1 cX1_doRotate 6 (some .int) p l s m args meth c) (hst : l.stackTraces = false) (hxt : c.exceptionTable.toList = tableOf []) {H : Heap} {locs : List Loc} {ls : Array Slot} {cells slots : Nat} (hr : f_X1_doRotate_J37 z0 z1 z2 s0 h n = some res) (hI : gI x base s.heap h n H locs) (hl : lv_has ls 6 [(0, .ref z0), (1, .int z1), (2, .ref z2)]) (hcc : cells + (2) ≤ 9 ∧ slots + (12) ≤ 47) : W p l e rm_X1_doRotate s m args below meth c H locs cells slots (vx_MQ below (gXQ x base (fun v => some (.int v)) res) (gXC x base res) args s 9 47 (fun q => base ≤ q)) (F0 m 37 ls [.int s0]) := by
  have hx := X.1
  have hb := X.2.1
  unfold f_X1_doRotate_J37 at hr
  rcases gTX_i hr with ⟨u9, h22, n23, hc20, hr⟩ | ⟨q21, h24, n25, hc20, hr⟩
  · refine gXRet_v (g_xrunS X hI (w_X1_checkState hst hc20) hl (lw_S q1300 q1301 q96 q1302) rfl rfl hd_X1_checkState ⟨Nat.le_of_ble_eq_true rfl, Nat.le_of_ble_eq_true rfl⟩ (as := [.int s0]) (rest := []) rfl rfl (Nat.le_of_ble_eq_true rfl) ⟨(show cells + 1 ≤ 9 from by omega), (show slots + 6 ≤ 47 from by omega)⟩ dX1_doRotate_37) (fun H locs hI => ?_)
    refine lv_bipush (v := 6) hx hb dX1_doRotate_40 (by decide) ?_
    refine g_newI (t := 0) (b := 6) (atype := .int) X hI q512 rfl rfl (by decide) (show (cells + 1) + 1 ≤ 9 from by omega) (show (slots + 6) + 6 ≤ 47 from by omega) hr dX1_doRotate_42 (fun q26 h27 n28 H locs hI hr => ?_)
    refine lv_astore_n (lv' := [(3, .ref q26), (0, .ref z0), (1, .int z1), (2, .ref z2)]) hx hb dX1_doRotate_44 rfl hl (by decide) rfl (fun ls hl => ?_)
    refine lv_iconst (v := 0) hx hb dX1_doRotate_45 (by decide) ?_
    refine lv_istore (lv' := [(4, .int (0 : Int32)), (3, .ref q26), (0, .ref z0), (1, .int z1), (2, .ref z2)]) hx hb dX1_doRotate_46 hl (by decide) rfl (fun ls hl => ?_)
    exact w_X1_doRotate_L48 X hst hxt gN hr hI (lv_sub hl [2, 3, 4, 1, 0] rfl) (by omega)
  · refine gXThr (k := q21.1) (q := q21.2) (g_xrunS X hI (w_X1_checkState hst hc20) hl (lw_S q1300 q1301 q96 q1302) rfl rfl hd_X1_checkState ⟨Nat.le_of_ble_eq_true rfl, Nat.le_of_ble_eq_true rfl⟩ (as := [.int s0]) (rest := []) rfl rfl (Nat.le_of_ble_eq_true rfl) ⟨(show cells + 1 ≤ 9 from by omega), (show slots + 6 ≤ 47 from by omega)⟩ dX1_doRotate_37) (fun H locs hI hxc => ?_)
    have hr := gS_i hr
    subst hr
    exact g_xout X hI hxc hxt gPs_0 (show (cells + 1) ≤ 9 from by omega) (show (slots + 6) ≤ 47 from by omega)
set_option maxHeartbeats 2000000 in
theorem w_X1_doRotate {l : Launch} {x : gV} {base : Nat} (hst : l.stackTraces = false) {z0 : Nat} {z1 : Int32} {h : gH} {n : Nat} {res : (Int32 ⊕ gX) × gH × Nat} (hr : f_X1_doRotate z0 z1 h n = some res) : gMX l yX1_doRotate (ws_ yX1_doRotate cX1_doRotate 6 (some .int)) rm_X1_doRotate x base (fun v => some (.int v)) [.ref z0, .int z1] h n res 9 47 := by
  refine g_metX (cc := cX1_doRotate) (nL := 6) (ret := (some .int)) (by decide) (Nat.le_of_ble_eq_true rfl) (fun p e s m below meth c ls X hnm hxt hl hI => ?_)
  have hl : lv_has ls 6 [(0, .ref z0), (1, .int z1)] := hl
  have hx := X.1
  have hb := X.2.1
  have hcc : 0 + 9 ≤ 9 ∧ 0 + 47 ≤ 47 := ⟨Nat.le_refl _, Nat.le_refl _⟩
  unfold f_X1_doRotate at hr
  refine lv_aload_n hx hb dX1_doRotate_0 rfl (lv_at hl 0 rfl) ?_
  refine lv_iconst (v := 1) hx hb dX1_doRotate_1 (by decide) ?_
  refine g_newI (t := 0) (b := 1) (atype := .int) X hI q512 rfl rfl (by decide) (show 0 + 1 ≤ 9 from by omega) (show 0 + 1 ≤ 47 from by omega) hr dX1_doRotate_2 (fun q1 h2 n3 H locs hI hr => ?_)
  refine lv_dup hx hb dX1_doRotate_4 rfl ?_
  refine lv_iconst (v := 0) hx hb dX1_doRotate_5 (by decide) ?_
  refine lv_iload_n hx hb dX1_doRotate_6 rfl (lv_at hl 1 rfl) ?_
  refine g_iast X hI hr dX1_doRotate_7 (fun h4 H locs hI hr => ?_)
  obtain ⟨_, ho5, hr⟩ := gB_i hr
  rcases gTX_i hr with ⟨u9, h8, n9, hc6, hr⟩ | ⟨q7, h10, n11, hc6, hr⟩
  · refine gXRet_v (g_xrunV X hI (w_X1_checkSiblings hst hc6) ho5 rfl hl (lw_V q1174 q1176 qs20 q96 q1177) rfl rfl hd_X1_checkSiblings ⟨Nat.le_of_ble_eq_true rfl, Nat.le_of_ble_eq_true rfl⟩ (as := [.ref q1]) (rest := []) rfl rfl (Nat.le_of_ble_eq_true rfl) ⟨(show (0 + 1) + 4 ≤ 9 from by omega), (show (0 + 1) + 24 ≤ 47 from by omega)⟩ dX1_doRotate_8) (fun H locs hI => ?_)
    refine g_newO (C := RX7) (T := TX7) (N := 4) (ci := 5) (fs := [.null, .int 0, .null, .int 0]) X hI in_X7 tyX7 tyX7_ok q1318 q1319 q127 rfl (g_dflt4 rfl rfl rfl rfl) (show ((0 + 1) + 4) + 1 ≤ 9 from by omega) (show ((0 + 1) + 24) + 4 ≤ 47 from by omega) hr dX1_doRotate_11 (fun q12 h13 n14 H locs hI hr => ?_)
    refine lv_dup hx hb dX1_doRotate_14 rfl ?_
    refine lv_aload_n hx hb dX1_doRotate_15 rfl (lv_at hl 0 rfl) ?_
    refine g_getA (C := RX1) (T := TX1) (N := 10) X hI in_X1 rfl 4 (by decide) q760 (fun _ h9 => h9) hr dX1_doRotate_16 (fun v15 hr => ?_)
    refine lv_iload_n hx hb dX1_doRotate_19 rfl (lv_at hl 1 rfl) ?_
    obtain ⟨h17, n18, hc16, hr⟩ := gT2_i hr
    refine gRun_v (g_runI X hI (w_X7_init hst hc16) hl q1322 q1320 q1321 q127 rfl rfl rfl hd_X7_init ⟨Nat.le_of_ble_eq_true rfl, Nat.le_of_ble_eq_true rfl⟩ (as := [.ref v15, .int z1]) (rest := [.ref q12]) rfl rfl (Nat.le_of_ble_eq_true rfl) ⟨(show (((0 + 1) + 4) + 1) + 1 ≤ 9 from by omega), (show (((0 + 1) + 24) + 4) + 6 ≤ 47 from by omega)⟩ dX1_doRotate_20) (fun H locs hI => ?_)
    refine lv_astore_n (lv' := [(2, .ref q12), (0, .ref z0), (1, .int z1)]) hx hb dX1_doRotate_23 rfl hl (by decide) rfl (fun ls hl => ?_)
    refine lv_aload_n hx hb dX1_doRotate_24 rfl (lv_at hl 0 rfl) ?_
    refine g_getI (C := RX7) (T := TX7) (N := 4) X hI in_X7 rfl 3 (by decide) q1341 (fun _ h9 => h9) hr dX1_doRotate_25 (fun v19 hr => ?_)
    refine lv_iconst (v := (-1)) hx hb dX1_doRotate_28 (by decide) ?_
    refine lv_icmp_eq (tgt := 36) hx hb dX1_doRotate_29 (by decide) (fun c9 => ?_) (fun c9 => ?_)
    · replace hr := gIf_t c9 hr
      refine lv_iconst (v := 0) hx hb dX1_doRotate_36 (by decide) ?_
      exact w_X1_doRotate_J37 X hst hxt hr hI (lv_sub hl [1, 2, 0] rfl) (by omega)
    · replace hr := gIf_f c9 hr
      refine lv_iconst (v := 1) hx hb dX1_doRotate_32 (by decide) ?_
      refine lv_goto (tgt := 37) hx hb dX1_doRotate_33 (by decide) ?_
      exact w_X1_doRotate_J37 X hst hxt hr hI (lv_sub hl [1, 2, 0] rfl) (by omega)
  · refine gXThr (k := q7.1) (q := q7.2) (g_xrunV X hI (w_X1_checkSiblings hst hc6) ho5 rfl hl (lw_V q1174 q1176 qs20 q96 q1177) rfl rfl hd_X1_checkSiblings ⟨Nat.le_of_ble_eq_true rfl, Nat.le_of_ble_eq_true rfl⟩ (as := [.ref q1]) (rest := []) rfl rfl (Nat.le_of_ble_eq_true rfl) ⟨(show (0 + 1) + 4 ≤ 9 from by omega), (show (0 + 1) + 24 ≤ 47 from by omega)⟩ dX1_doRotate_8) (fun H locs hI hxc => ?_)
    have hr := gS_i hr
    subst hr
    exact g_xout X hI hxc hxt gPs_0 (show ((0 + 1) + 4) ≤ 9 from by omega) (show ((0 + 1) + 24) ≤ 47 from by omega)
abbrev rm_X1_rotate : Room := { frames := 11, cells := 14, slots := 89, locals := 247 }
theorem hd_X1_rotate : yX1_rotate.cls = RX1 ∧ yX1_rotate.cls ≠ "java/lang/invoke/MethodHandle" ∧ yX1_rotate.cls ≠ "java/lang/invoke/VarHandle" ∧ (parseMethodDescriptor yX1_rotate.desc).map (fun d => d.parameters.length) = some 1 := by decide +kernel
set_option maxHeartbeats 2000000 in
theorem w_X1_rotate {l : Launch} {x : gV} {base : Nat} (hst : l.stackTraces = false) {z0 : Nat} {z1 : Int32} {h : gH} {n : Nat} {res : (Int32 ⊕ gX) × gH × Nat} (hr : f_X1_rotate z0 z1 h n = some res) : gMX l yX1_rotate (ws_ yX1_rotate cX1_rotate 3 (some .int)) rm_X1_rotate x base (fun v => some (.int v)) [.ref z0, .int z1] h n res 14 89 := by
  refine g_metX (cc := cX1_rotate) (nL := 3) (ret := (some .int)) (by decide) (Nat.le_of_ble_eq_true rfl) (fun p e s m below meth c ls X hnm hxt hl hI => ?_)
  have hl : lv_has ls 3 [(0, .ref z0), (1, .int z1)] := hl
  have hx := X.1
  have hb := X.2.1
  have hcc : 0 + 14 ≤ 14 ∧ 0 + 89 ≤ 89 := ⟨Nat.le_refl _, Nat.le_refl _⟩
  unfold f_X1_rotate at hr
  refine g_newO (C := RX2) (T := TX2) (N := 3) (ci := 0) (fs := [.null, .null, .null]) X hI in_X2 tyX2 tyX2_ok q142 q143 q97 rfl (g_dflt3 rfl rfl rfl) (show 0 + 1 ≤ 14 from by omega) (show 0 + 3 ≤ 89 from by omega) hr dX1_rotate_0 (fun q1 h2 n3 H locs hI hr => ?_)
  refine lv_dup hx hb dX1_rotate_3 rfl ?_
  refine lv_aload_n hx hb dX1_rotate_4 rfl (lv_at hl 0 rfl) ?_
  refine g_getA (C := RX1) (T := TX1) (N := 10) X hI in_X1 rfl 4 (by decide) q760 (fun _ h9 => h9) hr dX1_rotate_5 (fun v4 hr => ?_)
  obtain ⟨h6, n7, hc5, hr⟩ := gT2_i hr
  refine gRun_v (g_runI X hI (w_X2_init_2 hst hc5) hl q979 q995 q978 q97 rfl rfl rfl hd_X2_init_2 ⟨Nat.le_of_ble_eq_true rfl, Nat.le_of_ble_eq_true rfl⟩ (as := [.ref v4]) (rest := [.ref q1]) rfl rfl (Nat.le_of_ble_eq_true rfl) ⟨(show (0 + 1) + 4 ≤ 14 from by omega), (show (0 + 3) + 39 ≤ 89 from by omega)⟩ dX1_rotate_8) (fun H locs hI => ?_)
  refine lv_astore_n (lv' := [(2, .ref q1), (0, .ref z0), (1, .int z1)]) hx hb dX1_rotate_11 rfl hl (by decide) rfl (fun ls hl => ?_)
  refine lv_aload_n hx hb dX1_rotate_12 rfl (lv_at hl 1 rfl) ?_
  refine lv_aload_n hx hb dX1_rotate_13 rfl (lv_at hl 0 rfl) ?_
  refine lv_aload_n hx hb dX1_rotate_14 rfl (lv_at hl 1 rfl) ?_
  refine lv_iload_n hx hb dX1_rotate_15 rfl (lv_at hl 2 rfl) ?_
  obtain ⟨_, ho8, hr⟩ := gB_i hr
  rcases gTX_i hr with ⟨v10, h12, n13, hc9, hr⟩ | ⟨q11, h14, n15, hc9, hr⟩
  · refine gXRet_i (g_xrunV X hI (w_X1_doRotate hst hc9) ho8 rfl hl (lw_V q1494 q1496 qs29 q96 q1497) rfl rfl hd_X1_doRotate ⟨Nat.le_of_ble_eq_true rfl, Nat.le_of_ble_eq_true rfl⟩ (as := [.int z1]) (rest := [.ref q1, .ref z0]) rfl rfl (Nat.le_of_ble_eq_true rfl) ⟨(show ((0 + 1) + 4) + 9 ≤ 14 from by omega), (show ((0 + 3) + 39) + 47 ≤ 89 from by omega)⟩ dX1_rotate_16) (fun H locs hI => ?_)
    obtain ⟨_, ho16, hr⟩ := gB_i hr
    obtain ⟨v18, h19, hc17, hr⟩ := gT2_i hr
    refine gRun_i (g_runV X hI (w_X1_record hc17) ho16 rfl hl (lw_V q1009 q1011 qs12 q96 q1012) rfl rfl hd_X1_record ⟨Nat.le_of_ble_eq_true rfl, Nat.le_of_ble_eq_true rfl⟩ (as := [.ref q1, .int v10]) (rest := []) rfl rfl (Nat.le_of_ble_eq_true rfl) ⟨(show (((0 + 1) + 4) + 9) + 0 ≤ 14 from by omega), (show (((0 + 3) + 39) + 47) + 0 ≤ 89 from by omega)⟩ dX1_rotate_19) (fun H locs hI => ?_)
    have hr := gS_i hr
    subst hr
    exact g_xiret X hI rfl (show ((((0 + 1) + 4) + 9) + 0) ≤ 14 from by omega) (show ((((0 + 3) + 39) + 47) + 0) ≤ 89 from by omega) dX1_rotate_22
  · refine gXThr (k := q11.1) (q := q11.2) (g_xrunV X hI (w_X1_doRotate hst hc9) ho8 rfl hl (lw_V q1494 q1496 qs29 q96 q1497) rfl rfl hd_X1_doRotate ⟨Nat.le_of_ble_eq_true rfl, Nat.le_of_ble_eq_true rfl⟩ (as := [.int z1]) (rest := [.ref q1, .ref z0]) rfl rfl (Nat.le_of_ble_eq_true rfl) ⟨(show ((0 + 1) + 4) + 9 ≤ 14 from by omega), (show ((0 + 3) + 39) + 47 ≤ 89 from by omega)⟩ dX1_rotate_16) (fun H locs hI hxc => ?_)
    have hr := gS_i hr
    subst hr
    exact g_xout X hI hxc hxt gPs_0 (show (((0 + 1) + 4) + 9) ≤ 14 from by omega) (show (((0 + 3) + 39) + 47) ≤ 89 from by omega)
abbrev rm_X3_indexAmong : Room := { frames := 8, cells := 0, slots := 0, locals := 445 }
theorem hd_X3_indexAmong : yX3_indexAmong.cls = RX3 ∧ yX3_indexAmong.cls ≠ "java/lang/invoke/MethodHandle" ∧ yX3_indexAmong.cls ≠ "java/lang/invoke/VarHandle" ∧ (parseMethodDescriptor yX3_indexAmong.desc).map (fun d => d.parameters.length) = some 1 := by decide +kernel
set_option maxHeartbeats 2000000 in
theorem w_X3_indexAmong_L2 {h : gH} {n : Nat} {z0 : Nat} {z1 : Nat} {res : Int32} (X : gXX x base RX3 cX3_indexAmong 3 (some .int) p l s m args meth c) : ∀ (k : Nat) {z2 : Int32} {H : Heap} {locs : List Loc} {ls : Array Slot}, gL1 (f_X3_indexAmong_L2 x z0 z1 h) k z2 = some res → gI x base s.heap h n H locs → lv_has ls 3 [(0, .ref z0), (1, .ref z1), (2, .int z2)] → W p l e rm_X3_indexAmong s m args below meth c H locs 0 0 (MQ below (gQ x base (some (.int res)) h n) args s 0 0 (fun q => base ≤ q)) (F0 m 2 ls []) := by
  have hx := X.1
  have hb := X.2.1
  intro k
  induction k with
  | zero =>
    intros
    rename_i hr _ _
    exact nomatch (show (none : Option _) = some _ from hr)
  | succ k ih =>
    intro z2 H locs ls hr hI hl
    replace hr : f_X3_indexAmong_L2 x z0 z1 h (gL1 (f_X3_indexAmong_L2 x z0 z1 h) k) z2 = some res := hr
    unfold f_X3_indexAmong_L2 at hr
    refine lv_iload_n hx hb dX3_indexAmong_2 rfl (lv_at hl 2 rfl) ?_
    refine lv_aload_n hx hb dX3_indexAmong_3 rfl (lv_at hl 1 rfl) ?_
    refine g_alen X hI (t := 8) rfl hr dX3_indexAmong_4 (fun v1 hr => ?_)
    refine lv_icmp_ge (tgt := 26) hx hb dX3_indexAmong_5 (by decide) (fun c9 => ?_) (fun c9 => ?_)
    · replace hr := gIf_t c9 hr
      refine lv_iconst (v := (-1)) hx hb dX3_indexAmong_26 (by decide) ?_
      have hr := gS_i hr
      subst hr
      exact g_iret X hI rfl (Nat.le_refl _) (Nat.le_refl _) dX3_indexAmong_27
    · replace hr := gIf_f c9 hr
      refine lv_aload_n hx hb dX3_indexAmong_8 rfl (lv_at hl 0 rfl) ?_
      refine lv_aload_n hx hb dX3_indexAmong_9 rfl (lv_at hl 1 rfl) ?_
      refine lv_iload_n hx hb dX3_indexAmong_10 rfl (lv_at hl 2 rfl) ?_
      refine g_aaldA X hI (t := 8) rfl hr dX3_indexAmong_11 (fun v2 hr => ?_)
      obtain ⟨_, ho3, hr⟩ := gB_i hr
      obtain ⟨v5, hc4, hr⟩ := gB_i hr
      refine gRun_i (g_runV X hI (w_X3_isWord hc4) ho3 rfl hl (lw_V q592 q593 q594 q118 q595) rfl rfl hd_X3_isWord ⟨Nat.le_of_ble_eq_true rfl, Nat.le_of_ble_eq_true rfl⟩ (as := [.ref v2]) (rest := []) rfl rfl (Nat.le_of_ble_eq_true rfl) ⟨(Nat.le_refl _), (Nat.le_refl _)⟩ dX3_indexAmong_12) (fun H locs hI => ?_)
      refine lv_if_eq (tgt := 20) hx hb dX3_indexAmong_15 (by decide) (fun c9 => ?_) (fun c9 => ?_)
      · replace hr := gIf_t c9 hr
        refine lv_iinc (v := (z2 + (1 : Int32))) (lv' := [(2, .int (z2 + (1 : Int32))), (0, .ref z0), (1, .ref z1)]) hx hb dX3_indexAmong_20 hl (k := 2) rfl (g_inc (by decide)) (by decide) rfl (fun ls hl => ?_)
        refine lv_goto (tgt := 2) hx hb dX3_indexAmong_23 (by decide) ?_
        exact ih hr hI (lv_sub hl [1, 2, 0] rfl)
      · replace hr := gIf_f c9 hr
        refine lv_iload_n hx hb dX3_indexAmong_18 rfl (lv_at hl 2 rfl) ?_
        have hr := gS_i hr
        subst hr
        exact g_iret X hI rfl (Nat.le_refl _) (Nat.le_refl _) dX3_indexAmong_19
set_option maxHeartbeats 2000000 in
theorem w_X3_indexAmong {l : Launch} {x : gV} {base : Nat} {z0 : Nat} {z1 : Nat} {h : gH} {n : Nat} {res : Int32} (hr : f_X3_indexAmong x z0 z1 h = some res) : gM l yX3_indexAmong (ws_ yX3_indexAmong cX3_indexAmong 3 (some .int)) rm_X3_indexAmong x base [.ref z0, .ref z1] h n (some (.int res)) h n 0 0 := by
  refine g_met (cc := cX3_indexAmong) (nL := 3) (ret := (some .int)) (by decide) (Nat.le_of_ble_eq_true rfl) (fun p e s m below meth c ls X hnm hl hI => ?_)
  have hl : lv_has ls 3 [(0, .ref z0), (1, .ref z1)] := hl
  have hx := X.1
  have hb := X.2.1
  unfold f_X3_indexAmong at hr
  refine lv_iconst (v := 0) hx hb dX3_indexAmong_0 (by decide) ?_
  refine lv_istore_n (lv' := [(2, .int (0 : Int32)), (0, .ref z0), (1, .ref z1)]) hx hb dX3_indexAmong_1 rfl hl (by decide) rfl (fun ls hl => ?_)
  exact w_X3_indexAmong_L2 X gN hr hI (lv_sub hl [1, 2, 0] rfl)
abbrev rm_X3_expectSibling : Room := { frames := 14, cells := 2, slots := 16, locals := 444 }
theorem hd_X3_expectSibling : yX3_expectSibling.cls = RX3 ∧ yX3_expectSibling.cls ≠ "java/lang/invoke/MethodHandle" ∧ yX3_expectSibling.cls ≠ "java/lang/invoke/VarHandle" ∧ (parseMethodDescriptor yX3_expectSibling.desc).map (fun d => d.parameters.length) = some 0 := by decide +kernel
set_option maxHeartbeats 2000000 in
theorem w_X3_expectSibling {l : Launch} {x : gV} {base : Nat} (hst : l.stackTraces = false) {z0 : Nat} {h : gH} {n : Nat} {res : (Int32 ⊕ gX) × gH × Nat} (hr : f_X3_expectSibling z0 h n = some res) : gMX l yX3_expectSibling (ws_ yX3_expectSibling cX3_expectSibling 2 (some .int)) rm_X3_expectSibling x base (fun v => some (.int v)) [.ref z0] h n res 2 16 := by
  refine g_metX (cc := cX3_expectSibling) (nL := 2) (ret := (some .int)) (by decide) (Nat.le_of_ble_eq_true rfl) (fun p e s m below meth c ls X hnm hxt hl hI => ?_)
  have hl : lv_has ls 2 [(0, .ref z0)] := hl
  have hx := X.1
  have hb := X.2.1
  have hcc : 0 + 2 ≤ 2 ∧ 0 + 16 ≤ 16 := ⟨Nat.le_refl _, Nat.le_refl _⟩
  unfold f_X3_expectSibling at hr
  refine lv_aload_n hx hb dX3_expectSibling_0 rfl (lv_at hl 0 rfl) ?_
  refine g_getA (C := RX3) (T := TX3) (N := 5) X hI in_X3 rfl 4 (by decide) q571 (fun _ h9 => h9) hr dX3_expectSibling_1 (fun v1 hr => ?_)
  refine g_getNA (C := RX1) (T := TX1) (N := 10) (host := "CakeDivision") X hI in_X1 rfl 4 (by decide) (by decide +kernel) (fun _ h9 => h9) hr dX3_expectSibling_4 (fun v2 hr => ?_)
  refine lv_aload_n hx hb dX3_expectSibling_7 rfl (lv_at hl 0 rfl) ?_
  obtain ⟨_, ho3, hr⟩ := gB_i hr
  rcases gTX_i hr with ⟨v5, h7, n8, hc4, hr⟩ | ⟨q6, h9, n10, hc4, hr⟩
  · refine gXRet_a (g_xrunV X hI (w_X3_peekName hst hc4) ho3 rfl hl (lw_V q655 q657 qs2 q118 q658) rfl rfl hd_X3_peekName ⟨Nat.le_of_ble_eq_true rfl, Nat.le_of_ble_eq_true rfl⟩ (as := []) (rest := [.ref v2]) rfl rfl (Nat.le_of_ble_eq_true rfl) ⟨(show 0 + 1 ≤ 2 from by omega), (show 0 + 8 ≤ 16 from by omega)⟩ dX3_expectSibling_8) (fun H locs hI => ?_)
    obtain ⟨_, ho11, hr⟩ := gB_i hr
    obtain ⟨v13, hc12, hr⟩ := gB_i hr
    refine gRun_i (g_runV X hI (w_X2_siblingNamed hc12) ho11 rfl hl (lw_V q660 q661 q662 q97 q663) rfl rfl hd_X2_siblingNamed ⟨Nat.le_of_ble_eq_true rfl, Nat.le_of_ble_eq_true rfl⟩ (as := [.ref v5]) (rest := []) rfl rfl (Nat.le_of_ble_eq_true rfl) ⟨(show (0 + 1) + 0 ≤ 2 from by omega), (show (0 + 8) + 0 ≤ 16 from by omega)⟩ dX3_expectSibling_11) (fun H locs hI => ?_)
    refine lv_istore_n (lv' := [(1, .int v13), (0, .ref z0)]) hx hb dX3_expectSibling_14 rfl hl (by decide) rfl (fun ls hl => ?_)
    refine lv_iload_n hx hb dX3_expectSibling_15 rfl (lv_at hl 0 rfl) ?_
    refine lv_iconst (v := (-1)) hx hb dX3_expectSibling_16 (by decide) ?_
    refine lv_icmp_ne (tgt := 26) hx hb dX3_expectSibling_17 (by decide) (fun c9 => ?_) (fun c9 => ?_)
    · replace hr := gIf_f c9 hr
      refine lv_aload_n hx hb dX3_expectSibling_26 rfl (lv_at hl 1 rfl) ?_
      obtain ⟨_, ho14, hr⟩ := gB_i hr
      obtain ⟨h16, hc15, hr⟩ := gB_i hr
      refine gRun_v (g_runV X hI (w_X3_advance hc15) ho14 rfl hl (lw_V q562 q563 q564 q118 q565) rfl rfl hd_X3_advance ⟨Nat.le_of_ble_eq_true rfl, Nat.le_of_ble_eq_true rfl⟩ (as := []) (rest := []) rfl rfl (Nat.le_of_ble_eq_true rfl) ⟨(show ((0 + 1) + 0) + 0 ≤ 2 from by omega), (show ((0 + 8) + 0) + 0 ≤ 16 from by omega)⟩ dX3_expectSibling_27) (fun H locs hI => ?_)
      refine lv_iload_n hx hb dX3_expectSibling_30 rfl (lv_at hl 0 rfl) ?_
      have hr := gS_i hr
      subst hr
      exact g_xiret X hI rfl (show (((0 + 1) + 0) + 0) ≤ 2 from by omega) (show (((0 + 8) + 0) + 0) ≤ 16 from by omega) dX3_expectSibling_31
    · replace hr := gIf_t c9 hr
      refine lv_aload_n hx hb dX3_expectSibling_20 rfl (lv_at hl 1 rfl) ?_
      refine lv_iconst (v := 3) hx hb dX3_expectSibling_21 (by decide) ?_
      obtain ⟨_, ho17, hr⟩ := gB_i hr
      obtain ⟨v19, h20, n21, hc18, hr⟩ := gT3_i hr
      refine gRun_a (g_runV X hI (w_X3_error hst hc18) ho17 rfl hl (lw_V q598 q599 q600 q118 q601) rfl rfl hd_X3_error ⟨Nat.le_of_ble_eq_true rfl, Nat.le_of_ble_eq_true rfl⟩ (as := [.int (3 : Int32)]) (rest := []) rfl rfl (Nat.le_of_ble_eq_true rfl) ⟨(show ((0 + 1) + 0) + 1 ≤ 2 from by omega), (show ((0 + 8) + 0) + 8 ≤ 16 from by omega)⟩ dX3_expectSibling_22) (fun H locs hI => ?_)
      obtain ⟨k22, hk23, hr⟩ := gB_i hr
      refine g_athrow X hI hk23 dX3_expectSibling_25 (fun hxc => ?_)
      have hr := gS_i hr
      subst hr
      exact g_xout X hI hxc hxt gPs_0 (show (((0 + 1) + 0) + 1) ≤ 2 from by omega) (show (((0 + 8) + 0) + 8) ≤ 16 from by omega)
  · refine gXThr (k := q6.1) (q := q6.2) (g_xrunV X hI (w_X3_peekName hst hc4) ho3 rfl hl (lw_V q655 q657 qs2 q118 q658) rfl rfl hd_X3_peekName ⟨Nat.le_of_ble_eq_true rfl, Nat.le_of_ble_eq_true rfl⟩ (as := []) (rest := [.ref v2]) rfl rfl (Nat.le_of_ble_eq_true rfl) ⟨(show 0 + 1 ≤ 2 from by omega), (show 0 + 8 ≤ 16 from by omega)⟩ dX3_expectSibling_8) (fun H locs hI hxc => ?_)
    have hr := gS_i hr
    subst hr
    exact g_xout X hI hxc hxt gPs_0 (show (0 + 1) ≤ 2 from by omega) (show (0 + 8) ≤ 16 from by omega)
abbrev rm_X1_parseArguments : Room := { frames := 15, cells := 4, slots := 32, locals := 465 }
theorem hd_X1_parseArguments : yX1_parseArguments.cls = RX1 ∧ yX1_parseArguments.cls ≠ "java/lang/invoke/MethodHandle" ∧ yX1_parseArguments.cls ≠ "java/lang/invoke/VarHandle" ∧ (parseMethodDescriptor yX1_parseArguments.desc).map (fun d => d.parameters.length) = some 3 := by decide +kernel
set_option maxHeartbeats 2000000 in
theorem w_X1_parseArguments_J39 {h : gH} {n : Nat} {z0 : Nat} {z1 : Nat} {z2 : Int32} {z3 : Int32} {z4 : Int32} {res : (Unit ⊕ gX) × gH × Nat} (X : gXX x base RX1 cX1_parseArguments 5 none p l s m args meth c) (hst : l.stackTraces = false) (hxt : c.exceptionTable.toList = tableOf []) {H : Heap} {locs : List Loc} {ls : Array Slot} {cells slots : Nat} (hr : f_X1_parseArguments_J39 z0 z1 z2 z3 z4 h n = some res) (hI : gI x base s.heap h n H locs) (hl : lv_has ls 5 [(0, .ref z0), (1, .ref z1), (2, .int z2), (3, .int z3), (4, .int z4)]) (hcc : cells + (2) ≤ 4 ∧ slots + (16) ≤ 32) : W p l e rm_X1_parseArguments s m args below meth c H locs cells slots (vx_MQ below (gXQ x base (fun _ => none) res) (gXC x base res) args s 4 32 (fun q => base ≤ q)) (F0 m 39 ls []) := by
  have hx := X.1
  have hb := X.2.1
  unfold f_X1_parseArguments_J39 at hr
  refine lv_iload hx hb dX1_parseArguments_39 (lv_at hl 4 rfl) ?_
  refine lv_if_eq (tgt := 59) hx hb dX1_parseArguments_41 (by decide) (fun c9 => ?_) (fun c9 => ?_)
  · replace hr := gIf_t c9 hr
    refine lv_iload_n hx hb dX1_parseArguments_59 rfl (lv_at hl 2 rfl) ?_
    refine lv_iconst (v := 3) hx hb dX1_parseArguments_60 (by decide) ?_
    refine lv_icmp_gt (tgt := 88) hx hb dX1_parseArguments_61 (by decide) (fun c9 => ?_) (fun c9 => ?_)
    · replace hr := gIf_t c9 hr
      have hr := gS_i hr
      subst hr
      exact g_xvret X hI (show cells ≤ 4 from by omega) (show slots ≤ 32 from by omega) dX1_parseArguments_88
    · replace hr := gIf_f c9 hr
      refine lv_aload_n hx hb dX1_parseArguments_64 rfl (lv_at hl 0 rfl) ?_
      refine g_getA (C := RX1) (T := TX1) (N := 10) X hI in_X1 rfl 7 (by decide) q764 (fun _ h9 => h9) hr dX1_parseArguments_65 (fun v1 hr => ?_)
      refine lv_iload_n hx hb dX1_parseArguments_68 rfl (lv_at hl 3 rfl) ?_
      refine lv_iconst (v := 2) hx hb dX1_parseArguments_69 (by decide) ?_
      refine lv_iadd hx hb dX1_parseArguments_70 ?_
      refine lv_aload_n hx hb dX1_parseArguments_71 rfl (lv_at hl 1 rfl) ?_
      obtain ⟨_, ho2, hr⟩ := gB_i hr
      rcases gTX_i hr with ⟨v4, h6, n7, hc3, hr⟩ | ⟨q5, h8, n9, hc3, hr⟩
      · refine gXRet_i (g_xrunV X hI (w_X3_expectNumber_2 hst hc3) ho2 rfl hl (lw_V q1532 q633 q634 q118 q635) rfl rfl hd_X3_expectNumber_2 ⟨Nat.le_of_ble_eq_true rfl, Nat.le_of_ble_eq_true rfl⟩ (as := []) (rest := [.int (z3 + (2 : Int32)), .ref v1]) rfl rfl (Nat.le_of_ble_eq_true rfl) ⟨(show cells + 1 ≤ 4 from by omega), (show slots + 8 ≤ 32 from by omega)⟩ dX1_parseArguments_72) (fun H locs hI => ?_)
        refine g_iast X hI hr dX1_parseArguments_75 (fun h10 H locs hI hr => ?_)
        refine lv_aload_n hx hb dX1_parseArguments_76 rfl (lv_at hl 0 rfl) ?_
        refine g_getA (C := RX1) (T := TX1) (N := 10) X hI in_X1 rfl 7 (by decide) q764 (fun _ h9 => h9) hr dX1_parseArguments_77 (fun v11 hr => ?_)
        refine lv_iload_n hx hb dX1_parseArguments_80 rfl (lv_at hl 3 rfl) ?_
        refine lv_iconst (v := 3) hx hb dX1_parseArguments_81 (by decide) ?_
        refine lv_iadd hx hb dX1_parseArguments_82 ?_
        refine lv_aload_n hx hb dX1_parseArguments_83 rfl (lv_at hl 1 rfl) ?_
        obtain ⟨_, ho12, hr⟩ := gB_i hr
        rcases gTX_i hr with ⟨v14, h16, n17, hc13, hr⟩ | ⟨q15, h18, n19, hc13, hr⟩
        · refine gXRet_i (g_xrunV X hI (w_X3_expectNumber_2 hst hc13) ho12 rfl hl (lw_V q1532 q633 q634 q118 q635) rfl rfl hd_X3_expectNumber_2 ⟨Nat.le_of_ble_eq_true rfl, Nat.le_of_ble_eq_true rfl⟩ (as := []) (rest := [.int (z3 + (3 : Int32)), .ref v11]) rfl rfl (Nat.le_of_ble_eq_true rfl) ⟨(show (cells + 1) + 1 ≤ 4 from by omega), (show (slots + 8) + 8 ≤ 32 from by omega)⟩ dX1_parseArguments_84) (fun H locs hI => ?_)
          refine g_iast X hI hr dX1_parseArguments_87 (fun h20 H locs hI hr => ?_)
          have hr := gS_i hr
          subst hr
          exact g_xvret X hI (show ((cells + 1) + 1) ≤ 4 from by omega) (show ((slots + 8) + 8) ≤ 32 from by omega) dX1_parseArguments_88
        · refine gXThr (k := q15.1) (q := q15.2) (g_xrunV X hI (w_X3_expectNumber_2 hst hc13) ho12 rfl hl (lw_V q1532 q633 q634 q118 q635) rfl rfl hd_X3_expectNumber_2 ⟨Nat.le_of_ble_eq_true rfl, Nat.le_of_ble_eq_true rfl⟩ (as := []) (rest := [.int (z3 + (3 : Int32)), .ref v11]) rfl rfl (Nat.le_of_ble_eq_true rfl) ⟨(show (cells + 1) + 1 ≤ 4 from by omega), (show (slots + 8) + 8 ≤ 32 from by omega)⟩ dX1_parseArguments_84) (fun H locs hI hxc => ?_)
          have hr := gS_i hr
          subst hr
          exact g_xout X hI hxc hxt gPs_0 (show ((cells + 1) + 1) ≤ 4 from by omega) (show ((slots + 8) + 8) ≤ 32 from by omega)
      · refine gXThr (k := q5.1) (q := q5.2) (g_xrunV X hI (w_X3_expectNumber_2 hst hc3) ho2 rfl hl (lw_V q1532 q633 q634 q118 q635) rfl rfl hd_X3_expectNumber_2 ⟨Nat.le_of_ble_eq_true rfl, Nat.le_of_ble_eq_true rfl⟩ (as := []) (rest := [.int (z3 + (2 : Int32)), .ref v1]) rfl rfl (Nat.le_of_ble_eq_true rfl) ⟨(show cells + 1 ≤ 4 from by omega), (show slots + 8 ≤ 32 from by omega)⟩ dX1_parseArguments_72) (fun H locs hI hxc => ?_)
        have hr := gS_i hr
        subst hr
        exact g_xout X hI hxc hxt gPs_0 (show (cells + 1) ≤ 4 from by omega) (show (slots + 8) ≤ 32 from by omega)
  · replace hr := gIf_f c9 hr
    refine lv_aload_n hx hb dX1_parseArguments_44 rfl (lv_at hl 0 rfl) ?_
    refine g_getA (C := RX1) (T := TX1) (N := 10) X hI in_X1 rfl 7 (by decide) q764 (fun _ h9 => h9) hr dX1_parseArguments_45 (fun v21 hr => ?_)
    refine lv_iload_n hx hb dX1_parseArguments_48 rfl (lv_at hl 3 rfl) ?_
    refine lv_iconst (v := 2) hx hb dX1_parseArguments_49 (by decide) ?_
    refine lv_iadd hx hb dX1_parseArguments_50 ?_
    refine lv_aload_n hx hb dX1_parseArguments_51 rfl (lv_at hl 1 rfl) ?_
    obtain ⟨_, ho22, hr⟩ := gB_i hr
    rcases gTX_i hr with ⟨v24, h26, n27, hc23, hr⟩ | ⟨q25, h28, n29, hc23, hr⟩
    · refine gXRet_i (g_xrunV X hI (w_X3_expectSibling hst hc23) ho22 rfl hl (lw_V q1528 q1529 q1530 q118 q1531) rfl rfl hd_X3_expectSibling ⟨Nat.le_of_ble_eq_true rfl, Nat.le_of_ble_eq_true rfl⟩ (as := []) (rest := [.int (z3 + (2 : Int32)), .ref v21]) rfl rfl (Nat.le_of_ble_eq_true rfl) ⟨(show cells + 2 ≤ 4 from by omega), (show slots + 16 ≤ 32 from by omega)⟩ dX1_parseArguments_52) (fun H locs hI => ?_)
      refine g_iast X hI hr dX1_parseArguments_55 (fun h30 H locs hI hr => ?_)
      refine lv_goto (tgt := 88) hx hb dX1_parseArguments_56 (by decide) ?_
      have hr := gS_i hr
      subst hr
      exact g_xvret X hI (show (cells + 2) ≤ 4 from by omega) (show (slots + 16) ≤ 32 from by omega) dX1_parseArguments_88
    · refine gXThr (k := q25.1) (q := q25.2) (g_xrunV X hI (w_X3_expectSibling hst hc23) ho22 rfl hl (lw_V q1528 q1529 q1530 q118 q1531) rfl rfl hd_X3_expectSibling ⟨Nat.le_of_ble_eq_true rfl, Nat.le_of_ble_eq_true rfl⟩ (as := []) (rest := [.int (z3 + (2 : Int32)), .ref v21]) rfl rfl (Nat.le_of_ble_eq_true rfl) ⟨(show cells + 2 ≤ 4 from by omega), (show slots + 16 ≤ 32 from by omega)⟩ dX1_parseArguments_52) (fun H locs hI hxc => ?_)
      have hr := gS_i hr
      subst hr
      exact g_xout X hI hxc hxt gPs_0 (show (cells + 2) ≤ 4 from by omega) (show (slots + 16) ≤ 32 from by omega)
set_option maxHeartbeats 2000000 in
theorem w_X1_parseArguments_J15 {h : gH} {n : Nat} {z0 : Nat} {z1 : Nat} {z2 : Int32} {z3 : Int32} {s0 : Int32} {res : (Unit ⊕ gX) × gH × Nat} (X : gXX x base RX1 cX1_parseArguments 5 none p l s m args meth c) (hst : l.stackTraces = false) (hxt : c.exceptionTable.toList = tableOf []) {H : Heap} {locs : List Loc} {ls : Array Slot} {cells slots : Nat} (hr : f_X1_parseArguments_J15 z0 z1 z2 z3 s0 h n = some res) (hI : gI x base s.heap h n H locs) (hl : lv_has ls 5 [(0, .ref z0), (1, .ref z1), (2, .int z2), (3, .int z3)]) (hcc : cells + (4) ≤ 4 ∧ slots + (32) ≤ 32) : W p l e rm_X1_parseArguments s m args below meth c H locs cells slots (vx_MQ below (gXQ x base (fun _ => none) res) (gXC x base res) args s 4 32 (fun q => base ≤ q)) (F0 m 15 ls [.int s0]) := by
  have hx := X.1
  have hb := X.2.1
  unfold f_X1_parseArguments_J15 at hr
  refine lv_istore (lv' := [(4, .int s0), (0, .ref z0), (1, .ref z1), (2, .int z2), (3, .int z3)]) hx hb dX1_parseArguments_15 hl (by decide) rfl (fun ls hl => ?_)
  refine lv_iload_n hx hb dX1_parseArguments_17 rfl (lv_at hl 3 rfl) ?_
  refine lv_iconst (v := 1) hx hb dX1_parseArguments_18 (by decide) ?_
  refine lv_icmp_eq (tgt := 39) hx hb dX1_parseArguments_19 (by decide) (fun c9 => ?_) (fun c9 => ?_)
  · replace hr := gIf_t c9 hr
    exact w_X1_parseArguments_J39 X hst hxt hr hI (lv_sub hl [1, 2, 3, 4, 0] rfl) (by omega)
  · replace hr := gIf_f c9 hr
    refine lv_iload_n hx hb dX1_parseArguments_22 rfl (lv_at hl 3 rfl) ?_
    refine lv_iconst (v := 5) hx hb dX1_parseArguments_23 (by decide) ?_
    refine lv_icmp_eq (tgt := 39) hx hb dX1_parseArguments_24 (by decide) (fun c9 => ?_) (fun c9 => ?_)
    · replace hr := gIf_t c9 hr
      exact w_X1_parseArguments_J39 X hst hxt hr hI (lv_sub hl [1, 2, 3, 4, 0] rfl) (by omega)
    · replace hr := gIf_f c9 hr
      refine lv_aload_n hx hb dX1_parseArguments_27 rfl (lv_at hl 1 rfl) ?_
      refine g_getA (C := RX1) (T := TX1) (N := 10) X hI in_X1 rfl 7 (by decide) q764 (fun _ h9 => h9) hr dX1_parseArguments_28 (fun v31 hr => ?_)
      refine lv_iload_n hx hb dX1_parseArguments_31 rfl (lv_at hl 4 rfl) ?_
      refine lv_iconst (v := 1) hx hb dX1_parseArguments_32 (by decide) ?_
      refine lv_iadd hx hb dX1_parseArguments_33 ?_
      refine lv_aload_n hx hb dX1_parseArguments_34 rfl (lv_at hl 2 rfl) ?_
      obtain ⟨_, ho32, hr⟩ := gB_i hr
      rcases gTX_i hr with ⟨v34, h36, n37, hc33, hr⟩ | ⟨q35, h38, n39, hc33, hr⟩
      · refine gXRet_i (g_xrunV X hI (w_X3_expectSibling hst hc33) ho32 rfl hl (lw_V q1528 q1529 q1530 q118 q1531) rfl rfl hd_X3_expectSibling ⟨Nat.le_of_ble_eq_true rfl, Nat.le_of_ble_eq_true rfl⟩ (as := []) (rest := [.int (z3 + (1 : Int32)), .ref v31]) rfl rfl (Nat.le_of_ble_eq_true rfl) ⟨(show cells + 2 ≤ 4 from by omega), (show slots + 16 ≤ 32 from by omega)⟩ dX1_parseArguments_35) (fun H locs hI => ?_)
        refine g_iast X hI hr dX1_parseArguments_38 (fun h40 H locs hI hr => ?_)
        exact w_X1_parseArguments_J39 X hst hxt hr hI (lv_sub hl [1, 2, 3, 4, 0] rfl) (by omega)
      · refine gXThr (k := q35.1) (q := q35.2) (g_xrunV X hI (w_X3_expectSibling hst hc33) ho32 rfl hl (lw_V q1528 q1529 q1530 q118 q1531) rfl rfl hd_X3_expectSibling ⟨Nat.le_of_ble_eq_true rfl, Nat.le_of_ble_eq_true rfl⟩ (as := []) (rest := [.int (z3 + (1 : Int32)), .ref v31]) rfl rfl (Nat.le_of_ble_eq_true rfl) ⟨(show cells + 2 ≤ 4 from by omega), (show slots + 16 ≤ 32 from by omega)⟩ dX1_parseArguments_35) (fun H locs hI hxc => ?_)
        have hr := gS_i hr
        subst hr
        exact g_xout X hI hxc hxt gPs_0 (show (cells + 2) ≤ 4 from by omega) (show (slots + 16) ≤ 32 from by omega)
set_option maxHeartbeats 2000000 in
theorem w_X1_parseArguments_J10 {h : gH} {n : Nat} {z0 : Nat} {z1 : Nat} {z2 : Int32} {z3 : Int32} {res : (Unit ⊕ gX) × gH × Nat} (X : gXX x base RX1 cX1_parseArguments 5 none p l s m args meth c) (hst : l.stackTraces = false) (hxt : c.exceptionTable.toList = tableOf []) {H : Heap} {locs : List Loc} {ls : Array Slot} {cells slots : Nat} (hr : f_X1_parseArguments_J10 z0 z1 z2 z3 h n = some res) (hI : gI x base s.heap h n H locs) (hl : lv_has ls 5 [(0, .ref z0), (1, .ref z1), (2, .int z2), (3, .int z3)]) (hcc : cells + (4) ≤ 4 ∧ slots + (32) ≤ 32) : W p l e rm_X1_parseArguments s m args below meth c H locs cells slots (vx_MQ below (gXQ x base (fun _ => none) res) (gXC x base res) args s 4 32 (fun q => base ≤ q)) (F0 m 10 ls []) := by
  have hx := X.1
  have hb := X.2.1
  unfold f_X1_parseArguments_J10 at hr
  refine lv_iconst (v := 1) hx hb dX1_parseArguments_10 (by decide) ?_
  refine lv_goto (tgt := 15) hx hb dX1_parseArguments_11 (by decide) ?_
  exact w_X1_parseArguments_J15 X hst hxt hr hI (lv_sub hl [0, 1, 2, 3] rfl) (by omega)
set_option maxHeartbeats 2000000 in
theorem w_X1_parseArguments {l : Launch} {x : gV} {base : Nat} (hst : l.stackTraces = false) {z0 : Nat} {z1 : Nat} {z2 : Int32} {z3 : Int32} {h : gH} {n : Nat} {res : (Unit ⊕ gX) × gH × Nat} (hr : f_X1_parseArguments z0 z1 z2 z3 h n = some res) : gMX l yX1_parseArguments (ws_ yX1_parseArguments cX1_parseArguments 5 none) rm_X1_parseArguments x base (fun _ => none) [.ref z0, .ref z1, .int z2, .int z3] h n res 4 32 := by
  refine g_metX (cc := cX1_parseArguments) (nL := 5) (ret := none) (by decide) (Nat.le_of_ble_eq_true rfl) (fun p e s m below meth c ls X hnm hxt hl hI => ?_)
  have hl : lv_has ls 5 [(0, .ref z0), (1, .ref z1), (2, .int z2), (3, .int z3)] := hl
  have hx := X.1
  have hb := X.2.1
  have hcc : 0 + 4 ≤ 4 ∧ 0 + 32 ≤ 32 := ⟨Nat.le_refl _, Nat.le_refl _⟩
  unfold f_X1_parseArguments at hr
  refine lv_iload_n hx hb dX1_parseArguments_0 rfl (lv_at hl 2 rfl) ?_
  refine lv_iconst (v := 2) hx hb dX1_parseArguments_1 (by decide) ?_
  refine lv_icmp_eq (tgt := 10) hx hb dX1_parseArguments_2 (by decide) (fun c9 => ?_) (fun c9 => ?_)
  · replace hr := gIf_t c9 hr
    exact w_X1_parseArguments_J10 X hst hxt hr hI (lv_sub hl [0, 1, 2, 3] rfl) (by omega)
  · replace hr := gIf_f c9 hr
    refine lv_iload_n hx hb dX1_parseArguments_5 rfl (lv_at hl 2 rfl) ?_
    refine lv_iconst (v := 4) hx hb dX1_parseArguments_6 (by decide) ?_
    refine lv_icmp_ne (tgt := 14) hx hb dX1_parseArguments_7 (by decide) (fun c9 => ?_) (fun c9 => ?_)
    · replace hr := gIf_f c9 hr
      refine lv_iconst (v := 0) hx hb dX1_parseArguments_14 (by decide) ?_
      exact w_X1_parseArguments_J15 X hst hxt hr hI (lv_sub hl [0, 1, 2, 3] rfl) (by omega)
    · replace hr := gIf_t c9 hr
      exact w_X1_parseArguments_J10 X hst hxt hr hI (lv_sub hl [0, 1, 2, 3] rfl) (by omega)
abbrev rm_X1_parseScript : Room := { frames := 16, cells := 198, slots := 1584, locals := 489 }
theorem hd_X1_parseScript : yX1_parseScript.cls = RX1 ∧ yX1_parseScript.cls ≠ "java/lang/invoke/MethodHandle" ∧ yX1_parseScript.cls ≠ "java/lang/invoke/VarHandle" ∧ (parseMethodDescriptor yX1_parseScript.desc).map (fun d => d.parameters.length) = some 1 := by decide +kernel
set_option maxHeartbeats 2000000 in
theorem w_X1_parseScript_L2 {z0 : Nat} {z1 : Nat} {res : (Int32 ⊕ gX) × gH × Nat} (X : gXX x base RX1 cX1_parseScript 4 (some .int) p l s m args meth c) (hst : l.stackTraces = false) (hxt : c.exceptionTable.toList = tableOf []) : ∀ (k : Nat) {z2 : Int32} {h : gH} {n : Nat} {H : Heap} {locs : List Loc} {ls : Array Slot} {cells slots : Nat}, gL3 (f_X1_parseScript_L2 x z0 z1) k z2 h n = some res → gI x base s.heap h n H locs → lv_has ls 4 [(0, .ref z0), (1, .ref z1), (2, .int z2)] → (cells + (k * 6 + (6)) ≤ 198 ∧ slots + (k * 48 + (48)) ≤ 1584) → W p l e rm_X1_parseScript s m args below meth c H locs cells slots (vx_MQ below (gXQ x base (fun v => some (.int v)) res) (gXC x base res) args s 198 1584 (fun q => base ≤ q)) (F0 m 2 ls []) := by
  have hx := X.1
  have hb := X.2.1
  intro k
  induction k with
  | zero =>
    intros
    rename_i hr _ _ _
    exact nomatch (show (none : Option _) = some _ from hr)
  | succ k ih =>
    intro z2 h n H locs ls cells slots hr hI hl hcc
    replace hr : f_X1_parseScript_L2 x z0 z1 (gL3 (f_X1_parseScript_L2 x z0 z1) k) z2 h n = some res := hr
    unfold f_X1_parseScript_L2 at hr
    refine lv_aload_n hx hb dX1_parseScript_2 rfl (lv_at hl 1 rfl) ?_
    refine g_getI (C := RX3) (T := TX3) (N := 5) X hI in_X3 rfl 0 (by decide) q567 (fun _ h9 => h9) hr dX1_parseScript_3 (fun v1 hr => ?_)
    refine lv_if_eq (tgt := 124) hx hb dX1_parseScript_6 (by decide) (fun c9 => ?_) (fun c9 => ?_)
    · replace hr := gIf_t c9 hr
      refine lv_iload_n hx hb dX1_parseScript_124 rfl (lv_at hl 2 rfl) ?_
      have hr := gS_i hr
      subst hr
      exact g_xiret X hI rfl (show cells ≤ 198 from by omega) (show slots ≤ 1584 from by omega) dX1_parseScript_125
    · replace hr := gIf_f c9 hr
      refine lv_aload_n hx hb dX1_parseScript_9 rfl (lv_at hl 1 rfl) ?_
      refine lv_bipush (v := 8) hx hb dX1_parseScript_10 (by decide) ?_
      refine g_newQ (t := 8) (b := 8) (C := "java/lang/String") X hI q1509 (by decide) rfl (by decide) (show cells + 1 ≤ 198 from by omega) (show slots + 8 ≤ 1584 from by omega) hr dX1_parseScript_12 (fun q2 h3 n4 H locs hI hr => ?_)
      refine lv_dup hx hb dX1_parseScript_15 rfl ?_
      refine lv_iconst (v := 0) hx hb dX1_parseScript_16 (by decide) ?_
      refine g_ldcw X (i := 3) (tx := "give") (by decide +kernel) dX1_parseScript_17 ?_
      refine g_aast X hI (t := 8) rfl (g_anyT X hI (i := 3) (by decide)) hr dX1_parseScript_20 (fun h5 H locs hI hr => ?_)
      refine lv_dup hx hb dX1_parseScript_21 rfl ?_
      refine lv_iconst (v := 1) hx hb dX1_parseScript_22 (by decide) ?_
      refine g_ldcw X (i := 4) (tx := "free") (by decide +kernel) dX1_parseScript_23 ?_
      refine g_aast X hI (t := 8) rfl (g_anyT X hI (i := 4) (by decide)) hr dX1_parseScript_26 (fun h6 H locs hI hr => ?_)
      refine lv_dup hx hb dX1_parseScript_27 rfl ?_
      refine lv_iconst (v := 2) hx hb dX1_parseScript_28 (by decide) ?_
      refine g_ldcw X (i := 5) (tx := "swap") (by decide +kernel) dX1_parseScript_29 ?_
      refine g_aast X hI (t := 8) rfl (g_anyT X hI (i := 5) (by decide)) hr dX1_parseScript_32 (fun h7 H locs hI hr => ?_)
      refine lv_dup hx hb dX1_parseScript_33 rfl ?_
      refine lv_iconst (v := 3) hx hb dX1_parseScript_34 (by decide) ?_
      refine g_ldcw X (i := 6) (tx := "value") (by decide +kernel) dX1_parseScript_35 ?_
      refine g_aast X hI (t := 8) rfl (g_anyT X hI (i := 6) (by decide)) hr dX1_parseScript_38 (fun h8 H locs hI hr => ?_)
      refine lv_dup hx hb dX1_parseScript_39 rfl ?_
      refine lv_iconst (v := 4) hx hb dX1_parseScript_40 (by decide) ?_
      refine g_ldcw X (i := 7) (tx := "divide") (by decide +kernel) dX1_parseScript_41 ?_
      refine g_aast X hI (t := 8) rfl (g_anyT X hI (i := 7) (by decide)) hr dX1_parseScript_44 (fun h9 H locs hI hr => ?_)
      refine lv_dup hx hb dX1_parseScript_45 rfl ?_
      refine lv_iconst (v := 5) hx hb dX1_parseScript_46 (by decide) ?_
      refine g_ldcw X (i := 8) (tx := "knife") (by decide +kernel) dX1_parseScript_47 ?_
      refine g_aast X hI (t := 8) rfl (g_anyT X hI (i := 8) (by decide)) hr dX1_parseScript_50 (fun h10 H locs hI hr => ?_)
      refine lv_dup hx hb dX1_parseScript_51 rfl ?_
      refine lv_bipush (v := 6) hx hb dX1_parseScript_52 (by decide) ?_
      refine g_ldcw X (i := 9) (tx := "robin") (by decide +kernel) dX1_parseScript_54 ?_
      refine g_aast X hI (t := 8) rfl (g_anyT X hI (i := 9) (by decide)) hr dX1_parseScript_57 (fun h11 H locs hI hr => ?_)
      refine lv_dup hx hb dX1_parseScript_58 rfl ?_
      refine lv_bipush (v := 7) hx hb dX1_parseScript_59 (by decide) ?_
      refine g_ldcw X (i := 10) (tx := "rotate") (by decide +kernel) dX1_parseScript_61 ?_
      refine g_aast X hI (t := 8) rfl (g_anyT X hI (i := 10) (by decide)) hr dX1_parseScript_64 (fun h12 H locs hI hr => ?_)
      obtain ⟨_, ho13, hr⟩ := gB_i hr
      obtain ⟨v15, hc14, hr⟩ := gB_i hr
      refine gRun_i (g_runV X hI (w_X3_indexAmong hc14) ho13 rfl hl (lw_V q1519 q1520 q1521 q118 q1522) rfl rfl hd_X3_indexAmong ⟨Nat.le_of_ble_eq_true rfl, Nat.le_of_ble_eq_true rfl⟩ (as := [.ref q2]) (rest := []) rfl rfl (Nat.le_of_ble_eq_true rfl) ⟨(show (cells + 1) + 0 ≤ 198 from by omega), (show (slots + 8) + 0 ≤ 1584 from by omega)⟩ dX1_parseScript_65) (fun H locs hI => ?_)
      refine lv_istore_n (lv' := [(3, .int v15), (0, .ref z0), (1, .ref z1), (2, .int z2)]) hx hb dX1_parseScript_68 rfl hl (by decide) rfl (fun ls hl => ?_)
      refine lv_iload_n hx hb dX1_parseScript_69 rfl (lv_at hl 0 rfl) ?_
      refine lv_iconst (v := (-1)) hx hb dX1_parseScript_70 (by decide) ?_
      refine lv_icmp_ne (tgt := 80) hx hb dX1_parseScript_71 (by decide) (fun c9 => ?_) (fun c9 => ?_)
      · replace hr := gIf_f c9 hr
        refine lv_iload_n hx hb dX1_parseScript_80 rfl (lv_at hl 3 rfl) ?_
        refine lv_bipush (v := 30) hx hb dX1_parseScript_81 (by decide) ?_
        refine lv_icmp_ne (tgt := 92) hx hb dX1_parseScript_83 (by decide) (fun c9 => ?_) (fun c9 => ?_)
        · replace hr := gIf_f c9 hr
          refine lv_aload_n hx hb dX1_parseScript_92 rfl (lv_at hl 2 rfl) ?_
          obtain ⟨h17, hc16, hr⟩ := gB_i hr
          refine gRun_v (g_runV X hI (w_X3_advance hc16) ho13 rfl hl (lw_V q1523 q563 q564 q118 q565) rfl rfl hd_X3_advance ⟨Nat.le_of_ble_eq_true rfl, Nat.le_of_ble_eq_true rfl⟩ (as := []) (rest := []) rfl rfl (Nat.le_of_ble_eq_true rfl) ⟨(show ((cells + 1) + 0) + 0 ≤ 198 from by omega), (show ((slots + 8) + 0) + 0 ≤ 1584 from by omega)⟩ dX1_parseScript_93) (fun H locs hI => ?_)
          refine lv_aload_n hx hb dX1_parseScript_96 rfl (lv_at hl 1 rfl) ?_
          refine g_getA (C := RX1) (T := TX1) (N := 10) X hI in_X1 rfl 7 (by decide) q764 (fun _ h9 => h9) hr dX1_parseScript_97 (fun v18 hr => ?_)
          refine lv_iconst (v := 4) hx hb dX1_parseScript_100 (by decide) ?_
          refine lv_iload_n hx hb dX1_parseScript_101 rfl (lv_at hl 3 rfl) ?_
          refine lv_imul hx hb dX1_parseScript_102 ?_
          refine lv_iload_n hx hb dX1_parseScript_103 rfl (lv_at hl 0 rfl) ?_
          refine g_iast X hI hr dX1_parseScript_104 (fun h19 H locs hI hr => ?_)
          refine lv_aload_n hx hb dX1_parseScript_105 rfl (lv_at hl 1 rfl) ?_
          refine lv_aload_n hx hb dX1_parseScript_106 rfl (lv_at hl 2 rfl) ?_
          refine lv_iload_n hx hb dX1_parseScript_107 rfl (lv_at hl 0 rfl) ?_
          refine lv_iconst (v := 4) hx hb dX1_parseScript_108 (by decide) ?_
          refine lv_iload_n hx hb dX1_parseScript_109 rfl (lv_at hl 3 rfl) ?_
          refine lv_imul hx hb dX1_parseScript_110 ?_
          obtain ⟨_, ho20, hr⟩ := gB_i hr
          rcases gTX_i hr with ⟨u9, h23, n24, hc21, hr⟩ | ⟨q22, h25, n26, hc21, hr⟩
          · refine gXRet_v (g_xrunV X hI (w_X1_parseArguments hst hc21) ho20 rfl hl (lw_V q1524 q1526 qs31 q96 q1527) rfl rfl hd_X1_parseArguments ⟨Nat.le_of_ble_eq_true rfl, Nat.le_of_ble_eq_true rfl⟩ (as := [.ref z1, .int v15, .int ((4 : Int32) * z2)]) (rest := []) rfl rfl (Nat.le_of_ble_eq_true rfl) ⟨(show (((cells + 1) + 0) + 0) + 4 ≤ 198 from by omega), (show (((slots + 8) + 0) + 0) + 32 ≤ 1584 from by omega)⟩ dX1_parseScript_111) (fun H locs hI => ?_)
            refine lv_aload_n hx hb dX1_parseScript_114 rfl (lv_at hl 2 rfl) ?_
            obtain ⟨_, ho27, hr⟩ := gB_i hr
            rcases gTX_i hr with ⟨u9, h30, n31, hc28, hr⟩ | ⟨q29, h32, n33, hc28, hr⟩
            · refine gXRet_v (g_xrunV X hI (w_X3_expectSemicolon hst hc28) ho27 rfl hl (lw_V q636 q637 q638 q118 q639) rfl rfl hd_X3_expectSemicolon ⟨Nat.le_of_ble_eq_true rfl, Nat.le_of_ble_eq_true rfl⟩ (as := []) (rest := []) rfl rfl (Nat.le_of_ble_eq_true rfl) ⟨(show ((((cells + 1) + 0) + 0) + 4) + 1 ≤ 198 from by omega), (show ((((slots + 8) + 0) + 0) + 32) + 8 ≤ 1584 from by omega)⟩ dX1_parseScript_115) (fun H locs hI => ?_)
              refine lv_iinc (v := (z2 + (1 : Int32))) (lv' := [(2, .int (z2 + (1 : Int32))), (3, .int v15), (0, .ref z0), (1, .ref z1)]) hx hb dX1_parseScript_118 hl (k := 3) rfl (g_inc (by decide)) (by decide) rfl (fun ls hl => ?_)
              refine lv_goto (tgt := 2) hx hb dX1_parseScript_121 (by decide) ?_
              exact ih hr hI (lv_sub hl [2, 3, 0] rfl) (by omega)
            · refine gXThr (k := q29.1) (q := q29.2) (g_xrunV X hI (w_X3_expectSemicolon hst hc28) ho27 rfl hl (lw_V q636 q637 q638 q118 q639) rfl rfl hd_X3_expectSemicolon ⟨Nat.le_of_ble_eq_true rfl, Nat.le_of_ble_eq_true rfl⟩ (as := []) (rest := []) rfl rfl (Nat.le_of_ble_eq_true rfl) ⟨(show ((((cells + 1) + 0) + 0) + 4) + 1 ≤ 198 from by omega), (show ((((slots + 8) + 0) + 0) + 32) + 8 ≤ 1584 from by omega)⟩ dX1_parseScript_115) (fun H locs hI hxc => ?_)
              have hr := gS_i hr
              subst hr
              exact g_xout X hI hxc hxt gPs_0 (show (((((cells + 1) + 0) + 0) + 4) + 1) ≤ 198 from by omega) (show (((((slots + 8) + 0) + 0) + 32) + 8) ≤ 1584 from by omega)
          · refine gXThr (k := q22.1) (q := q22.2) (g_xrunV X hI (w_X1_parseArguments hst hc21) ho20 rfl hl (lw_V q1524 q1526 qs31 q96 q1527) rfl rfl hd_X1_parseArguments ⟨Nat.le_of_ble_eq_true rfl, Nat.le_of_ble_eq_true rfl⟩ (as := [.ref z1, .int v15, .int ((4 : Int32) * z2)]) (rest := []) rfl rfl (Nat.le_of_ble_eq_true rfl) ⟨(show (((cells + 1) + 0) + 0) + 4 ≤ 198 from by omega), (show (((slots + 8) + 0) + 0) + 32 ≤ 1584 from by omega)⟩ dX1_parseScript_111) (fun H locs hI hxc => ?_)
            have hr := gS_i hr
            subst hr
            exact g_xout X hI hxc hxt gPs_0 (show ((((cells + 1) + 0) + 0) + 4) ≤ 198 from by omega) (show ((((slots + 8) + 0) + 0) + 32) ≤ 1584 from by omega)
        · replace hr := gIf_t c9 hr
          refine lv_aload_n hx hb dX1_parseScript_86 rfl (lv_at hl 2 rfl) ?_
          refine lv_iconst (v := 4) hx hb dX1_parseScript_87 (by decide) ?_
          obtain ⟨v35, h36, n37, hc34, hr⟩ := gT3_i hr
          refine gRun_a (g_runV X hI (w_X3_error hst hc34) ho13 rfl hl (lw_V q650 q599 q600 q118 q601) rfl rfl hd_X3_error ⟨Nat.le_of_ble_eq_true rfl, Nat.le_of_ble_eq_true rfl⟩ (as := [.int (4 : Int32)]) (rest := []) rfl rfl (Nat.le_of_ble_eq_true rfl) ⟨(show ((cells + 1) + 0) + 1 ≤ 198 from by omega), (show ((slots + 8) + 0) + 8 ≤ 1584 from by omega)⟩ dX1_parseScript_88) (fun H locs hI => ?_)
          obtain ⟨k38, hk39, hr⟩ := gB_i hr
          refine g_athrow X hI hk39 dX1_parseScript_91 (fun hxc => ?_)
          have hr := gS_i hr
          subst hr
          exact g_xout X hI hxc hxt gPs_0 (show (((cells + 1) + 0) + 1) ≤ 198 from by omega) (show (((slots + 8) + 0) + 8) ≤ 1584 from by omega)
      · replace hr := gIf_t c9 hr
        refine lv_aload_n hx hb dX1_parseScript_74 rfl (lv_at hl 2 rfl) ?_
        refine lv_iconst (v := 1) hx hb dX1_parseScript_75 (by decide) ?_
        obtain ⟨v41, h42, n43, hc40, hr⟩ := gT3_i hr
        refine gRun_a (g_runV X hI (w_X3_error hst hc40) ho13 rfl hl (lw_V q650 q599 q600 q118 q601) rfl rfl hd_X3_error ⟨Nat.le_of_ble_eq_true rfl, Nat.le_of_ble_eq_true rfl⟩ (as := [.int (1 : Int32)]) (rest := []) rfl rfl (Nat.le_of_ble_eq_true rfl) ⟨(show ((cells + 1) + 0) + 1 ≤ 198 from by omega), (show ((slots + 8) + 0) + 8 ≤ 1584 from by omega)⟩ dX1_parseScript_76) (fun H locs hI => ?_)
        obtain ⟨k44, hk45, hr⟩ := gB_i hr
        refine g_athrow X hI hk45 dX1_parseScript_79 (fun hxc => ?_)
        have hr := gS_i hr
        subst hr
        exact g_xout X hI hxc hxt gPs_0 (show (((cells + 1) + 0) + 1) ≤ 198 from by omega) (show (((slots + 8) + 0) + 8) ≤ 1584 from by omega)
set_option maxHeartbeats 2000000 in
theorem w_X1_parseScript {l : Launch} {x : gV} {base : Nat} (hst : l.stackTraces = false) {z0 : Nat} {z1 : Nat} {h : gH} {n : Nat} {res : (Int32 ⊕ gX) × gH × Nat} (hr : f_X1_parseScript x z0 z1 h n = some res) : gMX l yX1_parseScript (ws_ yX1_parseScript cX1_parseScript 4 (some .int)) rm_X1_parseScript x base (fun v => some (.int v)) [.ref z0, .ref z1] h n res 198 1584 := by
  refine g_metX (cc := cX1_parseScript) (nL := 4) (ret := (some .int)) (by decide) (Nat.le_of_ble_eq_true rfl) (fun p e s m below meth c ls X hnm hxt hl hI => ?_)
  have hl : lv_has ls 4 [(0, .ref z0), (1, .ref z1)] := hl
  have hx := X.1
  have hb := X.2.1
  have hcc : 0 + 198 ≤ 198 ∧ 0 + 1584 ≤ 1584 := ⟨Nat.le_refl _, Nat.le_refl _⟩
  unfold f_X1_parseScript at hr
  refine lv_iconst (v := 0) hx hb dX1_parseScript_0 (by decide) ?_
  refine lv_istore_n (lv' := [(2, .int (0 : Int32)), (0, .ref z0), (1, .ref z1)]) hx hb dX1_parseScript_1 rfl hl (by decide) rfl (fun ls hl => ?_)
  exact w_X1_parseScript_L2 X hst hxt 32 hr hI (lv_sub hl [1, 2, 0] rfl) (by omega)
abbrev rm_X1_execute : Room := { frames := 12, cells := 9, slots := 63, locals := 248 }
theorem hd_X1_execute : yX1_execute.cls = RX1 ∧ yX1_execute.cls ≠ "java/lang/invoke/MethodHandle" ∧ yX1_execute.cls ≠ "java/lang/invoke/VarHandle" ∧ (parseMethodDescriptor yX1_execute.desc).map (fun d => d.parameters.length) = some 4 := by decide +kernel
set_option maxHeartbeats 2000000 in
theorem w_X1_execute {l : Launch} {x : gV} {base : Nat} (hst : l.stackTraces = false) {z0 : Nat} {z1 : Int32} {z2 : Int32} {z3 : Int32} {z4 : Int32} {h : gH} {n : Nat} {res : (Unit ⊕ gX) × gH × Nat} (hr : f_X1_execute z0 z1 z2 z3 z4 h n = some res) : gMX l yX1_execute (ws_ yX1_execute cX1_execute 5 none) rm_X1_execute x base (fun _ => none) [.ref z0, .int z1, .int z2, .int z3, .int z4] h n res 9 63 := by
  refine g_metX (cc := cX1_execute) (nL := 5) (ret := none) (by decide) (Nat.le_of_ble_eq_true rfl) (fun p e s m below meth c ls X hnm hxt hl hI => ?_)
  have hl : lv_has ls 5 [(0, .ref z0), (1, .int z1), (2, .int z2), (3, .int z3), (4, .int z4)] := hl
  have hx := X.1
  have hb := X.2.1
  have hcc : 0 + 9 ≤ 9 ∧ 0 + 63 ≤ 63 := ⟨Nat.le_refl _, Nat.le_refl _⟩
  unfold f_X1_execute at hr
  refine lv_iload_n hx hb dX1_execute_0 rfl (lv_at hl 1 rfl) ?_
  by_cases c9 : z1 = 0
  · replace hr := gIf_t c9 hr
    refine lv_tableIn (off := 43) (tgt := 44) hx hb dX1_execute_1 (by rw [c9]; decide) (by rw [c9]; decide) (by rw [c9]; rfl) (by decide) ?_
    refine lv_aload_n hx hb dX1_execute_44 rfl (lv_at hl 0 rfl) ?_
    refine lv_iload_n hx hb dX1_execute_45 rfl (lv_at hl 2 rfl) ?_
    refine lv_iload_n hx hb dX1_execute_46 rfl (lv_at hl 3 rfl) ?_
    refine lv_iload hx hb dX1_execute_47 (lv_at hl 4 rfl) ?_
    obtain ⟨_, ho1, hr⟩ := gB_i hr
    rcases gTX_i hr with ⟨v3, h5, n6, hc2, hr⟩ | ⟨q4, h7, n8, hc2, hr⟩
    · refine gXRet_i (g_xrunV X hI (w_X1_doGive hst hc2) ho1 rfl hl (lw_V q1413 q1415 qs23 q96 q1416) rfl rfl hd_X1_doGive ⟨Nat.le_of_ble_eq_true rfl, Nat.le_of_ble_eq_true rfl⟩ (as := [.int z2, .int z3, .int z4]) (rest := []) rfl rfl (Nat.le_of_ble_eq_true rfl) ⟨(show 0 + 6 ≤ 9 from by omega), (show 0 + 31 ≤ 63 from by omega)⟩ dX1_execute_49) (fun H locs hI => ?_)
      refine lv_pop hx hb dX1_execute_52 rfl ?_
      refine lv_goto (tgt := 125) hx hb dX1_execute_53 (by decide) ?_
      have hr := gS_i hr
      subst hr
      exact g_xvret X hI (show (0 + 6) ≤ 9 from by omega) (show (0 + 31) ≤ 63 from by omega) dX1_execute_125
    · refine gXThr (k := q4.1) (q := q4.2) (g_xrunV X hI (w_X1_doGive hst hc2) ho1 rfl hl (lw_V q1413 q1415 qs23 q96 q1416) rfl rfl hd_X1_doGive ⟨Nat.le_of_ble_eq_true rfl, Nat.le_of_ble_eq_true rfl⟩ (as := [.int z2, .int z3, .int z4]) (rest := []) rfl rfl (Nat.le_of_ble_eq_true rfl) ⟨(show 0 + 6 ≤ 9 from by omega), (show 0 + 31 ≤ 63 from by omega)⟩ dX1_execute_49) (fun H locs hI hxc => ?_)
      have hr := gS_i hr
      subst hr
      exact g_xout X hI hxc hxt gPs_0 (show (0 + 6) ≤ 9 from by omega) (show (0 + 31) ≤ 63 from by omega)
  replace hr := gIf_f c9 hr
  have n0 := c9
  by_cases c9 : z1 = 1
  · replace hr := gIf_t c9 hr
    refine lv_tableIn (off := 55) (tgt := 56) hx hb dX1_execute_1 (by rw [c9]; decide) (by rw [c9]; decide) (by rw [c9]; rfl) (by decide) ?_
    refine lv_aload_n hx hb dX1_execute_56 rfl (lv_at hl 0 rfl) ?_
    refine lv_iload_n hx hb dX1_execute_57 rfl (lv_at hl 3 rfl) ?_
    refine lv_iload hx hb dX1_execute_58 (lv_at hl 4 rfl) ?_
    obtain ⟨_, ho9, hr⟩ := gB_i hr
    rcases gTX_i hr with ⟨v11, h13, n14, hc10, hr⟩ | ⟨q12, h15, n16, hc10, hr⟩
    · refine gXRet_i (g_xrunV X hI (w_X1_doRelease hst hc10) ho9 rfl hl (lw_V q1425 q1427 qs24 q96 q1428) rfl rfl hd_X1_doRelease ⟨Nat.le_of_ble_eq_true rfl, Nat.le_of_ble_eq_true rfl⟩ (as := [.int z3, .int z4]) (rest := []) rfl rfl (Nat.le_of_ble_eq_true rfl) ⟨(show 0 + 1 ≤ 9 from by omega), (show 0 + 6 ≤ 63 from by omega)⟩ dX1_execute_60) (fun H locs hI => ?_)
      refine lv_pop hx hb dX1_execute_63 rfl ?_
      refine lv_goto (tgt := 125) hx hb dX1_execute_64 (by decide) ?_
      have hr := gS_i hr
      subst hr
      exact g_xvret X hI (show (0 + 1) ≤ 9 from by omega) (show (0 + 6) ≤ 63 from by omega) dX1_execute_125
    · refine gXThr (k := q12.1) (q := q12.2) (g_xrunV X hI (w_X1_doRelease hst hc10) ho9 rfl hl (lw_V q1425 q1427 qs24 q96 q1428) rfl rfl hd_X1_doRelease ⟨Nat.le_of_ble_eq_true rfl, Nat.le_of_ble_eq_true rfl⟩ (as := [.int z3, .int z4]) (rest := []) rfl rfl (Nat.le_of_ble_eq_true rfl) ⟨(show 0 + 1 ≤ 9 from by omega), (show 0 + 6 ≤ 63 from by omega)⟩ dX1_execute_60) (fun H locs hI hxc => ?_)
      have hr := gS_i hr
      subst hr
      exact g_xout X hI hxc hxt gPs_0 (show (0 + 1) ≤ 9 from by omega) (show (0 + 6) ≤ 63 from by omega)
  replace hr := gIf_f c9 hr
  have n1 := c9
  by_cases c9 : z1 = 2
  · replace hr := gIf_t c9 hr
    refine lv_tableIn (off := 66) (tgt := 67) hx hb dX1_execute_1 (by rw [c9]; decide) (by rw [c9]; decide) (by rw [c9]; rfl) (by decide) ?_
    refine lv_aload_n hx hb dX1_execute_67 rfl (lv_at hl 0 rfl) ?_
    refine lv_iload_n hx hb dX1_execute_68 rfl (lv_at hl 2 rfl) ?_
    refine lv_iload_n hx hb dX1_execute_69 rfl (lv_at hl 3 rfl) ?_
    obtain ⟨_, ho17, hr⟩ := gB_i hr
    rcases gTX_i hr with ⟨v19, h21, n22, hc18, hr⟩ | ⟨q20, h23, n24, hc18, hr⟩
    · refine gXRet_i (g_xrunV X hI (w_X1_doSwapShares hst hc18) ho17 rfl hl (lw_V q1437 q1439 qs25 q96 q1440) rfl rfl hd_X1_doSwapShares ⟨Nat.le_of_ble_eq_true rfl, Nat.le_of_ble_eq_true rfl⟩ (as := [.int z2, .int z3]) (rest := []) rfl rfl (Nat.le_of_ble_eq_true rfl) ⟨(show 0 + 6 ≤ 9 from by omega), (show 0 + 32 ≤ 63 from by omega)⟩ dX1_execute_70) (fun H locs hI => ?_)
      refine lv_pop hx hb dX1_execute_73 rfl ?_
      refine lv_goto (tgt := 125) hx hb dX1_execute_74 (by decide) ?_
      have hr := gS_i hr
      subst hr
      exact g_xvret X hI (show (0 + 6) ≤ 9 from by omega) (show (0 + 32) ≤ 63 from by omega) dX1_execute_125
    · refine gXThr (k := q20.1) (q := q20.2) (g_xrunV X hI (w_X1_doSwapShares hst hc18) ho17 rfl hl (lw_V q1437 q1439 qs25 q96 q1440) rfl rfl hd_X1_doSwapShares ⟨Nat.le_of_ble_eq_true rfl, Nat.le_of_ble_eq_true rfl⟩ (as := [.int z2, .int z3]) (rest := []) rfl rfl (Nat.le_of_ble_eq_true rfl) ⟨(show 0 + 6 ≤ 9 from by omega), (show 0 + 32 ≤ 63 from by omega)⟩ dX1_execute_70) (fun H locs hI hxc => ?_)
      have hr := gS_i hr
      subst hr
      exact g_xout X hI hxc hxt gPs_0 (show (0 + 6) ≤ 9 from by omega) (show (0 + 32) ≤ 63 from by omega)
  replace hr := gIf_f c9 hr
  have n2 := c9
  by_cases c9 : z1 = 3
  · replace hr := gIf_t c9 hr
    refine lv_tableIn (off := 76) (tgt := 77) hx hb dX1_execute_1 (by rw [c9]; decide) (by rw [c9]; decide) (by rw [c9]; rfl) (by decide) ?_
    refine lv_aload_n hx hb dX1_execute_77 rfl (lv_at hl 0 rfl) ?_
    refine lv_iload_n hx hb dX1_execute_78 rfl (lv_at hl 2 rfl) ?_
    refine lv_iload_n hx hb dX1_execute_79 rfl (lv_at hl 3 rfl) ?_
    refine lv_iload hx hb dX1_execute_80 (lv_at hl 4 rfl) ?_
    obtain ⟨_, ho25, hr⟩ := gB_i hr
    rcases gTX_i hr with ⟨v27, h29, n30, hc26, hr⟩ | ⟨q28, h31, n32, hc26, hr⟩
    · refine gXRet_i (g_xrunV X hI (w_X1_doSetValue hst hc26) ho25 rfl hl (lw_V q1448 q1450 qs26 q96 q1451) rfl rfl hd_X1_doSetValue ⟨Nat.le_of_ble_eq_true rfl, Nat.le_of_ble_eq_true rfl⟩ (as := [.int z2, .int z3, .int z4]) (rest := []) rfl rfl (Nat.le_of_ble_eq_true rfl) ⟨(show 0 + 9 ≤ 9 from by omega), (show 0 + 63 ≤ 63 from by omega)⟩ dX1_execute_82) (fun H locs hI => ?_)
      refine lv_pop hx hb dX1_execute_85 rfl ?_
      refine lv_goto (tgt := 125) hx hb dX1_execute_86 (by decide) ?_
      have hr := gS_i hr
      subst hr
      exact g_xvret X hI (show (0 + 9) ≤ 9 from by omega) (show (0 + 63) ≤ 63 from by omega) dX1_execute_125
    · refine gXThr (k := q28.1) (q := q28.2) (g_xrunV X hI (w_X1_doSetValue hst hc26) ho25 rfl hl (lw_V q1448 q1450 qs26 q96 q1451) rfl rfl hd_X1_doSetValue ⟨Nat.le_of_ble_eq_true rfl, Nat.le_of_ble_eq_true rfl⟩ (as := [.int z2, .int z3, .int z4]) (rest := []) rfl rfl (Nat.le_of_ble_eq_true rfl) ⟨(show 0 + 9 ≤ 9 from by omega), (show 0 + 63 ≤ 63 from by omega)⟩ dX1_execute_82) (fun H locs hI hxc => ?_)
      have hr := gS_i hr
      subst hr
      exact g_xout X hI hxc hxt gPs_0 (show (0 + 9) ≤ 9 from by omega) (show (0 + 63) ≤ 63 from by omega)
  replace hr := gIf_f c9 hr
  have n3 := c9
  by_cases c9 : z1 = 4
  · replace hr := gIf_t c9 hr
    refine lv_tableIn (off := 88) (tgt := 89) hx hb dX1_execute_1 (by rw [c9]; decide) (by rw [c9]; decide) (by rw [c9]; rfl) (by decide) ?_
    refine lv_aload_n hx hb dX1_execute_89 rfl (lv_at hl 0 rfl) ?_
    refine lv_iload_n hx hb dX1_execute_90 rfl (lv_at hl 2 rfl) ?_
    refine lv_iload_n hx hb dX1_execute_91 rfl (lv_at hl 3 rfl) ?_
    obtain ⟨_, ho33, hr⟩ := gB_i hr
    rcases gTX_i hr with ⟨v35, h37, n38, hc34, hr⟩ | ⟨q36, h39, n40, hc34, hr⟩
    · refine gXRet_i (g_xrunV X hI (w_X1_doDivide hst hc34) ho33 rfl hl (lw_V q1467 q1469 qs27 q96 q1470) rfl rfl hd_X1_doDivide ⟨Nat.le_of_ble_eq_true rfl, Nat.le_of_ble_eq_true rfl⟩ (as := [.int z2, .int z3]) (rest := []) rfl rfl (Nat.le_of_ble_eq_true rfl) ⟨(show 0 + 6 ≤ 9 from by omega), (show 0 + 32 ≤ 63 from by omega)⟩ dX1_execute_92) (fun H locs hI => ?_)
      refine lv_pop hx hb dX1_execute_95 rfl ?_
      refine lv_goto (tgt := 125) hx hb dX1_execute_96 (by decide) ?_
      have hr := gS_i hr
      subst hr
      exact g_xvret X hI (show (0 + 6) ≤ 9 from by omega) (show (0 + 32) ≤ 63 from by omega) dX1_execute_125
    · refine gXThr (k := q36.1) (q := q36.2) (g_xrunV X hI (w_X1_doDivide hst hc34) ho33 rfl hl (lw_V q1467 q1469 qs27 q96 q1470) rfl rfl hd_X1_doDivide ⟨Nat.le_of_ble_eq_true rfl, Nat.le_of_ble_eq_true rfl⟩ (as := [.int z2, .int z3]) (rest := []) rfl rfl (Nat.le_of_ble_eq_true rfl) ⟨(show 0 + 6 ≤ 9 from by omega), (show 0 + 32 ≤ 63 from by omega)⟩ dX1_execute_92) (fun H locs hI hxc => ?_)
      have hr := gS_i hr
      subst hr
      exact g_xout X hI hxc hxt gPs_0 (show (0 + 6) ≤ 9 from by omega) (show (0 + 32) ≤ 63 from by omega)
  replace hr := gIf_f c9 hr
  have n4 := c9
  by_cases c9 : z1 = 5
  · replace hr := gIf_t c9 hr
    refine lv_tableIn (off := 98) (tgt := 99) hx hb dX1_execute_1 (by rw [c9]; decide) (by rw [c9]; decide) (by rw [c9]; rfl) (by decide) ?_
    refine lv_aload_n hx hb dX1_execute_99 rfl (lv_at hl 0 rfl) ?_
    refine g_getA (C := RX1) (T := TX1) (N := 10) X hI in_X1 rfl 4 (by decide) q760 (fun _ h9 => h9) hr dX1_execute_100 (fun v41 hr => ?_)
    obtain ⟨_, ho42, hr⟩ := gB_i hr
    obtain ⟨v44, h45, hc43, hr⟩ := gT2_i hr
    refine gRun_i (g_runV X hI (w_X2_movingKnife hc43) ho42 rfl hl (lw_V q996 q997 q998 q97 q999) rfl rfl hd_X2_movingKnife ⟨Nat.le_of_ble_eq_true rfl, Nat.le_of_ble_eq_true rfl⟩ (as := []) (rest := []) rfl rfl (Nat.le_of_ble_eq_true rfl) ⟨(show 0 + 0 ≤ 9 from by omega), (show 0 + 0 ≤ 63 from by omega)⟩ dX1_execute_103) (fun H locs hI => ?_)
    refine lv_pop hx hb dX1_execute_106 rfl ?_
    refine lv_goto (tgt := 125) hx hb dX1_execute_107 (by decide) ?_
    have hr := gS_i hr
    subst hr
    exact g_xvret X hI (show (0 + 0) ≤ 9 from by omega) (show (0 + 0) ≤ 63 from by omega) dX1_execute_125
  replace hr := gIf_f c9 hr
  have n5 := c9
  by_cases c9 : z1 = 6
  · replace hr := gIf_t c9 hr
    refine lv_tableIn (off := 109) (tgt := 110) hx hb dX1_execute_1 (by rw [c9]; decide) (by rw [c9]; decide) (by rw [c9]; rfl) (by decide) ?_
    refine lv_aload_n hx hb dX1_execute_110 rfl (lv_at hl 0 rfl) ?_
    refine lv_iload_n hx hb dX1_execute_111 rfl (lv_at hl 2 rfl) ?_
    obtain ⟨_, ho46, hr⟩ := gB_i hr
    rcases gTX_i hr with ⟨v48, h50, n51, hc47, hr⟩ | ⟨q49, h52, n53, hc47, hr⟩
    · refine gXRet_i (g_xrunV X hI (w_X1_doRoundRobin hst hc47) ho46 rfl hl (lw_V q1483 q1485 qs28 q96 q1486) rfl rfl hd_X1_doRoundRobin ⟨Nat.le_of_ble_eq_true rfl, Nat.le_of_ble_eq_true rfl⟩ (as := [.int z2]) (rest := []) rfl rfl (Nat.le_of_ble_eq_true rfl) ⟨(show 0 + 5 ≤ 9 from by omega), (show 0 + 25 ≤ 63 from by omega)⟩ dX1_execute_112) (fun H locs hI => ?_)
      refine lv_pop hx hb dX1_execute_115 rfl ?_
      refine lv_goto (tgt := 125) hx hb dX1_execute_116 (by decide) ?_
      have hr := gS_i hr
      subst hr
      exact g_xvret X hI (show (0 + 5) ≤ 9 from by omega) (show (0 + 25) ≤ 63 from by omega) dX1_execute_125
    · refine gXThr (k := q49.1) (q := q49.2) (g_xrunV X hI (w_X1_doRoundRobin hst hc47) ho46 rfl hl (lw_V q1483 q1485 qs28 q96 q1486) rfl rfl hd_X1_doRoundRobin ⟨Nat.le_of_ble_eq_true rfl, Nat.le_of_ble_eq_true rfl⟩ (as := [.int z2]) (rest := []) rfl rfl (Nat.le_of_ble_eq_true rfl) ⟨(show 0 + 5 ≤ 9 from by omega), (show 0 + 25 ≤ 63 from by omega)⟩ dX1_execute_112) (fun H locs hI hxc => ?_)
      have hr := gS_i hr
      subst hr
      exact g_xout X hI hxc hxt gPs_0 (show (0 + 5) ≤ 9 from by omega) (show (0 + 25) ≤ 63 from by omega)
  replace hr := gIf_f c9 hr
  have n6 := c9
  refine lv_tableOut (tgt := 119) hx hb dX1_execute_1 (by have m0 := lv_neT (a := 0) n0 (by decide); have m1 := lv_neT (a := 1) n1 (by decide); have m2 := lv_neT (a := 2) n2 (by decide); have m3 := lv_neT (a := 3) n3 (by decide); have m4 := lv_neT (a := 4) n4 (by decide); have m5 := lv_neT (a := 5) n5 (by decide); have m6 := lv_neT (a := 6) n6 (by decide); omega) (by decide) ?_
  refine lv_aload_n hx hb dX1_execute_119 rfl (lv_at hl 0 rfl) ?_
  refine lv_iload_n hx hb dX1_execute_120 rfl (lv_at hl 2 rfl) ?_
  obtain ⟨_, ho54, hr⟩ := gB_i hr
  rcases gTX_i hr with ⟨v56, h58, n59, hc55, hr⟩ | ⟨q57, h60, n61, hc55, hr⟩
  · refine gXRet_i (g_xrunV X hI (w_X1_doRotate hst hc55) ho54 rfl hl (lw_V q1494 q1496 qs29 q96 q1497) rfl rfl hd_X1_doRotate ⟨Nat.le_of_ble_eq_true rfl, Nat.le_of_ble_eq_true rfl⟩ (as := [.int z2]) (rest := []) rfl rfl (Nat.le_of_ble_eq_true rfl) ⟨(show 0 + 9 ≤ 9 from by omega), (show 0 + 47 ≤ 63 from by omega)⟩ dX1_execute_121) (fun H locs hI => ?_)
    refine lv_pop hx hb dX1_execute_124 rfl ?_
    have hr := gS_i hr
    subst hr
    exact g_xvret X hI (show (0 + 9) ≤ 9 from by omega) (show (0 + 47) ≤ 63 from by omega) dX1_execute_125
  · refine gXThr (k := q57.1) (q := q57.2) (g_xrunV X hI (w_X1_doRotate hst hc55) ho54 rfl hl (lw_V q1494 q1496 qs29 q96 q1497) rfl rfl hd_X1_doRotate ⟨Nat.le_of_ble_eq_true rfl, Nat.le_of_ble_eq_true rfl⟩ (as := [.int z2]) (rest := []) rfl rfl (Nat.le_of_ble_eq_true rfl) ⟨(show 0 + 9 ≤ 9 from by omega), (show 0 + 47 ≤ 63 from by omega)⟩ dX1_execute_121) (fun H locs hI hxc => ?_)
    have hr := gS_i hr
    subst hr
    exact g_xout X hI hxc hxt gPs_0 (show (0 + 9) ≤ 9 from by omega) (show (0 + 47) ≤ 63 from by omega)
abbrev rm_X1_executed : Room := { frames := 13, cells := 9, slots := 63, locals := 272 }
theorem hd_X1_executed : yX1_executed.cls = RX1 ∧ yX1_executed.cls ≠ "java/lang/invoke/MethodHandle" ∧ yX1_executed.cls ≠ "java/lang/invoke/VarHandle" ∧ (parseMethodDescriptor yX1_executed.desc).map (fun d => d.parameters.length) = some 1 := by decide +kernel
set_option maxHeartbeats 2000000 in
theorem w_X1_executed {l : Launch} {x : gV} {base : Nat} (hst : l.stackTraces = false) {z0 : Nat} {z1 : Int32} {h : gH} {n : Nat} {res : (Int32 ⊕ gX) × gH × Nat} (hr : f_X1_executed z0 z1 h n = some res) : gMX l yX1_executed (wsW_ yX1_executed cX1_executed 3 (some .boolean) [(0, 35, 36, 148), (0, 35, 36, 85), (0, 35, 36, 78)]) rm_X1_executed x base (fun v => some (.int v)) [.ref z0, .int z1] h n res 9 63 := by
  refine g_metW (cc := cX1_executed) (nL := 3) (ret := (some .boolean)) (by decide) (Nat.le_of_ble_eq_true rfl) (fun p e s m below meth c ls X hnm hxt hl hI => ?_)
  have hl : lv_has ls 3 [(0, .ref z0), (1, .int z1)] := hl
  have hx := X.1
  have hb := X.2.1
  have hcc : 0 + 9 ≤ 9 ∧ 0 + 63 ≤ 63 := ⟨Nat.le_refl _, Nat.le_refl _⟩
  unfold f_X1_executed at hr
  refine lv_aload_n hx hb dX1_executed_0 rfl (lv_at hl 0 rfl) ?_
  refine lv_aload_n hx hb dX1_executed_1 rfl (lv_at hl 0 rfl) ?_
  refine g_getA (C := RX1) (T := TX1) (N := 10) X hI in_X1 rfl 7 (by decide) q764 (fun _ h9 => h9) hr dX1_executed_2 (fun v1 hr => ?_)
  refine lv_iload_n hx hb dX1_executed_5 rfl (lv_at hl 1 rfl) ?_
  refine g_iald X hI hr dX1_executed_6 (fun v2 hr => ?_)
  refine lv_aload_n hx hb dX1_executed_7 rfl (lv_at hl 0 rfl) ?_
  refine g_getA (C := RX1) (T := TX1) (N := 10) X hI in_X1 rfl 7 (by decide) q764 (fun _ h9 => h9) hr dX1_executed_8 (fun v3 hr => ?_)
  refine lv_iload_n hx hb dX1_executed_11 rfl (lv_at hl 1 rfl) ?_
  refine lv_iconst (v := 1) hx hb dX1_executed_12 (by decide) ?_
  refine lv_iadd hx hb dX1_executed_13 ?_
  refine g_iald X hI hr dX1_executed_14 (fun v4 hr => ?_)
  refine lv_aload_n hx hb dX1_executed_15 rfl (lv_at hl 0 rfl) ?_
  refine g_getA (C := RX1) (T := TX1) (N := 10) X hI in_X1 rfl 7 (by decide) q764 (fun _ h9 => h9) hr dX1_executed_16 (fun v5 hr => ?_)
  refine lv_iload_n hx hb dX1_executed_19 rfl (lv_at hl 1 rfl) ?_
  refine lv_iconst (v := 2) hx hb dX1_executed_20 (by decide) ?_
  refine lv_iadd hx hb dX1_executed_21 ?_
  refine g_iald X hI hr dX1_executed_22 (fun v6 hr => ?_)
  refine lv_aload_n hx hb dX1_executed_23 rfl (lv_at hl 0 rfl) ?_
  refine g_getA (C := RX1) (T := TX1) (N := 10) X hI in_X1 rfl 7 (by decide) q764 (fun _ h9 => h9) hr dX1_executed_24 (fun v7 hr => ?_)
  refine lv_iload_n hx hb dX1_executed_27 rfl (lv_at hl 1 rfl) ?_
  refine lv_iconst (v := 3) hx hb dX1_executed_28 (by decide) ?_
  refine lv_iadd hx hb dX1_executed_29 ?_
  refine g_iald X hI hr dX1_executed_30 (fun v8 hr => ?_)
  obtain ⟨_, ho9, hr⟩ := gB_i hr
  rcases gTX_i hr with ⟨u9, h12, n13, hc10, hr⟩ | ⟨q11, h14, n15, hc10, hr⟩
  · refine gXRet_v (g_xrunV X hI (w_X1_execute hst hc10) ho9 rfl hl (lw_V q1537 q1539 qs33 q96 q1540) rfl rfl hd_X1_execute ⟨Nat.le_of_ble_eq_true rfl, Nat.le_of_ble_eq_true rfl⟩ (as := [.int v2, .int v4, .int v6, .int v8]) (rest := []) rfl rfl (Nat.le_of_ble_eq_true rfl) ⟨(show 0 + 9 ≤ 9 from by omega), (show 0 + 63 ≤ 63 from by omega)⟩ dX1_executed_31) (fun H locs hI => ?_)
    refine lv_iconst (v := 1) hx hb dX1_executed_34 (by decide) ?_
    have hr := gS_i hr
    subst hr
    exact g_xiret X hI (g_narZ (Or.inr rfl)) (show (0 + 9) ≤ 9 from by omega) (show (0 + 63) ≤ 63 from by omega) dX1_executed_35
  · refine gXThr (k := q11.1) (q := q11.2) (g_xrunV X hI (w_X1_execute hst hc10) ho9 rfl hl (lw_V q1537 q1539 qs33 q96 q1540) rfl rfl hd_X1_execute ⟨Nat.le_of_ble_eq_true rfl, Nat.le_of_ble_eq_true rfl⟩ (as := [.int v2, .int v4, .int v6, .int v8]) (rest := []) rfl rfl (Nat.le_of_ble_eq_true rfl) ⟨(show 0 + 9 ≤ 9 from by omega), (show 0 + 63 ≤ 63 from by omega)⟩ dX1_executed_31) (fun H locs hI hxc => ?_)
    by_cases c16 : q11.1 = 12
    · replace hr := gIf_t c16 hr
      refine g_catch (a := 0) (b := 35) (hp := 36) (ct := 148) X hxc hxt (pre := []) (suf := [(0, 35, 36, 85), (0, 35, 36, 78)]) rfl gPs_0 (by decide) (by decide) (j := 12) c16 q1181 ?_
      refine lv_astore_n (lv' := [(2, .ref q11.2), (0, .ref z0), (1, .int z1)]) hx hb dX1_executed_36 rfl hl (by decide) rfl (fun ls hl => ?_)
      refine lv_iconst (v := 0) hx hb dX1_executed_37 (by decide) ?_
      have hr := gS_i hr
      subst hr
      exact g_xiret X hI (g_narZ (Or.inl rfl)) (show (0 + 9) ≤ 9 from by omega) (show (0 + 63) ≤ 63 from by omega) dX1_executed_38
    replace hr := gIf_f c16 hr
    by_cases c17 : q11.1 = 11
    · replace hr := gIf_t c17 hr
      refine g_catch (a := 0) (b := 35) (hp := 36) (ct := 85) X hxc hxt (pre := [(0, 35, 36, 148)]) (suf := [(0, 35, 36, 78)]) rfl (gPs_c (Or.inr ⟨by decide, 12, by decide, c16, q1181⟩) gPs_0) (by decide) (by decide) (j := 11) c17 q1121 ?_
      refine lv_astore_n (lv' := [(2, .ref q11.2), (0, .ref z0), (1, .int z1)]) hx hb dX1_executed_36 rfl hl (by decide) rfl (fun ls hl => ?_)
      refine lv_iconst (v := 0) hx hb dX1_executed_37 (by decide) ?_
      have hr := gS_i hr
      subst hr
      exact g_xiret X hI (g_narZ (Or.inl rfl)) (show (0 + 9) ≤ 9 from by omega) (show (0 + 63) ≤ 63 from by omega) dX1_executed_38
    replace hr := gIf_f c17 hr
    by_cases c18 : q11.1 = 10
    · replace hr := gIf_t c18 hr
      refine g_catch (a := 0) (b := 35) (hp := 36) (ct := 78) X hxc hxt (pre := [(0, 35, 36, 148), (0, 35, 36, 85)]) (suf := []) rfl (gPs_c (Or.inr ⟨by decide, 12, by decide, c16, q1181⟩) (gPs_c (Or.inr ⟨by decide, 11, by decide, c17, q1121⟩) gPs_0)) (by decide) (by decide) (j := 10) c18 q1104 ?_
      refine lv_astore_n (lv' := [(2, .ref q11.2), (0, .ref z0), (1, .int z1)]) hx hb dX1_executed_36 rfl hl (by decide) rfl (fun ls hl => ?_)
      refine lv_iconst (v := 0) hx hb dX1_executed_37 (by decide) ?_
      have hr := gS_i hr
      subst hr
      exact g_xiret X hI (g_narZ (Or.inl rfl)) (show (0 + 9) ≤ 9 from by omega) (show (0 + 63) ≤ 63 from by omega) dX1_executed_38
    replace hr := gIf_f c18 hr
    have hr := gS_i hr
    subst hr
    exact g_xout X hI hxc hxt (gPs_c (Or.inr ⟨by decide, 12, by decide, c16, q1181⟩) (gPs_c (Or.inr ⟨by decide, 11, by decide, c17, q1121⟩) (gPs_c (Or.inr ⟨by decide, 10, by decide, c18, q1104⟩) gPs_0))) (show (0 + 9) ≤ 9 from by omega) (show (0 + 63) ≤ 63 from by omega)
abbrev rm_X1_runScript : Room := { frames := 17, cells := 492, slots := 3647, locals := 512 }
theorem hd_X1_runScript : yX1_runScript.cls = RX1 ∧ yX1_runScript.cls ≠ "java/lang/invoke/MethodHandle" ∧ yX1_runScript.cls ≠ "java/lang/invoke/VarHandle" ∧ (parseMethodDescriptor yX1_runScript.desc).map (fun d => d.parameters.length) = some 0 := by decide +kernel
set_option maxHeartbeats 2000000 in
theorem w_X1_runScript_L60 {z0 : Nat} {z1 : Int32} {z2 : Nat} {res : (Int32 ⊕ gX) × gH × Nat} (X : gXX x base RX1 cX1_runScript 4 (some .int) p l s m args meth c) (hst : l.stackTraces = false) (hxt : c.exceptionTable.toList = tableOf [(0, 13, 21, 70), (0, 13, 28, 0), (21, 29, 28, 0)]) : ∀ (k : Nat) {z3 : Int32} {h : gH} {n : Nat} {H : Heap} {locs : List Loc} {ls : Array Slot} {cells slots : Nat}, gL3 (f_X1_runScript_L60 x z0 z1 z2) k z3 h n = some res → gI x base s.heap h n H locs → lv_has ls 4 [(0, .ref z0), (1, .int z1), (2, .ref z2), (3, .int z3)] → (cells + (k * 9 + (9)) ≤ 492 ∧ slots + (k * 63 + (63)) ≤ 3647) → W p l e rm_X1_runScript s m args below meth c H locs cells slots (vx_MQ below (gXQ x base (fun v => some (.int v)) res) (gXC x base res) args s 492 3647 (fun q => base ≤ q)) (F0 m 60 ls []) := by
  have hx := X.1
  have hb := X.2.1
  intro k
  induction k with
  | zero =>
    intros
    rename_i hr _ _ _
    exact nomatch (show (none : Option _) = some _ from hr)
  | succ k ih =>
    intro z3 h n H locs ls cells slots hr hI hl hcc
    replace hr : f_X1_runScript_L60 x z0 z1 z2 (gL3 (f_X1_runScript_L60 x z0 z1 z2) k) z3 h n = some res := hr
    unfold f_X1_runScript_L60 at hr
    refine lv_iload_n hx hb dX1_runScript_60 rfl (lv_at hl 3 rfl) ?_
    refine lv_iload_n hx hb dX1_runScript_61 rfl (lv_at hl 1 rfl) ?_
    refine lv_icmp_ge (tgt := 81) hx hb dX1_runScript_62 (by decide) (fun c9 => ?_) (fun c9 => ?_)
    · replace hr := gIf_t c9 hr
      refine lv_aload_n hx hb dX1_runScript_81 rfl (lv_at hl 0 rfl) ?_
      refine lv_aload_n hx hb dX1_runScript_82 rfl (lv_at hl 2 rfl) ?_
      refine lv_iload_n hx hb dX1_runScript_83 rfl (lv_at hl 3 rfl) ?_
      obtain ⟨_, ho24, hr⟩ := gB_i hr
      obtain ⟨v26, h27, hc25, hr⟩ := gT2_i hr
      refine gRun_i (g_runV X hI (w_X1_record hc25) ho24 rfl hl (lw_V q1009 q1011 qs12 q96 q1012) rfl rfl hd_X1_record ⟨Nat.le_of_ble_eq_true rfl, Nat.le_of_ble_eq_true rfl⟩ (as := [.ref z2, .int z3]) (rest := []) rfl rfl (Nat.le_of_ble_eq_true rfl) ⟨(show cells + 0 ≤ 492 from by omega), (show slots + 0 ≤ 3647 from by omega)⟩ dX1_runScript_84) (fun H locs hI => ?_)
      have hr := gS_i hr
      subst hr
      exact g_xiret X hI rfl (show (cells + 0) ≤ 492 from by omega) (show (slots + 0) ≤ 3647 from by omega) dX1_runScript_87
    · replace hr := gIf_f c9 hr
      refine lv_aload_n hx hb dX1_runScript_65 rfl (lv_at hl 0 rfl) ?_
      refine lv_iconst (v := 4) hx hb dX1_runScript_66 (by decide) ?_
      refine lv_iload_n hx hb dX1_runScript_67 rfl (lv_at hl 3 rfl) ?_
      refine lv_imul hx hb dX1_runScript_68 ?_
      obtain ⟨_, ho28, hr⟩ := gB_i hr
      rcases gTX_i hr with ⟨v30, h32, n33, hc29, hr⟩ | ⟨q31, h34, n35, hc29, hr⟩
      · refine gXRet_i (g_wrunV X hI (w_X1_executed hst hc29) ho28 rfl hl (lw_VW q1533 q1535 qs32 q96 q1536) rfl rfl hd_X1_executed ⟨Nat.le_of_ble_eq_true rfl, Nat.le_of_ble_eq_true rfl⟩ (as := [.int ((4 : Int32) * z3)]) (rest := []) rfl rfl (Nat.le_of_ble_eq_true rfl) ⟨(show cells + 9 ≤ 492 from by omega), (show slots + 63 ≤ 3647 from by omega)⟩ dX1_runScript_69) (fun H locs hI => ?_)
        refine lv_if_eq (tgt := 81) hx hb dX1_runScript_72 (by decide) (fun c9 => ?_) (fun c9 => ?_)
        · replace hr := gIf_t c9 hr
          refine lv_aload_n hx hb dX1_runScript_81 rfl (lv_at hl 0 rfl) ?_
          refine lv_aload_n hx hb dX1_runScript_82 rfl (lv_at hl 2 rfl) ?_
          refine lv_iload_n hx hb dX1_runScript_83 rfl (lv_at hl 3 rfl) ?_
          obtain ⟨_, ho36, hr⟩ := gB_i hr
          obtain ⟨v38, h39, hc37, hr⟩ := gT2_i hr
          refine gRun_i (g_runV X hI (w_X1_record hc37) ho36 rfl hl (lw_V q1009 q1011 qs12 q96 q1012) rfl rfl hd_X1_record ⟨Nat.le_of_ble_eq_true rfl, Nat.le_of_ble_eq_true rfl⟩ (as := [.ref z2, .int z3]) (rest := []) rfl rfl (Nat.le_of_ble_eq_true rfl) ⟨(show (cells + 9) + 0 ≤ 492 from by omega), (show (slots + 63) + 0 ≤ 3647 from by omega)⟩ dX1_runScript_84) (fun H locs hI => ?_)
          have hr := gS_i hr
          subst hr
          exact g_xiret X hI rfl (show ((cells + 9) + 0) ≤ 492 from by omega) (show ((slots + 63) + 0) ≤ 3647 from by omega) dX1_runScript_87
        · replace hr := gIf_f c9 hr
          refine lv_iinc (v := (z3 + (1 : Int32))) (lv' := [(3, .int (z3 + (1 : Int32))), (0, .ref z0), (1, .int z1), (2, .ref z2)]) hx hb dX1_runScript_75 hl (k := 3) rfl (g_inc (by decide)) (by decide) rfl (fun ls hl => ?_)
          refine lv_goto (tgt := 60) hx hb dX1_runScript_78 (by decide) ?_
          exact ih hr hI (lv_sub hl [1, 2, 3, 0] rfl) (by omega)
      · refine gXThr (k := q31.1) (q := q31.2) (g_wrunV X hI (w_X1_executed hst hc29) ho28 rfl hl (lw_VW q1533 q1535 qs32 q96 q1536) rfl rfl hd_X1_executed ⟨Nat.le_of_ble_eq_true rfl, Nat.le_of_ble_eq_true rfl⟩ (as := [.int ((4 : Int32) * z3)]) (rest := []) rfl rfl (Nat.le_of_ble_eq_true rfl) ⟨(show cells + 9 ≤ 492 from by omega), (show slots + 63 ≤ 3647 from by omega)⟩ dX1_runScript_69) (fun H locs hI hxc => ?_)
        have hr := gS_i hr
        subst hr
        exact g_xout X hI hxc hxt (gPs_c (Or.inl (by decide)) (gPs_c (Or.inl (by decide)) (gPs_c (Or.inl (by decide)) gPs_0))) (show (cells + 9) ≤ 492 from by omega) (show (slots + 63) ≤ 3647 from by omega)
set_option maxHeartbeats 2000000 in
theorem w_X1_runScript {l : Launch} {x : gV} {base : Nat} (hst : l.stackTraces = false) {z0 : Nat} {h : gH} {n : Nat} {res : (Int32 ⊕ gX) × gH × Nat} (hr : f_X1_runScript x z0 h n = some res) : gMX l yX1_runScript (wsW_ yX1_runScript cX1_runScript 4 (some .int) [(0, 13, 21, 70), (0, 13, 28, 0), (21, 29, 28, 0)]) rm_X1_runScript x base (fun v => some (.int v)) [.ref z0] h n res 492 3647 := by
  refine g_metW (cc := cX1_runScript) (nL := 4) (ret := (some .int)) (by decide) (Nat.le_of_ble_eq_true rfl) (fun p e s m below meth c ls X hnm hxt hl hI => ?_)
  have hl : lv_has ls 4 [(0, .ref z0)] := hl
  have hx := X.1
  have hb := X.2.1
  have hcc : 0 + 492 ≤ 492 ∧ 0 + 3647 ≤ 3647 := ⟨Nat.le_refl _, Nat.le_refl _⟩
  unfold f_X1_runScript at hr
  refine lv_aload_n hx hb dX1_runScript_0 rfl (lv_at hl 0 rfl) ?_
  refine g_newO (C := RX3) (T := TX3) (N := 5) (ci := 2) (fs := [.int 0, .int 0, .int 0, .int 0, .null]) X hI in_X3 tyX3 tyX3_ok q556 q557 q118 rfl (g_dflt5 rfl rfl rfl rfl rfl) (show 0 + 1 ≤ 492 from by omega) (show 0 + 5 ≤ 3647 from by omega) hr dX1_runScript_1 (fun q1 h2 n3 H locs hI hr => ?_)
  refine lv_dup hx hb dX1_runScript_4 rfl ?_
  refine lv_aload_n hx hb dX1_runScript_5 rfl (lv_at hl 0 rfl) ?_
  obtain ⟨h5, hc4, hr⟩ := gB_i hr
  refine gRun_v (g_runIN (host := "CakeDivision") X hI (w_X3_init hc4) hl q560 (by decide +kernel) q559 q118 rfl rfl rfl hd_X3_init ⟨Nat.le_of_ble_eq_true rfl, Nat.le_of_ble_eq_true rfl⟩ (as := [.ref z0]) (rest := [.ref q1, .ref z0]) rfl rfl (Nat.le_of_ble_eq_true rfl) ⟨(show (0 + 1) + 0 ≤ 492 from by omega), (show (0 + 5) + 0 ≤ 3647 from by omega)⟩ dX1_runScript_6) (fun H locs hI => ?_)
  obtain ⟨_, ho6, hr⟩ := gB_i hr
  rcases gTX_i hr with ⟨v8, h10, n11, hc7, hr⟩ | ⟨q9, h12, n13, hc7, hr⟩
  · refine gXRet_i (g_xrunV X hI (w_X1_parseScript hst hc7) ho6 rfl hl (lw_V q1505 q1507 qs30 q96 q1508) rfl rfl hd_X1_parseScript ⟨Nat.le_of_ble_eq_true rfl, Nat.le_of_ble_eq_true rfl⟩ (as := [.ref q1]) (rest := []) rfl rfl (Nat.le_of_ble_eq_true rfl) ⟨(show ((0 + 1) + 0) + 198 ≤ 492 from by omega), (show ((0 + 5) + 0) + 1584 ≤ 3647 from by omega)⟩ dX1_runScript_9) (fun H locs hI => ?_)
    refine lv_istore_n (lv' := [(1, .int v8), (0, .ref z0)]) hx hb dX1_runScript_12 rfl hl (by decide) rfl (fun ls hl => ?_)
    refine lv_aload_n hx hb dX1_runScript_13 rfl (lv_at hl 1 rfl) ?_
    refine lv_iconst (v := 0) hx hb dX1_runScript_14 (by decide) ?_
    refine g_put (C := RX1) (T := TX1) (N := 10) (v := .int (0 : Int32)) (ty := .int) X hI in_X1 tyX1 tyX1_ok nmX1 rfl 1 (by decide) q757 (fun _ h9 => h9) rfl (by decide +kernel) rfl rfl hr dX1_runScript_15 (fun h14 H locs hI hr => ?_)
    refine lv_goto (tgt := 36) hx hb dX1_runScript_18 (by decide) ?_
    refine lv_aload_n hx hb dX1_runScript_36 rfl (lv_at hl 1 rfl) ?_
    refine lv_iconst (v := 0) hx hb dX1_runScript_37 (by decide) ?_
    refine g_put (C := RX1) (T := TX1) (N := 10) (v := .int (0 : Int32)) (ty := .int) X hI in_X1 tyX1 tyX1_ok nmX1 rfl 2 (by decide) q758 (fun _ h9 => h9) rfl (by decide +kernel) rfl rfl hr dX1_runScript_38 (fun h15 H locs hI hr => ?_)
    refine lv_aload_n hx hb dX1_runScript_41 rfl (lv_at hl 1 rfl) ?_
    refine lv_iconst (v := (-1)) hx hb dX1_runScript_42 (by decide) ?_
    refine g_put (C := RX1) (T := TX1) (N := 10) (v := .int (-1 : Int32)) (ty := .int) X hI in_X1 tyX1 tyX1_ok nmX1 rfl 3 (by decide) q759 (fun _ h9 => h9) rfl (by decide +kernel) rfl rfl hr dX1_runScript_43 (fun h16 H locs hI hr => ?_)
    refine g_newO (C := RX2) (T := TX2) (N := 3) (ci := 0) (fs := [.null, .null, .null]) X hI in_X2 tyX2 tyX2_ok q142 q143 q97 rfl (g_dflt3 rfl rfl rfl) (show (((0 + 1) + 0) + 198) + 1 ≤ 492 from by omega) (show (((0 + 5) + 0) + 1584) + 3 ≤ 3647 from by omega) hr dX1_runScript_46 (fun q17 h18 n19 H locs hI hr => ?_)
    refine lv_dup hx hb dX1_runScript_49 rfl ?_
    refine lv_aload_n hx hb dX1_runScript_50 rfl (lv_at hl 1 rfl) ?_
    refine g_getA (C := RX1) (T := TX1) (N := 10) X hI in_X1 rfl 4 (by decide) q760 (fun _ h9 => h9) hr dX1_runScript_51 (fun v20 hr => ?_)
    obtain ⟨h22, n23, hc21, hr⟩ := gT2_i hr
    refine gRun_v (g_runI X hI (w_X2_init_2 hst hc21) hl q979 q995 q978 q97 rfl rfl rfl hd_X2_init_2 ⟨Nat.le_of_ble_eq_true rfl, Nat.le_of_ble_eq_true rfl⟩ (as := [.ref v20]) (rest := [.ref q17]) rfl rfl (Nat.le_of_ble_eq_true rfl) ⟨(show ((((0 + 1) + 0) + 198) + 1) + 4 ≤ 492 from by omega), (show ((((0 + 5) + 0) + 1584) + 3) + 39 ≤ 3647 from by omega)⟩ dX1_runScript_54) (fun H locs hI => ?_)
    refine lv_astore_n (lv' := [(2, .ref q17), (1, .int v8), (0, .ref z0)]) hx hb dX1_runScript_57 rfl hl (by decide) rfl (fun ls hl => ?_)
    refine lv_iconst (v := 0) hx hb dX1_runScript_58 (by decide) ?_
    refine lv_istore_n (lv' := [(3, .int (0 : Int32)), (2, .ref q17), (1, .int v8), (0, .ref z0)]) hx hb dX1_runScript_59 rfl hl (by decide) rfl (fun ls hl => ?_)
    exact w_X1_runScript_L60 X hst hxt 31 hr hI (lv_sub hl [3, 2, 1, 0] rfl) (by omega)
  · refine gXThr (k := q9.1) (q := q9.2) (g_xrunV X hI (w_X1_parseScript hst hc7) ho6 rfl hl (lw_V q1505 q1507 qs30 q96 q1508) rfl rfl hd_X1_parseScript ⟨Nat.le_of_ble_eq_true rfl, Nat.le_of_ble_eq_true rfl⟩ (as := [.ref q1]) (rest := []) rfl rfl (Nat.le_of_ble_eq_true rfl) ⟨(show ((0 + 1) + 0) + 198 ≤ 492 from by omega), (show ((0 + 5) + 0) + 1584 ≤ 3647 from by omega)⟩ dX1_runScript_9) (fun H locs hI hxc => ?_)
    by_cases c40 : q9.1 = 9
    · replace hr := gIf_t c40 hr
      refine g_catch (a := 0) (b := 13) (hp := 21) (ct := 70) X hxc hxt (pre := []) (suf := [(0, 13, 28, 0), (21, 29, 28, 0)]) rfl gPs_0 (by decide) (by decide) (j := 9) c40 q138 ?_
      refine lv_astore_n (lv' := [(2, .ref q9.2), (0, .ref z0)]) hx hb dX1_runScript_21 rfl hl (by decide) rfl (fun ls hl => ?_)
      refine lv_aload_n hx hb dX1_runScript_22 rfl (lv_at hl 1 rfl) ?_
      refine lv_aload_n hx hb dX1_runScript_23 rfl (lv_at hl 0 rfl) ?_
      obtain ⟨_, ho41, hr⟩ := gB_i hr
      obtain ⟨v43, h44, n45, hc42, hr⟩ := gT3_i hr
      refine gRun_a (g_runV X hI (w_X1_rejected hst hc42) ho41 rfl hl (lw_V q1133 q1135 qs18 q96 q1136) rfl rfl hd_X1_rejected ⟨Nat.le_of_ble_eq_true rfl, Nat.le_of_ble_eq_true rfl⟩ (as := [.ref q9.2]) (rest := []) rfl rfl (Nat.le_of_ble_eq_true rfl) ⟨(show (((0 + 1) + 0) + 198) + 1 ≤ 492 from by omega), (show (((0 + 5) + 0) + 1584) + 6 ≤ 3647 from by omega)⟩ dX1_runScript_24) (fun H locs hI => ?_)
      obtain ⟨k46, hk47, hr⟩ := gB_i hr
      refine g_athrow X hI hk47 dX1_runScript_27 (fun hxc => ?_)
      refine g_catchAll (a := 21) (b := 29) (hp := 28) X hxc hxt (pre := [(0, 13, 21, 70), (0, 13, 28, 0)]) (suf := []) rfl (gPs_c (Or.inl (by decide)) (gPs_c (Or.inl (by decide)) gPs_0)) (by decide) ?_
      refine lv_astore_n (lv' := [(3, .ref v43), (2, .ref q9.2), (0, .ref z0)]) hx hb dX1_runScript_28 rfl hl (by decide) rfl (fun ls hl => ?_)
      refine lv_aload_n hx hb dX1_runScript_29 rfl (lv_at hl 2 rfl) ?_
      refine lv_iconst (v := 0) hx hb dX1_runScript_30 (by decide) ?_
      refine g_put (C := RX1) (T := TX1) (N := 10) (v := .int (0 : Int32)) (ty := .int) X hI in_X1 tyX1 tyX1_ok nmX1 rfl 1 (by decide) q757 (fun _ h9 => h9) rfl (by decide +kernel) rfl rfl hr dX1_runScript_31 (fun h48 H locs hI hr => ?_)
      refine lv_aload_n hx hb dX1_runScript_34 rfl (lv_at hl 0 rfl) ?_
      obtain ⟨k49, hk50, hr⟩ := gB_i hr
      refine g_athrow X hI hk50 dX1_runScript_35 (fun hxc => ?_)
      have hr := gS_i hr
      subst hr
      exact g_xout X hI hxc hxt (gPs_c (Or.inl (by decide)) (gPs_c (Or.inl (by decide)) (gPs_c (Or.inl (by decide)) gPs_0))) (show ((((0 + 1) + 0) + 198) + 1) ≤ 492 from by omega) (show ((((0 + 5) + 0) + 1584) + 6) ≤ 3647 from by omega)
    replace hr := gIf_f c40 hr
    refine g_catchAll (a := 0) (b := 13) (hp := 28) X hxc hxt (pre := [(0, 13, 21, 70)]) (suf := [(21, 29, 28, 0)]) rfl (gPs_c (Or.inr ⟨by decide, 9, by decide, c40, q138⟩) gPs_0) (by decide) ?_
    refine lv_astore_n (lv' := [(3, .ref q9.2), (0, .ref z0)]) hx hb dX1_runScript_28 rfl hl (by decide) rfl (fun ls hl => ?_)
    refine lv_aload_n hx hb dX1_runScript_29 rfl (lv_at hl 1 rfl) ?_
    refine lv_iconst (v := 0) hx hb dX1_runScript_30 (by decide) ?_
    refine g_put (C := RX1) (T := TX1) (N := 10) (v := .int (0 : Int32)) (ty := .int) X hI in_X1 tyX1 tyX1_ok nmX1 rfl 1 (by decide) q757 (fun _ h9 => h9) rfl (by decide +kernel) rfl rfl hr dX1_runScript_31 (fun h51 H locs hI hr => ?_)
    refine lv_aload_n hx hb dX1_runScript_34 rfl (lv_at hl 0 rfl) ?_
    obtain ⟨k52, hk53, hr⟩ := gB_i hr
    refine g_athrow X hI hk53 dX1_runScript_35 (fun hxc => ?_)
    have hr := gS_i hr
    subst hr
    exact g_xout X hI hxc hxt (gPs_c (Or.inl (by decide)) (gPs_c (Or.inl (by decide)) (gPs_c (Or.inl (by decide)) gPs_0))) (show (((0 + 1) + 0) + 198) ≤ 492 from by omega) (show (((0 + 5) + 0) + 1584) ≤ 3647 from by omega)
abbrev rm_X1_undo : Room := { frames := 9, cells := 1, slots := 6, locals := 180 }
theorem hd_X1_undo : yX1_undo.cls = RX1 ∧ yX1_undo.cls ≠ "java/lang/invoke/MethodHandle" ∧ yX1_undo.cls ≠ "java/lang/invoke/VarHandle" ∧ (parseMethodDescriptor yX1_undo.desc).map (fun d => d.parameters.length) = some 0 := by decide +kernel
set_option maxHeartbeats 2000000 in
theorem w_X1_undo_J15 {h : gH} {n : Nat} {z0 : Nat} {s0 : Int32} {res : (Int32 ⊕ gX) × gH × Nat} (X : gXX x base RX1 cX1_undo 1 (some .int) p l s m args meth c) (hst : l.stackTraces = false) (hxt : c.exceptionTable.toList = tableOf []) {H : Heap} {locs : List Loc} {ls : Array Slot} {cells slots : Nat} (hr : f_X1_undo_J15 z0 s0 h n = some res) (hI : gI x base s.heap h n H locs) (hl : lv_has ls 1 [(0, .ref z0)]) (hcc : cells + (1) ≤ 1 ∧ slots + (6) ≤ 6) : W p l e rm_X1_undo s m args below meth c H locs cells slots (vx_MQ below (gXQ x base (fun v => some (.int v)) res) (gXC x base res) args s 1 6 (fun q => base ≤ q)) (F0 m 15 ls [.int s0]) := by
  have hx := X.1
  have hb := X.2.1
  unfold f_X1_undo_J15 at hr
  rcases gTX_i hr with ⟨u9, h7, n8, hc5, hr⟩ | ⟨q6, h9, n10, hc5, hr⟩
  · refine gXRet_v (g_xrunS X hI (w_X1_checkState hst hc5) hl (lw_S q1300 q1301 q96 q1302) rfl rfl hd_X1_checkState ⟨Nat.le_of_ble_eq_true rfl, Nat.le_of_ble_eq_true rfl⟩ (as := [.int s0]) (rest := []) rfl rfl (Nat.le_of_ble_eq_true rfl) ⟨(show cells + 1 ≤ 1 from by omega), (show slots + 6 ≤ 6 from by omega)⟩ dX1_undo_15) (fun H locs hI => ?_)
    refine lv_aload_n hx hb dX1_undo_18 rfl (lv_at hl 0 rfl) ?_
    refine lv_aload_n hx hb dX1_undo_19 rfl (lv_at hl 0 rfl) ?_
    refine g_getA (C := RX1) (T := TX1) (N := 10) X hI in_X1 rfl 5 (by decide) q762 (fun _ h9 => h9) hr dX1_undo_20 (fun v11 hr => ?_)
    obtain ⟨_, ho12, hr⟩ := gB_i hr
    obtain ⟨v14, h15, hc13, hr⟩ := gT2_i hr
    refine gRun_a (g_runV X hI (w_J17_removeLast hc13) ho12 rfl hl (lw_V q1552 q1553 q1554 q117 q1555) rfl rfl hd_J17_removeLast ⟨Nat.le_of_ble_eq_true rfl, Nat.le_of_ble_eq_true rfl⟩ (as := []) (rest := [.ref z0]) rfl rfl (Nat.le_of_ble_eq_true rfl) ⟨(show (cells + 1) + 0 ≤ 1 from by omega), (show (slots + 6) + 0 ≤ 6 from by omega)⟩ dX1_undo_23) (fun H locs hI => ?_)
    obtain ⟨_, ho16, hr⟩ := gB_i hr
    refine va_castE hx hb X.2.2.2.2.1 (X.w q142) (g_recv X hI ho16 rfl) dX1_undo_26 ?_
    refine g_put (C := RX1) (T := TX1) (N := 10) (v := .ref v14) (ty := (.object "CakeDivision$State")) X hI in_X1 tyX1 tyX1_ok nmX1 rfl 4 (by decide) q760 (fun _ h9 => h9) rfl (by decide +kernel) rfl rfl hr dX1_undo_29 (fun h17 H locs hI hr => ?_)
    refine lv_aload_n hx hb dX1_undo_32 rfl (lv_at hl 0 rfl) ?_
    refine g_getA (C := RX1) (T := TX1) (N := 10) X hI in_X1 rfl 5 (by decide) q762 (fun _ h9 => h9) hr dX1_undo_33 (fun v18 hr => ?_)
    obtain ⟨_, ho19, hr⟩ := gB_i hr
    obtain ⟨v21, hc20, hr⟩ := gB_i hr
    refine gRun_i (g_runV X hI (w_J17_size hc20) ho19 rfl hl (lw_V q1013 q1014 q1015 q117 q1016) rfl rfl hd_J17_size ⟨Nat.le_of_ble_eq_true rfl, Nat.le_of_ble_eq_true rfl⟩ (as := []) (rest := []) rfl rfl (Nat.le_of_ble_eq_true rfl) ⟨(show ((cells + 1) + 0) + 0 ≤ 1 from by omega), (show ((slots + 6) + 0) + 0 ≤ 6 from by omega)⟩ dX1_undo_36) (fun H locs hI => ?_)
    have hr := gS_i hr
    subst hr
    exact g_xiret X hI rfl (show (((cells + 1) + 0) + 0) ≤ 1 from by omega) (show (((slots + 6) + 0) + 0) ≤ 6 from by omega) dX1_undo_39
  · refine gXThr (k := q6.1) (q := q6.2) (g_xrunS X hI (w_X1_checkState hst hc5) hl (lw_S q1300 q1301 q96 q1302) rfl rfl hd_X1_checkState ⟨Nat.le_of_ble_eq_true rfl, Nat.le_of_ble_eq_true rfl⟩ (as := [.int s0]) (rest := []) rfl rfl (Nat.le_of_ble_eq_true rfl) ⟨(show cells + 1 ≤ 1 from by omega), (show slots + 6 ≤ 6 from by omega)⟩ dX1_undo_15) (fun H locs hI hxc => ?_)
    have hr := gS_i hr
    subst hr
    exact g_xout X hI hxc hxt gPs_0 (show (cells + 1) ≤ 1 from by omega) (show (slots + 6) ≤ 6 from by omega)
set_option maxHeartbeats 2000000 in
theorem w_X1_undo {l : Launch} {x : gV} {base : Nat} (hst : l.stackTraces = false) {z0 : Nat} {h : gH} {n : Nat} {res : (Int32 ⊕ gX) × gH × Nat} (hr : f_X1_undo z0 h n = some res) : gMX l yX1_undo (ws_ yX1_undo cX1_undo 1 (some .int)) rm_X1_undo x base (fun v => some (.int v)) [.ref z0] h n res 1 6 := by
  refine g_metX (cc := cX1_undo) (nL := 1) (ret := (some .int)) (by decide) (Nat.le_of_ble_eq_true rfl) (fun p e s m below meth c ls X hnm hxt hl hI => ?_)
  have hl : lv_has ls 1 [(0, .ref z0)] := hl
  have hx := X.1
  have hb := X.2.1
  have hcc : 0 + 1 ≤ 1 ∧ 0 + 6 ≤ 6 := ⟨Nat.le_refl _, Nat.le_refl _⟩
  unfold f_X1_undo at hr
  refine lv_aload_n hx hb dX1_undo_0 rfl (lv_at hl 0 rfl) ?_
  refine g_getA (C := RX1) (T := TX1) (N := 10) X hI in_X1 rfl 5 (by decide) q762 (fun _ h9 => h9) hr dX1_undo_1 (fun v1 hr => ?_)
  obtain ⟨_, ho2, hr⟩ := gB_i hr
  obtain ⟨v4, hc3, hr⟩ := gB_i hr
  refine gRun_i (g_runV X hI (w_J17_isEmpty hc3) ho2 rfl hl (lw_V q1548 q1549 q1550 q117 q1551) rfl rfl hd_J17_isEmpty ⟨Nat.le_of_ble_eq_true rfl, Nat.le_of_ble_eq_true rfl⟩ (as := []) (rest := []) rfl rfl (Nat.le_of_ble_eq_true rfl) ⟨(show 0 + 0 ≤ 1 from by omega), (show 0 + 0 ≤ 6 from by omega)⟩ dX1_undo_4) (fun H locs hI => ?_)
  refine lv_if_ne (tgt := 14) hx hb dX1_undo_7 (by decide) (fun c9 => ?_) (fun c9 => ?_)
  · replace hr := gIf_f c9 hr
    refine lv_iconst (v := 0) hx hb dX1_undo_14 (by decide) ?_
    exact w_X1_undo_J15 X hst hxt hr hI (lv_sub hl [0] rfl) (by omega)
  · replace hr := gIf_t c9 hr
    refine lv_iconst (v := 1) hx hb dX1_undo_10 (by decide) ?_
    refine lv_goto (tgt := 15) hx hb dX1_undo_11 (by decide) ?_
    exact w_X1_undo_J15 X hst hxt hr hI (lv_sub hl [0] rfl) (by omega)
abbrev rm_X1_save : Room := { frames := 9, cells := 6, slots := 48, locals := 181 }
theorem hd_X1_save : yX1_save.cls = RX1 ∧ yX1_save.cls ≠ "java/lang/invoke/MethodHandle" ∧ yX1_save.cls ≠ "java/lang/invoke/VarHandle" ∧ (parseMethodDescriptor yX1_save.desc).map (fun d => d.parameters.length) = some 1 := by decide +kernel
set_option maxHeartbeats 2000000 in
theorem w_X1_save {l : Launch} {x : gV} {base : Nat} (hst : l.stackTraces = false) {z0 : Nat} {z1 : Int32} {h : gH} {n : Nat} {res : (Int32 ⊕ gX) × gH × Nat} (hr : f_X1_save z0 z1 h n = some res) : gMX l yX1_save (ws_ yX1_save cX1_save 2 (some .int)) rm_X1_save x base (fun v => some (.int v)) [.ref z0, .int z1] h n res 6 48 := by
  refine g_metX (cc := cX1_save) (nL := 2) (ret := (some .int)) (by decide) (Nat.le_of_ble_eq_true rfl) (fun p e s m below meth c ls X hnm hxt hl hI => ?_)
  have hl : lv_has ls 2 [(0, .ref z0), (1, .int z1)] := hl
  have hx := X.1
  have hb := X.2.1
  have hcc : 0 + 6 ≤ 6 ∧ 0 + 48 ≤ 48 := ⟨Nat.le_refl _, Nat.le_refl _⟩
  unfold f_X1_save at hr
  refine lv_iload_n hx hb dX1_save_0 rfl (lv_at hl 1 rfl) ?_
  refine lv_iconst (v := 2) hx hb dX1_save_1 (by decide) ?_
  rcases gTX_i hr with ⟨u9, h3, n4, hc1, hr⟩ | ⟨q2, h5, n6, hc1, hr⟩
  · refine gXRet_v (g_xrunS X hI (w_X1_checkIndex hst hc1) hl (lw_S q1178 q1179 q96 q1180) rfl rfl hd_X1_checkIndex ⟨Nat.le_of_ble_eq_true rfl, Nat.le_of_ble_eq_true rfl⟩ (as := [.int z1, .int (2 : Int32)]) (rest := []) rfl rfl (Nat.le_of_ble_eq_true rfl) ⟨(show 0 + 1 ≤ 6 from by omega), (show 0 + 6 ≤ 48 from by omega)⟩ dX1_save_2) (fun H locs hI => ?_)
    refine lv_aload_n hx hb dX1_save_5 rfl (lv_at hl 0 rfl) ?_
    refine g_getA (C := RX1) (T := TX1) (N := 10) X hI in_X1 rfl 6 (by decide) q763 (fun _ h9 => h9) hr dX1_save_6 (fun v7 hr => ?_)
    refine lv_iload_n hx hb dX1_save_9 rfl (lv_at hl 1 rfl) ?_
    refine g_newO (C := RX2) (T := TX2) (N := 3) (ci := 0) (fs := [.null, .null, .null]) X hI in_X2 tyX2 tyX2_ok q142 q143 q97 rfl (g_dflt3 rfl rfl rfl) (show (0 + 1) + 1 ≤ 6 from by omega) (show (0 + 6) + 3 ≤ 48 from by omega) hr dX1_save_10 (fun q8 h9 n10 H locs hI hr => ?_)
    refine lv_dup hx hb dX1_save_13 rfl ?_
    refine lv_aload_n hx hb dX1_save_14 rfl (lv_at hl 0 rfl) ?_
    refine g_getA (C := RX1) (T := TX1) (N := 10) X hI in_X1 rfl 4 (by decide) q760 (fun _ h9 => h9) hr dX1_save_15 (fun v11 hr => ?_)
    obtain ⟨h13, n14, hc12, hr⟩ := gT2_i hr
    refine gRun_v (g_runI X hI (w_X2_init_2 hst hc12) hl q979 q995 q978 q97 rfl rfl rfl hd_X2_init_2 ⟨Nat.le_of_ble_eq_true rfl, Nat.le_of_ble_eq_true rfl⟩ (as := [.ref v11]) (rest := [.ref q8, .int z1, .ref v7]) rfl rfl (Nat.le_of_ble_eq_true rfl) ⟨(show ((0 + 1) + 1) + 4 ≤ 6 from by omega), (show ((0 + 6) + 3) + 39 ≤ 48 from by omega)⟩ dX1_save_18) (fun H locs hI => ?_)
    obtain ⟨_, ho16, hr⟩ := gB_i hr
    refine g_aast X hI (t := 4) rfl (g_anyS X hI ho16 rfl) hr dX1_save_21 (fun h15 H locs hI hr => ?_)
    refine lv_aload_n hx hb dX1_save_22 rfl (lv_at hl 0 rfl) ?_
    refine g_getA (C := RX1) (T := TX1) (N := 10) X hI in_X1 rfl 4 (by decide) q760 (fun _ h9 => h9) hr dX1_save_23 (fun v17 hr => ?_)
    refine lv_iconst (v := (-1)) hx hb dX1_save_26 (by decide) ?_
    obtain ⟨_, ho18, hr⟩ := gB_i hr
    obtain ⟨v20, hc19, hr⟩ := gB_i hr
    refine gRun_i (g_runV X hI (w_X2_count hc19) ho18 rfl hl (lw_V q808 q809 q810 q97 q811) rfl rfl hd_X2_count ⟨Nat.le_of_ble_eq_true rfl, Nat.le_of_ble_eq_true rfl⟩ (as := [.int (-1 : Int32)]) (rest := []) rfl rfl (Nat.le_of_ble_eq_true rfl) ⟨(show (((0 + 1) + 1) + 4) + 0 ≤ 6 from by omega), (show (((0 + 6) + 3) + 39) + 0 ≤ 48 from by omega)⟩ dX1_save_27) (fun H locs hI => ?_)
    have hr := gS_i hr
    subst hr
    exact g_xiret X hI rfl (show ((((0 + 1) + 1) + 4) + 0) ≤ 6 from by omega) (show ((((0 + 6) + 3) + 39) + 0) ≤ 48 from by omega) dX1_save_30
  · refine gXThr (k := q2.1) (q := q2.2) (g_xrunS X hI (w_X1_checkIndex hst hc1) hl (lw_S q1178 q1179 q96 q1180) rfl rfl hd_X1_checkIndex ⟨Nat.le_of_ble_eq_true rfl, Nat.le_of_ble_eq_true rfl⟩ (as := [.int z1, .int (2 : Int32)]) (rest := []) rfl rfl (Nat.le_of_ble_eq_true rfl) ⟨(show 0 + 1 ≤ 6 from by omega), (show 0 + 6 ≤ 48 from by omega)⟩ dX1_save_2) (fun H locs hI hxc => ?_)
    have hr := gS_i hr
    subst hr
    exact g_xout X hI hxc hxt gPs_0 (show (0 + 1) ≤ 6 from by omega) (show (0 + 6) ≤ 48 from by omega)
abbrev rm_X1_restore : Room := { frames := 9, cells := 7, slots := 54, locals := 181 }
theorem hd_X1_restore : yX1_restore.cls = RX1 ∧ yX1_restore.cls ≠ "java/lang/invoke/MethodHandle" ∧ yX1_restore.cls ≠ "java/lang/invoke/VarHandle" ∧ (parseMethodDescriptor yX1_restore.desc).map (fun d => d.parameters.length) = some 1 := by decide +kernel
set_option maxHeartbeats 2000000 in
theorem w_X1_restore_J19 {h : gH} {n : Nat} {z0 : Nat} {z1 : Int32} {s0 : Int32} {res : (Int32 ⊕ gX) × gH × Nat} (X : gXX x base RX1 cX1_restore 2 (some .int) p l s m args meth c) (hst : l.stackTraces = false) (hxt : c.exceptionTable.toList = tableOf []) {H : Heap} {locs : List Loc} {ls : Array Slot} {cells slots : Nat} (hr : f_X1_restore_J19 z0 z1 s0 h n = some res) (hI : gI x base s.heap h n H locs) (hl : lv_has ls 2 [(0, .ref z0), (1, .int z1)]) (hcc : cells + (6) ≤ 7 ∧ slots + (48) ≤ 54) : W p l e rm_X1_restore s m args below meth c H locs cells slots (vx_MQ below (gXQ x base (fun v => some (.int v)) res) (gXC x base res) args s 7 54 (fun q => base ≤ q)) (F0 m 19 ls [.int s0]) := by
  have hx := X.1
  have hb := X.2.1
  unfold f_X1_restore_J19 at hr
  rcases gTX_i hr with ⟨u9, h12, n13, hc10, hr⟩ | ⟨q11, h14, n15, hc10, hr⟩
  · refine gXRet_v (g_xrunS X hI (w_X1_checkState hst hc10) hl (lw_S q1300 q1301 q96 q1302) rfl rfl hd_X1_checkState ⟨Nat.le_of_ble_eq_true rfl, Nat.le_of_ble_eq_true rfl⟩ (as := [.int s0]) (rest := []) rfl rfl (Nat.le_of_ble_eq_true rfl) ⟨(show cells + 1 ≤ 7 from by omega), (show slots + 6 ≤ 54 from by omega)⟩ dX1_restore_19) (fun H locs hI => ?_)
    refine lv_aload_n hx hb dX1_restore_22 rfl (lv_at hl 0 rfl) ?_
    refine g_newO (C := RX2) (T := TX2) (N := 3) (ci := 0) (fs := [.null, .null, .null]) X hI in_X2 tyX2 tyX2_ok q142 q143 q97 rfl (g_dflt3 rfl rfl rfl) (show (cells + 1) + 1 ≤ 7 from by omega) (show (slots + 6) + 3 ≤ 54 from by omega) hr dX1_restore_23 (fun q16 h17 n18 H locs hI hr => ?_)
    refine lv_dup hx hb dX1_restore_26 rfl ?_
    refine lv_aload_n hx hb dX1_restore_27 rfl (lv_at hl 0 rfl) ?_
    refine g_getA (C := RX1) (T := TX1) (N := 10) X hI in_X1 rfl 6 (by decide) q763 (fun _ h9 => h9) hr dX1_restore_28 (fun v19 hr => ?_)
    refine lv_iload_n hx hb dX1_restore_31 rfl (lv_at hl 1 rfl) ?_
    refine g_aaldA X hI (t := 4) rfl hr dX1_restore_32 (fun v20 hr => ?_)
    obtain ⟨h22, n23, hc21, hr⟩ := gT2_i hr
    refine gRun_v (g_runI X hI (w_X2_init_2 hst hc21) hl q979 q995 q978 q97 rfl rfl rfl hd_X2_init_2 ⟨Nat.le_of_ble_eq_true rfl, Nat.le_of_ble_eq_true rfl⟩ (as := [.ref v20]) (rest := [.ref q16, .ref z0]) rfl rfl (Nat.le_of_ble_eq_true rfl) ⟨(show ((cells + 1) + 1) + 4 ≤ 7 from by omega), (show ((slots + 6) + 3) + 39 ≤ 54 from by omega)⟩ dX1_restore_33) (fun H locs hI => ?_)
    refine g_put (C := RX1) (T := TX1) (N := 10) (v := .ref q16) (ty := (.object "CakeDivision$State")) X hI in_X1 tyX1 tyX1_ok nmX1 rfl 4 (by decide) q760 (fun _ h9 => h9) rfl (by decide +kernel) rfl rfl hr dX1_restore_36 (fun h24 H locs hI hr => ?_)
    refine lv_aload_n hx hb dX1_restore_39 rfl (lv_at hl 0 rfl) ?_
    refine g_getA (C := RX1) (T := TX1) (N := 10) X hI in_X1 rfl 5 (by decide) q762 (fun _ h9 => h9) hr dX1_restore_40 (fun v25 hr => ?_)
    obtain ⟨_, ho26, hr⟩ := gB_i hr
    obtain ⟨h28, hc27, hr⟩ := gB_i hr
    refine gRun_v (g_runV X hI (w_J17_clear hc27) ho26 rfl hl (lw_V q1137 q1138 q1139 q117 q1140) rfl rfl hd_J17_clear ⟨Nat.le_of_ble_eq_true rfl, Nat.le_of_ble_eq_true rfl⟩ (as := []) (rest := []) rfl rfl (Nat.le_of_ble_eq_true rfl) ⟨(show (((cells + 1) + 1) + 4) + 0 ≤ 7 from by omega), (show (((slots + 6) + 3) + 39) + 0 ≤ 54 from by omega)⟩ dX1_restore_43) (fun H locs hI => ?_)
    refine lv_aload_n hx hb dX1_restore_46 rfl (lv_at hl 0 rfl) ?_
    refine g_getA (C := RX1) (T := TX1) (N := 10) X hI in_X1 rfl 4 (by decide) q760 (fun _ h9 => h9) hr dX1_restore_47 (fun v29 hr => ?_)
    refine lv_iconst (v := (-1)) hx hb dX1_restore_50 (by decide) ?_
    obtain ⟨_, ho30, hr⟩ := gB_i hr
    obtain ⟨v32, hc31, hr⟩ := gB_i hr
    refine gRun_i (g_runV X hI (w_X2_count hc31) ho30 rfl hl (lw_V q808 q809 q810 q97 q811) rfl rfl hd_X2_count ⟨Nat.le_of_ble_eq_true rfl, Nat.le_of_ble_eq_true rfl⟩ (as := [.int (-1 : Int32)]) (rest := []) rfl rfl (Nat.le_of_ble_eq_true rfl) ⟨(show ((((cells + 1) + 1) + 4) + 0) + 0 ≤ 7 from by omega), (show ((((slots + 6) + 3) + 39) + 0) + 0 ≤ 54 from by omega)⟩ dX1_restore_51) (fun H locs hI => ?_)
    have hr := gS_i hr
    subst hr
    exact g_xiret X hI rfl (show (((((cells + 1) + 1) + 4) + 0) + 0) ≤ 7 from by omega) (show (((((slots + 6) + 3) + 39) + 0) + 0) ≤ 54 from by omega) dX1_restore_54
  · refine gXThr (k := q11.1) (q := q11.2) (g_xrunS X hI (w_X1_checkState hst hc10) hl (lw_S q1300 q1301 q96 q1302) rfl rfl hd_X1_checkState ⟨Nat.le_of_ble_eq_true rfl, Nat.le_of_ble_eq_true rfl⟩ (as := [.int s0]) (rest := []) rfl rfl (Nat.le_of_ble_eq_true rfl) ⟨(show cells + 1 ≤ 7 from by omega), (show slots + 6 ≤ 54 from by omega)⟩ dX1_restore_19) (fun H locs hI hxc => ?_)
    have hr := gS_i hr
    subst hr
    exact g_xout X hI hxc hxt gPs_0 (show (cells + 1) ≤ 7 from by omega) (show (slots + 6) ≤ 54 from by omega)
set_option maxHeartbeats 2000000 in
theorem w_X1_restore {l : Launch} {x : gV} {base : Nat} (hst : l.stackTraces = false) {z0 : Nat} {z1 : Int32} {h : gH} {n : Nat} {res : (Int32 ⊕ gX) × gH × Nat} (hr : f_X1_restore z0 z1 h n = some res) : gMX l yX1_restore (ws_ yX1_restore cX1_restore 2 (some .int)) rm_X1_restore x base (fun v => some (.int v)) [.ref z0, .int z1] h n res 7 54 := by
  refine g_metX (cc := cX1_restore) (nL := 2) (ret := (some .int)) (by decide) (Nat.le_of_ble_eq_true rfl) (fun p e s m below meth c ls X hnm hxt hl hI => ?_)
  have hl : lv_has ls 2 [(0, .ref z0), (1, .int z1)] := hl
  have hx := X.1
  have hb := X.2.1
  have hcc : 0 + 7 ≤ 7 ∧ 0 + 54 ≤ 54 := ⟨Nat.le_refl _, Nat.le_refl _⟩
  unfold f_X1_restore at hr
  refine lv_iload_n hx hb dX1_restore_0 rfl (lv_at hl 1 rfl) ?_
  refine lv_iconst (v := 2) hx hb dX1_restore_1 (by decide) ?_
  rcases gTX_i hr with ⟨u9, h3, n4, hc1, hr⟩ | ⟨q2, h5, n6, hc1, hr⟩
  · refine gXRet_v (g_xrunS X hI (w_X1_checkIndex hst hc1) hl (lw_S q1178 q1179 q96 q1180) rfl rfl hd_X1_checkIndex ⟨Nat.le_of_ble_eq_true rfl, Nat.le_of_ble_eq_true rfl⟩ (as := [.int z1, .int (2 : Int32)]) (rest := []) rfl rfl (Nat.le_of_ble_eq_true rfl) ⟨(show 0 + 1 ≤ 7 from by omega), (show 0 + 6 ≤ 54 from by omega)⟩ dX1_restore_2) (fun H locs hI => ?_)
    refine lv_aload_n hx hb dX1_restore_5 rfl (lv_at hl 0 rfl) ?_
    refine g_getA (C := RX1) (T := TX1) (N := 10) X hI in_X1 rfl 6 (by decide) q763 (fun _ h9 => h9) hr dX1_restore_6 (fun v7 hr => ?_)
    refine lv_iload_n hx hb dX1_restore_9 rfl (lv_at hl 1 rfl) ?_
    refine g_aaldQ X hI (t := 4) rfl hr dX1_restore_10 (fun v8 hr => ?_)
    rcases v8 with _ | v9
    · replace hr := gO_n hr
      show W _ _ _ _ _ _ _ _ _ _ _ _ _ _ _ (F0 m 11 ls (.null :: []))
      refine lv_ifnullN (tgt := 18) hx hb dX1_restore_11 (by decide) ?_
      refine lv_iconst (v := 0) hx hb dX1_restore_18 (by decide) ?_
      exact w_X1_restore_J19 X hst hxt hr hI (lv_sub hl [0, 1] rfl) (by omega)
    · replace hr := gO_s hr
      show W _ _ _ _ _ _ _ _ _ _ _ _ _ _ _ (F0 m 11 ls (.ref v9 :: []))
      refine lv_ifnull hx hb dX1_restore_11 ?_
      refine lv_iconst (v := 1) hx hb dX1_restore_14 (by decide) ?_
      refine lv_goto (tgt := 19) hx hb dX1_restore_15 (by decide) ?_
      exact w_X1_restore_J19 X hst hxt hr hI (lv_sub hl [0, 1] rfl) (by omega)
  · refine gXThr (k := q2.1) (q := q2.2) (g_xrunS X hI (w_X1_checkIndex hst hc1) hl (lw_S q1178 q1179 q96 q1180) rfl rfl hd_X1_checkIndex ⟨Nat.le_of_ble_eq_true rfl, Nat.le_of_ble_eq_true rfl⟩ (as := [.int z1, .int (2 : Int32)]) (rest := []) rfl rfl (Nat.le_of_ble_eq_true rfl) ⟨(show 0 + 1 ≤ 7 from by omega), (show 0 + 6 ≤ 54 from by omega)⟩ dX1_restore_2) (fun H locs hI hxc => ?_)
    have hr := gS_i hr
    subst hr
    exact g_xout X hI hxc hxt gPs_0 (show (0 + 1) ≤ 7 from by omega) (show (0 + 6) ≤ 54 from by omega)
abbrev rm_X1_outputByte : Room := { frames := 9, cells := 1, slots := 6, locals := 181 }
theorem hd_X1_outputByte : yX1_outputByte.cls = RX1 ∧ yX1_outputByte.cls ≠ "java/lang/invoke/MethodHandle" ∧ yX1_outputByte.cls ≠ "java/lang/invoke/VarHandle" ∧ (parseMethodDescriptor yX1_outputByte.desc).map (fun d => d.parameters.length) = some 1 := by decide +kernel
set_option maxHeartbeats 2000000 in
theorem w_X1_outputByte {l : Launch} {x : gV} {base : Nat} (hst : l.stackTraces = false) {z0 : Nat} {z1 : Int32} {h : gH} {n : Nat} {res : (Int32 ⊕ gX) × gH × Nat} (hr : f_X1_outputByte z0 z1 h n = some res) : gMX l yX1_outputByte (ws_ yX1_outputByte cX1_outputByte 2 (some .int)) rm_X1_outputByte x base (fun v => some (.int v)) [.ref z0, .int z1] h n res 1 6 := by
  refine g_metX (cc := cX1_outputByte) (nL := 2) (ret := (some .int)) (by decide) (Nat.le_of_ble_eq_true rfl) (fun p e s m below meth c ls X hnm hxt hl hI => ?_)
  have hl : lv_has ls 2 [(0, .ref z0), (1, .int z1)] := hl
  have hx := X.1
  have hb := X.2.1
  have hcc : 0 + 1 ≤ 1 ∧ 0 + 6 ≤ 6 := ⟨Nat.le_refl _, Nat.le_refl _⟩
  unfold f_X1_outputByte at hr
  refine lv_iload_n hx hb dX1_outputByte_0 rfl (lv_at hl 1 rfl) ?_
  refine lv_aload_n hx hb dX1_outputByte_1 rfl (lv_at hl 0 rfl) ?_
  refine g_getI (C := RX1) (T := TX1) (N := 10) X hI in_X1 rfl 9 (by decide) q766 (fun _ h9 => h9) hr dX1_outputByte_2 (fun v1 hr => ?_)
  rcases gTX_i hr with ⟨u9, h4, n5, hc2, hr⟩ | ⟨q3, h6, n7, hc2, hr⟩
  · refine gXRet_v (g_xrunS X hI (w_X1_checkIndex hst hc2) hl (lw_S q1178 q1179 q96 q1180) rfl rfl hd_X1_checkIndex ⟨Nat.le_of_ble_eq_true rfl, Nat.le_of_ble_eq_true rfl⟩ (as := [.int z1, .int v1]) (rest := []) rfl rfl (Nat.le_of_ble_eq_true rfl) ⟨(show 0 + 1 ≤ 1 from by omega), (show 0 + 6 ≤ 6 from by omega)⟩ dX1_outputByte_5) (fun H locs hI => ?_)
    refine lv_aload_n hx hb dX1_outputByte_8 rfl (lv_at hl 0 rfl) ?_
    refine g_getA (C := RX1) (T := TX1) (N := 10) X hI in_X1 rfl 8 (by decide) q765 (fun _ h9 => h9) hr dX1_outputByte_9 (fun v8 hr => ?_)
    refine lv_iload_n hx hb dX1_outputByte_12 rfl (lv_at hl 1 rfl) ?_
    refine g_bald X hI hr dX1_outputByte_13 (fun v9 hr => ?_)
    have hr := gS_i hr
    subst hr
    exact g_xiret X hI rfl (show (0 + 1) ≤ 1 from by omega) (show (0 + 6) ≤ 6 from by omega) dX1_outputByte_14
  · refine gXThr (k := q3.1) (q := q3.2) (g_xrunS X hI (w_X1_checkIndex hst hc2) hl (lw_S q1178 q1179 q96 q1180) rfl rfl hd_X1_checkIndex ⟨Nat.le_of_ble_eq_true rfl, Nat.le_of_ble_eq_true rfl⟩ (as := [.int z1, .int v1]) (rest := []) rfl rfl (Nat.le_of_ble_eq_true rfl) ⟨(show 0 + 1 ≤ 1 from by omega), (show 0 + 6 ≤ 6 from by omega)⟩ dX1_outputByte_5) (fun H locs hI hxc => ?_)
    have hr := gS_i hr
    subst hr
    exact g_xout X hI hxc hxt gPs_0 (show (0 + 1) ≤ 1 from by omega) (show (0 + 6) ≤ 6 from by omega)
abbrev rm_X0_append : Room := { frames := 9, cells := 1, slots := 6, locals := 185 }
theorem hd_X0_append : yX0_append.cls ≠ "java/lang/invoke/MethodHandle" ∧ yX0_append.cls ≠ "java/lang/invoke/VarHandle" ∧ (parseMethodDescriptor yX0_append.desc).map (fun d => d.parameters.length) = some 7 := by decide +kernel
set_option maxHeartbeats 2000000 in
theorem w_X0_append {l : Launch} {x : gV} {base : Nat} (hst : l.stackTraces = false) {z0 : Nat} {z1 : Int32} {z2 : Int32} {z3 : Int32} {z4 : Int32} {z5 : Int32} {z6 : Nat} {h : gH} {n : Nat} {res : (Int32 ⊕ gX) × gH × Nat} (hr : f_X0_append z0 z1 z2 z3 z4 z5 z6 h n = some res) : gMX l yX0_append (wsW_ yX0_append cX0_append 8 (some .int) [(0, 16, 19, 13)]) rm_X0_append x base (fun v => some (.int v)) [.ref z0, .int z1, .int z2, .int z3, .int z4, .int z5, .ref z6] h n res 1 6 := by
  refine g_metW (cc := cX0_append) (nL := 8) (ret := (some .int)) (by decide) (Nat.le_of_ble_eq_true rfl) (fun p e s m below meth c ls X hnm hxt hl hI => ?_)
  have hl : lv_has ls 8 [(0, .ref z0), (1, .int z1), (2, .int z2), (3, .int z3), (4, .int z4), (5, .int z5), (6, .ref z6)] := hl
  have hx := X.1
  have hb := X.2.1
  have hcc : 0 + 1 ≤ 1 ∧ 0 + 6 ≤ 6 := ⟨Nat.le_refl _, Nat.le_refl _⟩
  unfold f_X0_append at hr
  refine lv_aload hx hb dX0_append_0 (lv_at hl 6 rfl) ?_
  refine lv_iconst (v := 0) hx hb dX0_append_2 (by decide) ?_
  refine lv_aload_n hx hb dX0_append_3 rfl (lv_at hl 0 rfl) ?_
  refine lv_iload_n hx hb dX0_append_4 rfl (lv_at hl 1 rfl) ?_
  refine lv_iload_n hx hb dX0_append_5 rfl (lv_at hl 2 rfl) ?_
  refine lv_iload_n hx hb dX0_append_6 rfl (lv_at hl 3 rfl) ?_
  refine lv_iload hx hb dX0_append_7 (lv_at hl 4 rfl) ?_
  refine lv_iload hx hb dX0_append_9 (lv_at hl 5 rfl) ?_
  obtain ⟨_, ho1, hr⟩ := gB_i hr
  rcases gTX_i hr with ⟨v3, h5, n6, hc2, hr⟩ | ⟨q4, h7, n8, hc2, hr⟩
  · refine gXRet_i (g_xrunV X hI (w_X1_append hst hc2) ho1 rfl hl (lw_V q1100 q1101 q1102 q96 q1103) rfl rfl hd_X1_append ⟨Nat.le_of_ble_eq_true rfl, Nat.le_of_ble_eq_true rfl⟩ (as := [.int z1, .int z2, .int z3, .int z4, .int z5]) (rest := [.int (0 : Int32), .ref z6]) rfl rfl (Nat.le_of_ble_eq_true rfl) ⟨(show 0 + 1 ≤ 1 from by omega), (show 0 + 6 ≤ 6 from by omega)⟩ dX0_append_11) (fun H locs hI => ?_)
    refine lv_i2l hx hb dX0_append_14 rfl ?_
    refine g_last X hI hr dX0_append_15 (fun h9 H locs hI hr => ?_)
    refine lv_goto (tgt := 23) hx hb dX0_append_16 (by decide) ?_
    refine lv_iconst (v := 0) hx hb dX0_append_23 (by decide) ?_
    have hr := gS_i hr
    subst hr
    exact g_xiret X hI rfl (show (0 + 1) ≤ 1 from by omega) (show (0 + 6) ≤ 6 from by omega) dX0_append_24
  · refine gXThr (k := q4.1) (q := q4.2) (g_xrunV X hI (w_X1_append hst hc2) ho1 rfl hl (lw_V q1100 q1101 q1102 q96 q1103) rfl rfl hd_X1_append ⟨Nat.le_of_ble_eq_true rfl, Nat.le_of_ble_eq_true rfl⟩ (as := [.int z1, .int z2, .int z3, .int z4, .int z5]) (rest := [.int (0 : Int32), .ref z6]) rfl rfl (Nat.le_of_ble_eq_true rfl) ⟨(show 0 + 1 ≤ 1 from by omega), (show 0 + 6 ≤ 6 from by omega)⟩ dX0_append_11) (fun H locs hI hxc => ?_)
    by_cases c10 : q4.1 = 10
    · replace hr := gIf_t c10 hr
      refine g_catch (a := 0) (b := 16) (hp := 19) (ct := 13) X hxc hxt (pre := []) (suf := []) rfl gPs_0 (by decide) (by decide) (j := 10) c10 q1099 ?_
      refine lv_astore (lv' := [(7, .ref q4.2), (0, .ref z0), (1, .int z1), (2, .int z2), (3, .int z3), (4, .int z4), (5, .int z5), (6, .ref z6)]) hx hb dX0_append_19 hl (by decide) rfl (fun ls hl => ?_)
      refine lv_iconst (v := 1) hx hb dX0_append_21 (by decide) ?_
      have hr := gS_i hr
      subst hr
      exact g_xiret X hI rfl (show (0 + 1) ≤ 1 from by omega) (show (0 + 6) ≤ 6 from by omega) dX0_append_22
    replace hr := gIf_f c10 hr
    have hr := gS_i hr
    subst hr
    exact g_xout X hI hxc hxt (gPs_c (Or.inr ⟨by decide, 10, by decide, c10, q1099⟩) gPs_0) (show (0 + 1) ≤ 1 from by omega) (show (0 + 6) ≤ 6 from by omega)
abbrev rm_X0_truncate : Room := { frames := 9, cells := 1, slots := 6, locals := 181 }
theorem hd_X0_truncate : yX0_truncate.cls ≠ "java/lang/invoke/MethodHandle" ∧ yX0_truncate.cls ≠ "java/lang/invoke/VarHandle" ∧ (parseMethodDescriptor yX0_truncate.desc).map (fun d => d.parameters.length) = some 3 := by decide +kernel
set_option maxHeartbeats 2000000 in
theorem w_X0_truncate {l : Launch} {x : gV} {base : Nat} (hst : l.stackTraces = false) {z0 : Nat} {z1 : Int32} {z2 : Nat} {h : gH} {n : Nat} {res : (Int32 ⊕ gX) × gH × Nat} (hr : f_X0_truncate z0 z1 z2 h n = some res) : gMX l yX0_truncate (wsW_ yX0_truncate cX0_truncate 4 (some .int) [(0, 9, 12, 19)]) rm_X0_truncate x base (fun v => some (.int v)) [.ref z0, .int z1, .ref z2] h n res 1 6 := by
  refine g_metW (cc := cX0_truncate) (nL := 4) (ret := (some .int)) (by decide) (Nat.le_of_ble_eq_true rfl) (fun p e s m below meth c ls X hnm hxt hl hI => ?_)
  have hl : lv_has ls 4 [(0, .ref z0), (1, .int z1), (2, .ref z2)] := hl
  have hx := X.1
  have hb := X.2.1
  have hcc : 0 + 1 ≤ 1 ∧ 0 + 6 ≤ 6 := ⟨Nat.le_refl _, Nat.le_refl _⟩
  unfold f_X0_truncate at hr
  refine lv_aload_n hx hb dX0_truncate_0 rfl (lv_at hl 2 rfl) ?_
  refine lv_iconst (v := 0) hx hb dX0_truncate_1 (by decide) ?_
  refine lv_aload_n hx hb dX0_truncate_2 rfl (lv_at hl 0 rfl) ?_
  refine lv_iload_n hx hb dX0_truncate_3 rfl (lv_at hl 1 rfl) ?_
  obtain ⟨_, ho1, hr⟩ := gB_i hr
  rcases gTX_i hr with ⟨v3, h5, n6, hc2, hr⟩ | ⟨q4, h7, n8, hc2, hr⟩
  · refine gXRet_i (g_xrunV X hI (w_X1_truncate hst hc2) ho1 rfl hl (lw_V q1117 q1118 q1119 q96 q1120) rfl rfl hd_X1_truncate ⟨Nat.le_of_ble_eq_true rfl, Nat.le_of_ble_eq_true rfl⟩ (as := [.int z1]) (rest := [.int (0 : Int32), .ref z2]) rfl rfl (Nat.le_of_ble_eq_true rfl) ⟨(show 0 + 1 ≤ 1 from by omega), (show 0 + 6 ≤ 6 from by omega)⟩ dX0_truncate_4) (fun H locs hI => ?_)
    refine lv_i2l hx hb dX0_truncate_7 rfl ?_
    refine g_last X hI hr dX0_truncate_8 (fun h9 H locs hI hr => ?_)
    refine lv_goto (tgt := 15) hx hb dX0_truncate_9 (by decide) ?_
    refine lv_iconst (v := 0) hx hb dX0_truncate_15 (by decide) ?_
    have hr := gS_i hr
    subst hr
    exact g_xiret X hI rfl (show (0 + 1) ≤ 1 from by omega) (show (0 + 6) ≤ 6 from by omega) dX0_truncate_16
  · refine gXThr (k := q4.1) (q := q4.2) (g_xrunV X hI (w_X1_truncate hst hc2) ho1 rfl hl (lw_V q1117 q1118 q1119 q96 q1120) rfl rfl hd_X1_truncate ⟨Nat.le_of_ble_eq_true rfl, Nat.le_of_ble_eq_true rfl⟩ (as := [.int z1]) (rest := [.int (0 : Int32), .ref z2]) rfl rfl (Nat.le_of_ble_eq_true rfl) ⟨(show 0 + 1 ≤ 1 from by omega), (show 0 + 6 ≤ 6 from by omega)⟩ dX0_truncate_4) (fun H locs hI hxc => ?_)
    by_cases c10 : q4.1 = 11
    · replace hr := gIf_t c10 hr
      refine g_catch (a := 0) (b := 9) (hp := 12) (ct := 19) X hxc hxt (pre := []) (suf := []) rfl gPs_0 (by decide) (by decide) (j := 11) c10 q1116 ?_
      refine lv_astore_n (lv' := [(3, .ref q4.2), (0, .ref z0), (1, .int z1), (2, .ref z2)]) hx hb dX0_truncate_12 rfl hl (by decide) rfl (fun ls hl => ?_)
      refine lv_iconst (v := 1) hx hb dX0_truncate_13 (by decide) ?_
      have hr := gS_i hr
      subst hr
      exact g_xiret X hI rfl (show (0 + 1) ≤ 1 from by omega) (show (0 + 6) ≤ 6 from by omega) dX0_truncate_14
    replace hr := gIf_f c10 hr
    have hr := gS_i hr
    subst hr
    exact g_xout X hI hxc hxt (gPs_c (Or.inr ⟨by decide, 11, by decide, c10, q1116⟩) gPs_0) (show (0 + 1) ≤ 1 from by omega) (show (0 + 6) ≤ 6 from by omega)
abbrev rm_X0_load : Room := { frames := 17, cells := 298, slots := 2615, locals := 513 }
theorem hd_X0_load : yX0_load.cls ≠ "java/lang/invoke/MethodHandle" ∧ yX0_load.cls ≠ "java/lang/invoke/VarHandle" ∧ (parseMethodDescriptor yX0_load.desc).map (fun d => d.parameters.length) = some 2 := by decide +kernel
set_option maxHeartbeats 2000000 in
theorem w_X0_load {l : Launch} {x : gV} {base : Nat} (hst : l.stackTraces = false) {z0 : Nat} {z1 : Nat} {h : gH} {n : Nat} {res : (Int32 ⊕ gX) × gH × Nat} (hr : f_X0_load x z0 z1 h n = some res) : gMX l yX0_load (wsW_ yX0_load cX0_load 3 (some .int) [(0, 8, 11, 19)]) rm_X0_load x base (fun v => some (.int v)) [.ref z0, .ref z1] h n res 298 2615 := by
  refine g_metW (cc := cX0_load) (nL := 3) (ret := (some .int)) (by decide) (Nat.le_of_ble_eq_true rfl) (fun p e s m below meth c ls X hnm hxt hl hI => ?_)
  have hl : lv_has ls 3 [(0, .ref z0), (1, .ref z1)] := hl
  have hx := X.1
  have hb := X.2.1
  have hcc : 0 + 298 ≤ 298 ∧ 0 + 2615 ≤ 2615 := ⟨Nat.le_refl _, Nat.le_refl _⟩
  unfold f_X0_load at hr
  refine lv_aload_n hx hb dX0_load_0 rfl (lv_at hl 1 rfl) ?_
  refine lv_iconst (v := 0) hx hb dX0_load_1 (by decide) ?_
  refine lv_aload_n hx hb dX0_load_2 rfl (lv_at hl 0 rfl) ?_
  obtain ⟨_, ho1, hr⟩ := gB_i hr
  rcases gTX_i hr with ⟨v3, h5, n6, hc2, hr⟩ | ⟨q4, h7, n8, hc2, hr⟩
  · refine gXRet_i (g_wrunV X hI (w_X1_load hst hc2) ho1 rfl hl (lw_VW q1129 q1130 q1131 q96 q1132) rfl rfl hd_X1_load ⟨Nat.le_of_ble_eq_true rfl, Nat.le_of_ble_eq_true rfl⟩ (as := []) (rest := [.int (0 : Int32), .ref z1]) rfl rfl (Nat.le_of_ble_eq_true rfl) ⟨(show 0 + 298 ≤ 298 from by omega), (show 0 + 2615 ≤ 2615 from by omega)⟩ dX0_load_3) (fun H locs hI => ?_)
    refine lv_i2l hx hb dX0_load_6 rfl ?_
    refine g_last X hI hr dX0_load_7 (fun h9 H locs hI hr => ?_)
    refine lv_goto (tgt := 14) hx hb dX0_load_8 (by decide) ?_
    refine lv_iconst (v := 0) hx hb dX0_load_14 (by decide) ?_
    have hr := gS_i hr
    subst hr
    exact g_xiret X hI rfl (show (0 + 298) ≤ 298 from by omega) (show (0 + 2615) ≤ 2615 from by omega) dX0_load_15
  · refine gXThr (k := q4.1) (q := q4.2) (g_wrunV X hI (w_X1_load hst hc2) ho1 rfl hl (lw_VW q1129 q1130 q1131 q96 q1132) rfl rfl hd_X1_load ⟨Nat.le_of_ble_eq_true rfl, Nat.le_of_ble_eq_true rfl⟩ (as := []) (rest := [.int (0 : Int32), .ref z1]) rfl rfl (Nat.le_of_ble_eq_true rfl) ⟨(show 0 + 298 ≤ 298 from by omega), (show 0 + 2615 ≤ 2615 from by omega)⟩ dX0_load_3) (fun H locs hI hxc => ?_)
    by_cases c10 : q4.1 = 11
    · replace hr := gIf_t c10 hr
      refine g_catch (a := 0) (b := 8) (hp := 11) (ct := 19) X hxc hxt (pre := []) (suf := []) rfl gPs_0 (by decide) (by decide) (j := 11) c10 q1116 ?_
      refine lv_astore_n (lv' := [(2, .ref q4.2), (0, .ref z0), (1, .ref z1)]) hx hb dX0_load_11 rfl hl (by decide) rfl (fun ls hl => ?_)
      refine lv_iconst (v := 1) hx hb dX0_load_12 (by decide) ?_
      have hr := gS_i hr
      subst hr
      exact g_xiret X hI rfl (show (0 + 298) ≤ 298 from by omega) (show (0 + 2615) ≤ 2615 from by omega) dX0_load_13
    replace hr := gIf_f c10 hr
    have hr := gS_i hr
    subst hr
    exact g_xout X hI hxc hxt (gPs_c (Or.inr ⟨by decide, 11, by decide, c10, q1116⟩) gPs_0) (show (0 + 298) ≤ 298 from by omega) (show (0 + 2615) ≤ 2615 from by omega)
abbrev rm_X0_nameByte : Room := { frames := 12, cells := 6, slots := 31, locals := 247 }
theorem hd_X0_nameByte : yX0_nameByte.cls ≠ "java/lang/invoke/MethodHandle" ∧ yX0_nameByte.cls ≠ "java/lang/invoke/VarHandle" ∧ (parseMethodDescriptor yX0_nameByte.desc).map (fun d => d.parameters.length) = some 4 := by decide +kernel
set_option maxHeartbeats 2000000 in
theorem w_X0_nameByte {l : Launch} {x : gV} {base : Nat} (hst : l.stackTraces = false) {z0 : Nat} {z1 : Int32} {z2 : Int32} {z3 : Nat} {h : gH} {n : Nat} {res : (Int32 ⊕ gX) × gH × Nat} (hr : f_X0_nameByte z0 z1 z2 z3 h n = some res) : gMX l yX0_nameByte (wsW_ yX0_nameByte cX0_nameByte 5 (some .int) [(0, 10, 13, 29)]) rm_X0_nameByte x base (fun v => some (.int v)) [.ref z0, .int z1, .int z2, .ref z3] h n res 6 31 := by
  refine g_metW (cc := cX0_nameByte) (nL := 5) (ret := (some .int)) (by decide) (Nat.le_of_ble_eq_true rfl) (fun p e s m below meth c ls X hnm hxt hl hI => ?_)
  have hl : lv_has ls 5 [(0, .ref z0), (1, .int z1), (2, .int z2), (3, .ref z3)] := hl
  have hx := X.1
  have hb := X.2.1
  have hcc : 0 + 6 ≤ 6 ∧ 0 + 31 ≤ 31 := ⟨Nat.le_refl _, Nat.le_refl _⟩
  unfold f_X0_nameByte at hr
  refine lv_aload_n hx hb dX0_nameByte_0 rfl (lv_at hl 3 rfl) ?_
  refine lv_iconst (v := 0) hx hb dX0_nameByte_1 (by decide) ?_
  refine lv_aload_n hx hb dX0_nameByte_2 rfl (lv_at hl 0 rfl) ?_
  refine lv_iload_n hx hb dX0_nameByte_3 rfl (lv_at hl 1 rfl) ?_
  refine lv_iload_n hx hb dX0_nameByte_4 rfl (lv_at hl 2 rfl) ?_
  obtain ⟨_, ho1, hr⟩ := gB_i hr
  rcases gTX_i hr with ⟨v3, h5, n6, hc2, hr⟩ | ⟨q4, h7, n8, hc2, hr⟩
  · refine gXRet_i (g_xrunV X hI (w_X1_nameByte hst hc2) ho1 rfl hl (lw_V q1166 q1167 q1168 q96 q1169) rfl rfl hd_X1_nameByte ⟨Nat.le_of_ble_eq_true rfl, Nat.le_of_ble_eq_true rfl⟩ (as := [.int z1, .int z2]) (rest := [.int (0 : Int32), .ref z3]) rfl rfl (Nat.le_of_ble_eq_true rfl) ⟨(show 0 + 6 ≤ 6 from by omega), (show 0 + 31 ≤ 31 from by omega)⟩ dX0_nameByte_5) (fun H locs hI => ?_)
    refine lv_i2l hx hb dX0_nameByte_8 rfl ?_
    refine g_last X hI hr dX0_nameByte_9 (fun h9 H locs hI hr => ?_)
    refine lv_goto (tgt := 17) hx hb dX0_nameByte_10 (by decide) ?_
    refine lv_iconst (v := 0) hx hb dX0_nameByte_17 (by decide) ?_
    have hr := gS_i hr
    subst hr
    exact g_xiret X hI rfl (show (0 + 6) ≤ 6 from by omega) (show (0 + 31) ≤ 31 from by omega) dX0_nameByte_18
  · refine gXThr (k := q4.1) (q := q4.2) (g_xrunV X hI (w_X1_nameByte hst hc2) ho1 rfl hl (lw_V q1166 q1167 q1168 q96 q1169) rfl rfl hd_X1_nameByte ⟨Nat.le_of_ble_eq_true rfl, Nat.le_of_ble_eq_true rfl⟩ (as := [.int z1, .int z2]) (rest := [.int (0 : Int32), .ref z3]) rfl rfl (Nat.le_of_ble_eq_true rfl) ⟨(show 0 + 6 ≤ 6 from by omega), (show 0 + 31 ≤ 31 from by omega)⟩ dX0_nameByte_5) (fun H locs hI hxc => ?_)
    by_cases c10 : q4.1 = 12
    · replace hr := gIf_t c10 hr
      refine g_catch (a := 0) (b := 10) (hp := 13) (ct := 29) X hxc hxt (pre := []) (suf := []) rfl gPs_0 (by decide) (by decide) (j := 12) c10 q1147 ?_
      refine lv_astore (lv' := [(4, .ref q4.2), (0, .ref z0), (1, .int z1), (2, .int z2), (3, .ref z3)]) hx hb dX0_nameByte_13 hl (by decide) rfl (fun ls hl => ?_)
      refine lv_iconst (v := 1) hx hb dX0_nameByte_15 (by decide) ?_
      have hr := gS_i hr
      subst hr
      exact g_xiret X hI rfl (show (0 + 6) ≤ 6 from by omega) (show (0 + 31) ≤ 31 from by omega) dX0_nameByte_16
    replace hr := gIf_f c10 hr
    have hr := gS_i hr
    subst hr
    exact g_xout X hI hxc hxt (gPs_c (Or.inr ⟨by decide, 12, by decide, c10, q1147⟩) gPs_0) (show (0 + 6) ≤ 6 from by omega) (show (0 + 31) ≤ 31 from by omega)
abbrev rm_X0_findSibling : Room := { frames := 9, cells := 2, slots := 606, locals := 182 }
theorem hd_X0_findSibling : yX0_findSibling.cls ≠ "java/lang/invoke/MethodHandle" ∧ yX0_findSibling.cls ≠ "java/lang/invoke/VarHandle" ∧ (parseMethodDescriptor yX0_findSibling.desc).map (fun d => d.parameters.length) = some 2 := by decide +kernel
set_option maxHeartbeats 2000000 in
theorem w_X0_findSibling {l : Launch} {x : gV} {base : Nat} (hst : l.stackTraces = false) {z0 : Nat} {z1 : Nat} {h : gH} {n : Nat} {res : (Int32 ⊕ gX) × gH × Nat} (hr : f_X0_findSibling z0 z1 h n = some res) : gMX l yX0_findSibling (wsW_ yX0_findSibling cX0_findSibling 3 (some .int) [(0, 8, 11, 34)]) rm_X0_findSibling x base (fun v => some (.int v)) [.ref z0, .ref z1] h n res 2 606 := by
  refine g_metW (cc := cX0_findSibling) (nL := 3) (ret := (some .int)) (by decide) (Nat.le_of_ble_eq_true rfl) (fun p e s m below meth c ls X hnm hxt hl hI => ?_)
  have hl : lv_has ls 3 [(0, .ref z0), (1, .ref z1)] := hl
  have hx := X.1
  have hb := X.2.1
  have hcc : 0 + 2 ≤ 2 ∧ 0 + 606 ≤ 606 := ⟨Nat.le_refl _, Nat.le_refl _⟩
  unfold f_X0_findSibling at hr
  refine lv_aload_n hx hb dX0_findSibling_0 rfl (lv_at hl 1 rfl) ?_
  refine lv_iconst (v := 0) hx hb dX0_findSibling_1 (by decide) ?_
  refine lv_aload_n hx hb dX0_findSibling_2 rfl (lv_at hl 0 rfl) ?_
  obtain ⟨_, ho1, hr⟩ := gB_i hr
  rcases gTX_i hr with ⟨v3, h5, n6, hc2, hr⟩ | ⟨q4, h7, n8, hc2, hr⟩
  · refine gXRet_i (g_xrunV X hI (w_X1_findSibling hst hc2) ho1 rfl hl (lw_V q1200 q1201 q1202 q96 q1203) rfl rfl hd_X1_findSibling ⟨Nat.le_of_ble_eq_true rfl, Nat.le_of_ble_eq_true rfl⟩ (as := []) (rest := [.int (0 : Int32), .ref z1]) rfl rfl (Nat.le_of_ble_eq_true rfl) ⟨(show 0 + 2 ≤ 2 from by omega), (show 0 + 606 ≤ 606 from by omega)⟩ dX0_findSibling_3) (fun H locs hI => ?_)
    refine lv_i2l hx hb dX0_findSibling_6 rfl ?_
    refine g_last X hI hr dX0_findSibling_7 (fun h9 H locs hI hr => ?_)
    refine lv_goto (tgt := 14) hx hb dX0_findSibling_8 (by decide) ?_
    refine lv_iconst (v := 0) hx hb dX0_findSibling_14 (by decide) ?_
    have hr := gS_i hr
    subst hr
    exact g_xiret X hI rfl (show (0 + 2) ≤ 2 from by omega) (show (0 + 606) ≤ 606 from by omega) dX0_findSibling_15
  · refine gXThr (k := q4.1) (q := q4.2) (g_xrunV X hI (w_X1_findSibling hst hc2) ho1 rfl hl (lw_V q1200 q1201 q1202 q96 q1203) rfl rfl hd_X1_findSibling ⟨Nat.le_of_ble_eq_true rfl, Nat.le_of_ble_eq_true rfl⟩ (as := []) (rest := [.int (0 : Int32), .ref z1]) rfl rfl (Nat.le_of_ble_eq_true rfl) ⟨(show 0 + 2 ≤ 2 from by omega), (show 0 + 606 ≤ 606 from by omega)⟩ dX0_findSibling_3) (fun H locs hI hxc => ?_)
    by_cases c10 : q4.1 = 13
    · replace hr := gIf_t c10 hr
      refine g_catch (a := 0) (b := 8) (hp := 11) (ct := 34) X hxc hxt (pre := []) (suf := []) rfl gPs_0 (by decide) (by decide) (j := 13) c10 q1199 ?_
      refine lv_astore_n (lv' := [(2, .ref q4.2), (0, .ref z0), (1, .ref z1)]) hx hb dX0_findSibling_11 rfl hl (by decide) rfl (fun ls hl => ?_)
      refine lv_iconst (v := 1) hx hb dX0_findSibling_12 (by decide) ?_
      have hr := gS_i hr
      subst hr
      exact g_xiret X hI rfl (show (0 + 2) ≤ 2 from by omega) (show (0 + 606) ≤ 606 from by omega) dX0_findSibling_13
    replace hr := gIf_f c10 hr
    have hr := gS_i hr
    subst hr
    exact g_xout X hI hxc hxt (gPs_c (Or.inr ⟨by decide, 13, by decide, c10, q1199⟩) gPs_0) (show (0 + 2) ≤ 2 from by omega) (show (0 + 606) ≤ 606 from by omega)
abbrev rm_X0_value : Room := { frames := 12, cells := 6, slots := 31, locals := 247 }
theorem hd_X0_value : yX0_value.cls ≠ "java/lang/invoke/MethodHandle" ∧ yX0_value.cls ≠ "java/lang/invoke/VarHandle" ∧ (parseMethodDescriptor yX0_value.desc).map (fun d => d.parameters.length) = some 4 := by decide +kernel
set_option maxHeartbeats 2000000 in
theorem w_X0_value {l : Launch} {x : gV} {base : Nat} (hst : l.stackTraces = false) {z0 : Nat} {z1 : Int32} {z2 : Int32} {z3 : Nat} {h : gH} {n : Nat} {res : (Int32 ⊕ gX) × gH × Nat} (hr : f_X0_value z0 z1 z2 z3 h n = some res) : gMX l yX0_value (wsW_ yX0_value cX0_value 5 (some .int) [(0, 10, 13, 29)]) rm_X0_value x base (fun v => some (.int v)) [.ref z0, .int z1, .int z2, .ref z3] h n res 6 31 := by
  refine g_metW (cc := cX0_value) (nL := 5) (ret := (some .int)) (by decide) (Nat.le_of_ble_eq_true rfl) (fun p e s m below meth c ls X hnm hxt hl hI => ?_)
  have hl : lv_has ls 5 [(0, .ref z0), (1, .int z1), (2, .int z2), (3, .ref z3)] := hl
  have hx := X.1
  have hb := X.2.1
  have hcc : 0 + 6 ≤ 6 ∧ 0 + 31 ≤ 31 := ⟨Nat.le_refl _, Nat.le_refl _⟩
  unfold f_X0_value at hr
  refine lv_aload_n hx hb dX0_value_0 rfl (lv_at hl 3 rfl) ?_
  refine lv_iconst (v := 0) hx hb dX0_value_1 (by decide) ?_
  refine lv_aload_n hx hb dX0_value_2 rfl (lv_at hl 0 rfl) ?_
  refine lv_iload_n hx hb dX0_value_3 rfl (lv_at hl 1 rfl) ?_
  refine lv_iload_n hx hb dX0_value_4 rfl (lv_at hl 2 rfl) ?_
  obtain ⟨_, ho1, hr⟩ := gB_i hr
  rcases gTX_i hr with ⟨v3, h5, n6, hc2, hr⟩ | ⟨q4, h7, n8, hc2, hr⟩
  · refine gXRet_i (g_xrunV X hI (w_X1_value hst hc2) ho1 rfl hl (lw_V q1211 q1212 q1213 q96 q1214) rfl rfl hd_X1_value ⟨Nat.le_of_ble_eq_true rfl, Nat.le_of_ble_eq_true rfl⟩ (as := [.int z1, .int z2]) (rest := [.int (0 : Int32), .ref z3]) rfl rfl (Nat.le_of_ble_eq_true rfl) ⟨(show 0 + 6 ≤ 6 from by omega), (show 0 + 31 ≤ 31 from by omega)⟩ dX0_value_5) (fun H locs hI => ?_)
    refine lv_i2l hx hb dX0_value_8 rfl ?_
    refine g_last X hI hr dX0_value_9 (fun h9 H locs hI hr => ?_)
    refine lv_goto (tgt := 17) hx hb dX0_value_10 (by decide) ?_
    refine lv_iconst (v := 0) hx hb dX0_value_17 (by decide) ?_
    have hr := gS_i hr
    subst hr
    exact g_xiret X hI rfl (show (0 + 6) ≤ 6 from by omega) (show (0 + 31) ≤ 31 from by omega) dX0_value_18
  · refine gXThr (k := q4.1) (q := q4.2) (g_xrunV X hI (w_X1_value hst hc2) ho1 rfl hl (lw_V q1211 q1212 q1213 q96 q1214) rfl rfl hd_X1_value ⟨Nat.le_of_ble_eq_true rfl, Nat.le_of_ble_eq_true rfl⟩ (as := [.int z1, .int z2]) (rest := [.int (0 : Int32), .ref z3]) rfl rfl (Nat.le_of_ble_eq_true rfl) ⟨(show 0 + 6 ≤ 6 from by omega), (show 0 + 31 ≤ 31 from by omega)⟩ dX0_value_5) (fun H locs hI hxc => ?_)
    by_cases c10 : q4.1 = 12
    · replace hr := gIf_t c10 hr
      refine g_catch (a := 0) (b := 10) (hp := 13) (ct := 29) X hxc hxt (pre := []) (suf := []) rfl gPs_0 (by decide) (by decide) (j := 12) c10 q1147 ?_
      refine lv_astore (lv' := [(4, .ref q4.2), (0, .ref z0), (1, .int z1), (2, .int z2), (3, .ref z3)]) hx hb dX0_value_13 hl (by decide) rfl (fun ls hl => ?_)
      refine lv_iconst (v := 1) hx hb dX0_value_15 (by decide) ?_
      have hr := gS_i hr
      subst hr
      exact g_xiret X hI rfl (show (0 + 6) ≤ 6 from by omega) (show (0 + 31) ≤ 31 from by omega) dX0_value_16
    replace hr := gIf_f c10 hr
    have hr := gS_i hr
    subst hr
    exact g_xout X hI hxc hxt (gPs_c (Or.inr ⟨by decide, 12, by decide, c10, q1147⟩) gPs_0) (show (0 + 6) ≤ 6 from by omega) (show (0 + 31) ≤ 31 from by omega)
abbrev rm_X0_owner : Room := { frames := 10, cells := 1, slots := 6, locals := 202 }
theorem hd_X0_owner : yX0_owner.cls ≠ "java/lang/invoke/MethodHandle" ∧ yX0_owner.cls ≠ "java/lang/invoke/VarHandle" ∧ (parseMethodDescriptor yX0_owner.desc).map (fun d => d.parameters.length) = some 3 := by decide +kernel
set_option maxHeartbeats 2000000 in
theorem w_X0_owner {l : Launch} {x : gV} {base : Nat} (hst : l.stackTraces = false) {z0 : Nat} {z1 : Int32} {z2 : Nat} {h : gH} {n : Nat} {res : (Int32 ⊕ gX) × gH × Nat} (hr : f_X0_owner z0 z1 z2 h n = some res) : gMX l yX0_owner (wsW_ yX0_owner cX0_owner 4 (some .int) [(0, 9, 12, 29)]) rm_X0_owner x base (fun v => some (.int v)) [.ref z0, .int z1, .ref z2] h n res 1 6 := by
  refine g_metW (cc := cX0_owner) (nL := 4) (ret := (some .int)) (by decide) (Nat.le_of_ble_eq_true rfl) (fun p e s m below meth c ls X hnm hxt hl hI => ?_)
  have hl : lv_has ls 4 [(0, .ref z0), (1, .int z1), (2, .ref z2)] := hl
  have hx := X.1
  have hb := X.2.1
  have hcc : 0 + 1 ≤ 1 ∧ 0 + 6 ≤ 6 := ⟨Nat.le_refl _, Nat.le_refl _⟩
  unfold f_X0_owner at hr
  refine lv_aload_n hx hb dX0_owner_0 rfl (lv_at hl 2 rfl) ?_
  refine lv_iconst (v := 0) hx hb dX0_owner_1 (by decide) ?_
  refine lv_aload_n hx hb dX0_owner_2 rfl (lv_at hl 0 rfl) ?_
  refine lv_iload_n hx hb dX0_owner_3 rfl (lv_at hl 1 rfl) ?_
  obtain ⟨_, ho1, hr⟩ := gB_i hr
  rcases gTX_i hr with ⟨v3, h5, n6, hc2, hr⟩ | ⟨q4, h7, n8, hc2, hr⟩
  · refine gXRet_i (g_xrunV X hI (w_X1_owner hst hc2) ho1 rfl hl (lw_V q1218 q1219 q1220 q96 q1221) rfl rfl hd_X1_owner ⟨Nat.le_of_ble_eq_true rfl, Nat.le_of_ble_eq_true rfl⟩ (as := [.int z1]) (rest := [.int (0 : Int32), .ref z2]) rfl rfl (Nat.le_of_ble_eq_true rfl) ⟨(show 0 + 1 ≤ 1 from by omega), (show 0 + 6 ≤ 6 from by omega)⟩ dX0_owner_4) (fun H locs hI => ?_)
    refine lv_i2l hx hb dX0_owner_7 rfl ?_
    refine g_last X hI hr dX0_owner_8 (fun h9 H locs hI hr => ?_)
    refine lv_goto (tgt := 15) hx hb dX0_owner_9 (by decide) ?_
    refine lv_iconst (v := 0) hx hb dX0_owner_15 (by decide) ?_
    have hr := gS_i hr
    subst hr
    exact g_xiret X hI rfl (show (0 + 1) ≤ 1 from by omega) (show (0 + 6) ≤ 6 from by omega) dX0_owner_16
  · refine gXThr (k := q4.1) (q := q4.2) (g_xrunV X hI (w_X1_owner hst hc2) ho1 rfl hl (lw_V q1218 q1219 q1220 q96 q1221) rfl rfl hd_X1_owner ⟨Nat.le_of_ble_eq_true rfl, Nat.le_of_ble_eq_true rfl⟩ (as := [.int z1]) (rest := [.int (0 : Int32), .ref z2]) rfl rfl (Nat.le_of_ble_eq_true rfl) ⟨(show 0 + 1 ≤ 1 from by omega), (show 0 + 6 ≤ 6 from by omega)⟩ dX0_owner_4) (fun H locs hI hxc => ?_)
    by_cases c10 : q4.1 = 12
    · replace hr := gIf_t c10 hr
      refine g_catch (a := 0) (b := 9) (hp := 12) (ct := 29) X hxc hxt (pre := []) (suf := []) rfl gPs_0 (by decide) (by decide) (j := 12) c10 q1147 ?_
      refine lv_astore_n (lv' := [(3, .ref q4.2), (0, .ref z0), (1, .int z1), (2, .ref z2)]) hx hb dX0_owner_12 rfl hl (by decide) rfl (fun ls hl => ?_)
      refine lv_iconst (v := 1) hx hb dX0_owner_13 (by decide) ?_
      have hr := gS_i hr
      subst hr
      exact g_xiret X hI rfl (show (0 + 1) ≤ 1 from by omega) (show (0 + 6) ≤ 6 from by omega) dX0_owner_14
    replace hr := gIf_f c10 hr
    have hr := gS_i hr
    subst hr
    exact g_xout X hI hxc hxt (gPs_c (Or.inr ⟨by decide, 12, by decide, c10, q1147⟩) gPs_0) (show (0 + 1) ≤ 1 from by omega) (show (0 + 6) ≤ 6 from by omega)
abbrev rm_X0_worth : Room := { frames := 12, cells := 6, slots := 31, locals := 248 }
theorem hd_X0_worth : yX0_worth.cls ≠ "java/lang/invoke/MethodHandle" ∧ yX0_worth.cls ≠ "java/lang/invoke/VarHandle" ∧ (parseMethodDescriptor yX0_worth.desc).map (fun d => d.parameters.length) = some 5 := by decide +kernel
set_option maxHeartbeats 2000000 in
theorem w_X0_worth {l : Launch} {x : gV} {base : Nat} (hst : l.stackTraces = false) {z0 : Nat} {z1 : Int32} {z2 : Int32} {z3 : Int32} {z4 : Nat} {h : gH} {n : Nat} {res : (Int32 ⊕ gX) × gH × Nat} (hr : f_X0_worth z0 z1 z2 z3 z4 h n = some res) : gMX l yX0_worth (wsW_ yX0_worth cX0_worth 6 (some .int) [(0, 12, 15, 29), (0, 12, 19, 19)]) rm_X0_worth x base (fun v => some (.int v)) [.ref z0, .int z1, .int z2, .int z3, .ref z4] h n res 6 31 := by
  refine g_metW (cc := cX0_worth) (nL := 6) (ret := (some .int)) (by decide) (Nat.le_of_ble_eq_true rfl) (fun p e s m below meth c ls X hnm hxt hl hI => ?_)
  have hl : lv_has ls 6 [(0, .ref z0), (1, .int z1), (2, .int z2), (3, .int z3), (4, .ref z4)] := hl
  have hx := X.1
  have hb := X.2.1
  have hcc : 0 + 6 ≤ 6 ∧ 0 + 31 ≤ 31 := ⟨Nat.le_refl _, Nat.le_refl _⟩
  unfold f_X0_worth at hr
  refine lv_aload hx hb dX0_worth_0 (lv_at hl 4 rfl) ?_
  refine lv_iconst (v := 0) hx hb dX0_worth_2 (by decide) ?_
  refine lv_aload_n hx hb dX0_worth_3 rfl (lv_at hl 0 rfl) ?_
  refine lv_iload_n hx hb dX0_worth_4 rfl (lv_at hl 1 rfl) ?_
  refine lv_iload_n hx hb dX0_worth_5 rfl (lv_at hl 2 rfl) ?_
  refine lv_iload_n hx hb dX0_worth_6 rfl (lv_at hl 3 rfl) ?_
  obtain ⟨_, ho1, hr⟩ := gB_i hr
  rcases gTX_i hr with ⟨v3, h5, n6, hc2, hr⟩ | ⟨q4, h7, n8, hc2, hr⟩
  · refine gXRet_i (g_xrunV X hI (w_X1_worth hst hc2) ho1 rfl hl (lw_V q1225 q1226 q1227 q96 q1228) rfl rfl hd_X1_worth ⟨Nat.le_of_ble_eq_true rfl, Nat.le_of_ble_eq_true rfl⟩ (as := [.int z1, .int z2, .int z3]) (rest := [.int (0 : Int32), .ref z4]) rfl rfl (Nat.le_of_ble_eq_true rfl) ⟨(show 0 + 6 ≤ 6 from by omega), (show 0 + 31 ≤ 31 from by omega)⟩ dX0_worth_7) (fun H locs hI => ?_)
    refine lv_i2l hx hb dX0_worth_10 rfl ?_
    refine g_last X hI hr dX0_worth_11 (fun h9 H locs hI hr => ?_)
    refine lv_goto (tgt := 23) hx hb dX0_worth_12 (by decide) ?_
    refine lv_iconst (v := 0) hx hb dX0_worth_23 (by decide) ?_
    have hr := gS_i hr
    subst hr
    exact g_xiret X hI rfl (show (0 + 6) ≤ 6 from by omega) (show (0 + 31) ≤ 31 from by omega) dX0_worth_24
  · refine gXThr (k := q4.1) (q := q4.2) (g_xrunV X hI (w_X1_worth hst hc2) ho1 rfl hl (lw_V q1225 q1226 q1227 q96 q1228) rfl rfl hd_X1_worth ⟨Nat.le_of_ble_eq_true rfl, Nat.le_of_ble_eq_true rfl⟩ (as := [.int z1, .int z2, .int z3]) (rest := [.int (0 : Int32), .ref z4]) rfl rfl (Nat.le_of_ble_eq_true rfl) ⟨(show 0 + 6 ≤ 6 from by omega), (show 0 + 31 ≤ 31 from by omega)⟩ dX0_worth_7) (fun H locs hI hxc => ?_)
    by_cases c10 : q4.1 = 12
    · replace hr := gIf_t c10 hr
      refine g_catch (a := 0) (b := 12) (hp := 15) (ct := 29) X hxc hxt (pre := []) (suf := [(0, 12, 19, 19)]) rfl gPs_0 (by decide) (by decide) (j := 12) c10 q1147 ?_
      refine lv_astore (lv' := [(5, .ref q4.2), (0, .ref z0), (1, .int z1), (2, .int z2), (3, .int z3), (4, .ref z4)]) hx hb dX0_worth_15 hl (by decide) rfl (fun ls hl => ?_)
      refine lv_iconst (v := 1) hx hb dX0_worth_17 (by decide) ?_
      have hr := gS_i hr
      subst hr
      exact g_xiret X hI rfl (show (0 + 6) ≤ 6 from by omega) (show (0 + 31) ≤ 31 from by omega) dX0_worth_18
    replace hr := gIf_f c10 hr
    by_cases c11 : q4.1 = 11
    · replace hr := gIf_t c11 hr
      refine g_catch (a := 0) (b := 12) (hp := 19) (ct := 19) X hxc hxt (pre := [(0, 12, 15, 29)]) (suf := []) rfl (gPs_c (Or.inr ⟨by decide, 12, by decide, c10, q1147⟩) gPs_0) (by decide) (by decide) (j := 11) c11 q1116 ?_
      refine lv_astore (lv' := [(5, .ref q4.2), (0, .ref z0), (1, .int z1), (2, .int z2), (3, .int z3), (4, .ref z4)]) hx hb dX0_worth_19 hl (by decide) rfl (fun ls hl => ?_)
      refine lv_iconst (v := 2) hx hb dX0_worth_21 (by decide) ?_
      have hr := gS_i hr
      subst hr
      exact g_xiret X hI rfl (show (0 + 6) ≤ 6 from by omega) (show (0 + 31) ≤ 31 from by omega) dX0_worth_22
    replace hr := gIf_f c11 hr
    have hr := gS_i hr
    subst hr
    exact g_xout X hI hxc hxt (gPs_c (Or.inr ⟨by decide, 12, by decide, c10, q1147⟩) (gPs_c (Or.inr ⟨by decide, 11, by decide, c11, q1116⟩) gPs_0)) (show (0 + 6) ≤ 6 from by omega) (show (0 + 31) ≤ 31 from by omega)
abbrev rm_X0_total : Room := { frames := 12, cells := 5, slots := 25, locals := 245 }
theorem hd_X0_total : yX0_total.cls ≠ "java/lang/invoke/MethodHandle" ∧ yX0_total.cls ≠ "java/lang/invoke/VarHandle" ∧ (parseMethodDescriptor yX0_total.desc).map (fun d => d.parameters.length) = some 3 := by decide +kernel
set_option maxHeartbeats 2000000 in
theorem w_X0_total {l : Launch} {x : gV} {base : Nat} (hst : l.stackTraces = false) {z0 : Nat} {z1 : Int32} {z2 : Nat} {h : gH} {n : Nat} {res : (Int32 ⊕ gX) × gH × Nat} (hr : f_X0_total z0 z1 z2 h n = some res) : gMX l yX0_total (wsW_ yX0_total cX0_total 4 (some .int) [(0, 9, 12, 29)]) rm_X0_total x base (fun v => some (.int v)) [.ref z0, .int z1, .ref z2] h n res 5 25 := by
  refine g_metW (cc := cX0_total) (nL := 4) (ret := (some .int)) (by decide) (Nat.le_of_ble_eq_true rfl) (fun p e s m below meth c ls X hnm hxt hl hI => ?_)
  have hl : lv_has ls 4 [(0, .ref z0), (1, .int z1), (2, .ref z2)] := hl
  have hx := X.1
  have hb := X.2.1
  have hcc : 0 + 5 ≤ 5 ∧ 0 + 25 ≤ 25 := ⟨Nat.le_refl _, Nat.le_refl _⟩
  unfold f_X0_total at hr
  refine lv_aload_n hx hb dX0_total_0 rfl (lv_at hl 2 rfl) ?_
  refine lv_iconst (v := 0) hx hb dX0_total_1 (by decide) ?_
  refine lv_aload_n hx hb dX0_total_2 rfl (lv_at hl 0 rfl) ?_
  refine lv_iload_n hx hb dX0_total_3 rfl (lv_at hl 1 rfl) ?_
  obtain ⟨_, ho1, hr⟩ := gB_i hr
  rcases gTX_i hr with ⟨v3, h5, n6, hc2, hr⟩ | ⟨q4, h7, n8, hc2, hr⟩
  · refine gXRet_i (g_xrunV X hI (w_X1_total hst hc2) ho1 rfl hl (lw_V q1243 q1244 q1245 q96 q1246) rfl rfl hd_X1_total ⟨Nat.le_of_ble_eq_true rfl, Nat.le_of_ble_eq_true rfl⟩ (as := [.int z1]) (rest := [.int (0 : Int32), .ref z2]) rfl rfl (Nat.le_of_ble_eq_true rfl) ⟨(show 0 + 5 ≤ 5 from by omega), (show 0 + 25 ≤ 25 from by omega)⟩ dX0_total_4) (fun H locs hI => ?_)
    refine lv_i2l hx hb dX0_total_7 rfl ?_
    refine g_last X hI hr dX0_total_8 (fun h9 H locs hI hr => ?_)
    refine lv_goto (tgt := 15) hx hb dX0_total_9 (by decide) ?_
    refine lv_iconst (v := 0) hx hb dX0_total_15 (by decide) ?_
    have hr := gS_i hr
    subst hr
    exact g_xiret X hI rfl (show (0 + 5) ≤ 5 from by omega) (show (0 + 25) ≤ 25 from by omega) dX0_total_16
  · refine gXThr (k := q4.1) (q := q4.2) (g_xrunV X hI (w_X1_total hst hc2) ho1 rfl hl (lw_V q1243 q1244 q1245 q96 q1246) rfl rfl hd_X1_total ⟨Nat.le_of_ble_eq_true rfl, Nat.le_of_ble_eq_true rfl⟩ (as := [.int z1]) (rest := [.int (0 : Int32), .ref z2]) rfl rfl (Nat.le_of_ble_eq_true rfl) ⟨(show 0 + 5 ≤ 5 from by omega), (show 0 + 25 ≤ 25 from by omega)⟩ dX0_total_4) (fun H locs hI hxc => ?_)
    by_cases c10 : q4.1 = 12
    · replace hr := gIf_t c10 hr
      refine g_catch (a := 0) (b := 9) (hp := 12) (ct := 29) X hxc hxt (pre := []) (suf := []) rfl gPs_0 (by decide) (by decide) (j := 12) c10 q1147 ?_
      refine lv_astore_n (lv' := [(3, .ref q4.2), (0, .ref z0), (1, .int z1), (2, .ref z2)]) hx hb dX0_total_12 rfl hl (by decide) rfl (fun ls hl => ?_)
      refine lv_iconst (v := 1) hx hb dX0_total_13 (by decide) ?_
      have hr := gS_i hr
      subst hr
      exact g_xiret X hI rfl (show (0 + 5) ≤ 5 from by omega) (show (0 + 25) ≤ 25 from by omega) dX0_total_14
    replace hr := gIf_f c10 hr
    have hr := gS_i hr
    subst hr
    exact g_xout X hI hxc hxt (gPs_c (Or.inr ⟨by decide, 12, by decide, c10, q1147⟩) gPs_0) (show (0 + 5) ≤ 5 from by omega) (show (0 + 25) ≤ 25 from by omega)
abbrev rm_X0_worthOfShare : Room := { frames := 11, cells := 5, slots := 26, locals := 225 }
theorem hd_X0_worthOfShare : yX0_worthOfShare.cls ≠ "java/lang/invoke/MethodHandle" ∧ yX0_worthOfShare.cls ≠ "java/lang/invoke/VarHandle" ∧ (parseMethodDescriptor yX0_worthOfShare.desc).map (fun d => d.parameters.length) = some 4 := by decide +kernel
set_option maxHeartbeats 2000000 in
theorem w_X0_worthOfShare {l : Launch} {x : gV} {base : Nat} (hst : l.stackTraces = false) {z0 : Nat} {z1 : Int32} {z2 : Int32} {z3 : Nat} {h : gH} {n : Nat} {res : (Int32 ⊕ gX) × gH × Nat} (hr : f_X0_worthOfShare z0 z1 z2 z3 h n = some res) : gMX l yX0_worthOfShare (wsW_ yX0_worthOfShare cX0_worthOfShare 5 (some .int) [(0, 10, 13, 29)]) rm_X0_worthOfShare x base (fun v => some (.int v)) [.ref z0, .int z1, .int z2, .ref z3] h n res 5 26 := by
  refine g_metW (cc := cX0_worthOfShare) (nL := 5) (ret := (some .int)) (by decide) (Nat.le_of_ble_eq_true rfl) (fun p e s m below meth c ls X hnm hxt hl hI => ?_)
  have hl : lv_has ls 5 [(0, .ref z0), (1, .int z1), (2, .int z2), (3, .ref z3)] := hl
  have hx := X.1
  have hb := X.2.1
  have hcc : 0 + 5 ≤ 5 ∧ 0 + 26 ≤ 26 := ⟨Nat.le_refl _, Nat.le_refl _⟩
  unfold f_X0_worthOfShare at hr
  refine lv_aload_n hx hb dX0_worthOfShare_0 rfl (lv_at hl 3 rfl) ?_
  refine lv_iconst (v := 0) hx hb dX0_worthOfShare_1 (by decide) ?_
  refine lv_aload_n hx hb dX0_worthOfShare_2 rfl (lv_at hl 0 rfl) ?_
  refine lv_iload_n hx hb dX0_worthOfShare_3 rfl (lv_at hl 1 rfl) ?_
  refine lv_iload_n hx hb dX0_worthOfShare_4 rfl (lv_at hl 2 rfl) ?_
  obtain ⟨_, ho1, hr⟩ := gB_i hr
  rcases gTX_i hr with ⟨v3, h5, n6, hc2, hr⟩ | ⟨q4, h7, n8, hc2, hr⟩
  · refine gXRet_i (g_xrunV X hI (w_X1_worthOfShare hst hc2) ho1 rfl hl (lw_V q1251 q1252 q1253 q96 q1254) rfl rfl hd_X1_worthOfShare ⟨Nat.le_of_ble_eq_true rfl, Nat.le_of_ble_eq_true rfl⟩ (as := [.int z1, .int z2]) (rest := [.int (0 : Int32), .ref z3]) rfl rfl (Nat.le_of_ble_eq_true rfl) ⟨(show 0 + 5 ≤ 5 from by omega), (show 0 + 26 ≤ 26 from by omega)⟩ dX0_worthOfShare_5) (fun H locs hI => ?_)
    refine lv_i2l hx hb dX0_worthOfShare_8 rfl ?_
    refine g_last X hI hr dX0_worthOfShare_9 (fun h9 H locs hI hr => ?_)
    refine lv_goto (tgt := 17) hx hb dX0_worthOfShare_10 (by decide) ?_
    refine lv_iconst (v := 0) hx hb dX0_worthOfShare_17 (by decide) ?_
    have hr := gS_i hr
    subst hr
    exact g_xiret X hI rfl (show (0 + 5) ≤ 5 from by omega) (show (0 + 26) ≤ 26 from by omega) dX0_worthOfShare_18
  · refine gXThr (k := q4.1) (q := q4.2) (g_xrunV X hI (w_X1_worthOfShare hst hc2) ho1 rfl hl (lw_V q1251 q1252 q1253 q96 q1254) rfl rfl hd_X1_worthOfShare ⟨Nat.le_of_ble_eq_true rfl, Nat.le_of_ble_eq_true rfl⟩ (as := [.int z1, .int z2]) (rest := [.int (0 : Int32), .ref z3]) rfl rfl (Nat.le_of_ble_eq_true rfl) ⟨(show 0 + 5 ≤ 5 from by omega), (show 0 + 26 ≤ 26 from by omega)⟩ dX0_worthOfShare_5) (fun H locs hI hxc => ?_)
    by_cases c10 : q4.1 = 12
    · replace hr := gIf_t c10 hr
      refine g_catch (a := 0) (b := 10) (hp := 13) (ct := 29) X hxc hxt (pre := []) (suf := []) rfl gPs_0 (by decide) (by decide) (j := 12) c10 q1147 ?_
      refine lv_astore (lv' := [(4, .ref q4.2), (0, .ref z0), (1, .int z1), (2, .int z2), (3, .ref z3)]) hx hb dX0_worthOfShare_13 hl (by decide) rfl (fun ls hl => ?_)
      refine lv_iconst (v := 1) hx hb dX0_worthOfShare_15 (by decide) ?_
      have hr := gS_i hr
      subst hr
      exact g_xiret X hI rfl (show (0 + 5) ≤ 5 from by omega) (show (0 + 26) ≤ 26 from by omega) dX0_worthOfShare_16
    replace hr := gIf_f c10 hr
    have hr := gS_i hr
    subst hr
    exact g_xout X hI hxc hxt (gPs_c (Or.inr ⟨by decide, 12, by decide, c10, q1147⟩) gPs_0) (show (0 + 5) ≤ 5 from by omega) (show (0 + 26) ≤ 26 from by omega)
abbrev rm_X0_shareSize : Room := { frames := 11, cells := 5, slots := 25, locals := 224 }
theorem hd_X0_shareSize : yX0_shareSize.cls ≠ "java/lang/invoke/MethodHandle" ∧ yX0_shareSize.cls ≠ "java/lang/invoke/VarHandle" ∧ (parseMethodDescriptor yX0_shareSize.desc).map (fun d => d.parameters.length) = some 3 := by decide +kernel
set_option maxHeartbeats 2000000 in
theorem w_X0_shareSize {l : Launch} {x : gV} {base : Nat} (hst : l.stackTraces = false) {z0 : Nat} {z1 : Int32} {z2 : Nat} {h : gH} {n : Nat} {res : (Int32 ⊕ gX) × gH × Nat} (hr : f_X0_shareSize z0 z1 z2 h n = some res) : gMX l yX0_shareSize (wsW_ yX0_shareSize cX0_shareSize 4 (some .int) [(0, 9, 12, 29)]) rm_X0_shareSize x base (fun v => some (.int v)) [.ref z0, .int z1, .ref z2] h n res 5 25 := by
  refine g_metW (cc := cX0_shareSize) (nL := 4) (ret := (some .int)) (by decide) (Nat.le_of_ble_eq_true rfl) (fun p e s m below meth c ls X hnm hxt hl hI => ?_)
  have hl : lv_has ls 4 [(0, .ref z0), (1, .int z1), (2, .ref z2)] := hl
  have hx := X.1
  have hb := X.2.1
  have hcc : 0 + 5 ≤ 5 ∧ 0 + 25 ≤ 25 := ⟨Nat.le_refl _, Nat.le_refl _⟩
  unfold f_X0_shareSize at hr
  refine lv_aload_n hx hb dX0_shareSize_0 rfl (lv_at hl 2 rfl) ?_
  refine lv_iconst (v := 0) hx hb dX0_shareSize_1 (by decide) ?_
  refine lv_aload_n hx hb dX0_shareSize_2 rfl (lv_at hl 0 rfl) ?_
  refine lv_iload_n hx hb dX0_shareSize_3 rfl (lv_at hl 1 rfl) ?_
  obtain ⟨_, ho1, hr⟩ := gB_i hr
  rcases gTX_i hr with ⟨v3, h5, n6, hc2, hr⟩ | ⟨q4, h7, n8, hc2, hr⟩
  · refine gXRet_i (g_xrunV X hI (w_X1_shareSize hst hc2) ho1 rfl hl (lw_V q1259 q1260 q1261 q96 q1262) rfl rfl hd_X1_shareSize ⟨Nat.le_of_ble_eq_true rfl, Nat.le_of_ble_eq_true rfl⟩ (as := [.int z1]) (rest := [.int (0 : Int32), .ref z2]) rfl rfl (Nat.le_of_ble_eq_true rfl) ⟨(show 0 + 5 ≤ 5 from by omega), (show 0 + 25 ≤ 25 from by omega)⟩ dX0_shareSize_4) (fun H locs hI => ?_)
    refine lv_i2l hx hb dX0_shareSize_7 rfl ?_
    refine g_last X hI hr dX0_shareSize_8 (fun h9 H locs hI hr => ?_)
    refine lv_goto (tgt := 15) hx hb dX0_shareSize_9 (by decide) ?_
    refine lv_iconst (v := 0) hx hb dX0_shareSize_15 (by decide) ?_
    have hr := gS_i hr
    subst hr
    exact g_xiret X hI rfl (show (0 + 5) ≤ 5 from by omega) (show (0 + 25) ≤ 25 from by omega) dX0_shareSize_16
  · refine gXThr (k := q4.1) (q := q4.2) (g_xrunV X hI (w_X1_shareSize hst hc2) ho1 rfl hl (lw_V q1259 q1260 q1261 q96 q1262) rfl rfl hd_X1_shareSize ⟨Nat.le_of_ble_eq_true rfl, Nat.le_of_ble_eq_true rfl⟩ (as := [.int z1]) (rest := [.int (0 : Int32), .ref z2]) rfl rfl (Nat.le_of_ble_eq_true rfl) ⟨(show 0 + 5 ≤ 5 from by omega), (show 0 + 25 ≤ 25 from by omega)⟩ dX0_shareSize_4) (fun H locs hI hxc => ?_)
    by_cases c10 : q4.1 = 12
    · replace hr := gIf_t c10 hr
      refine g_catch (a := 0) (b := 9) (hp := 12) (ct := 29) X hxc hxt (pre := []) (suf := []) rfl gPs_0 (by decide) (by decide) (j := 12) c10 q1147 ?_
      refine lv_astore_n (lv' := [(3, .ref q4.2), (0, .ref z0), (1, .int z1), (2, .ref z2)]) hx hb dX0_shareSize_12 rfl hl (by decide) rfl (fun ls hl => ?_)
      refine lv_iconst (v := 1) hx hb dX0_shareSize_13 (by decide) ?_
      have hr := gS_i hr
      subst hr
      exact g_xiret X hI rfl (show (0 + 5) ≤ 5 from by omega) (show (0 + 25) ≤ 25 from by omega) dX0_shareSize_14
    replace hr := gIf_f c10 hr
    have hr := gS_i hr
    subst hr
    exact g_xout X hI hxc hxt (gPs_c (Or.inr ⟨by decide, 12, by decide, c10, q1147⟩) gPs_0) (show (0 + 5) ≤ 5 from by omega) (show (0 + 25) ≤ 25 from by omega)
abbrev rm_X0_pieceCount : Room := { frames := 11, cells := 5, slots := 25, locals := 224 }
theorem hd_X0_pieceCount : yX0_pieceCount.cls ≠ "java/lang/invoke/MethodHandle" ∧ yX0_pieceCount.cls ≠ "java/lang/invoke/VarHandle" ∧ (parseMethodDescriptor yX0_pieceCount.desc).map (fun d => d.parameters.length) = some 3 := by decide +kernel
set_option maxHeartbeats 2000000 in
theorem w_X0_pieceCount {l : Launch} {x : gV} {base : Nat} (hst : l.stackTraces = false) {z0 : Nat} {z1 : Int32} {z2 : Nat} {h : gH} {n : Nat} {res : (Int32 ⊕ gX) × gH × Nat} (hr : f_X0_pieceCount z0 z1 z2 h n = some res) : gMX l yX0_pieceCount (wsW_ yX0_pieceCount cX0_pieceCount 4 (some .int) [(0, 9, 12, 29)]) rm_X0_pieceCount x base (fun v => some (.int v)) [.ref z0, .int z1, .ref z2] h n res 5 25 := by
  refine g_metW (cc := cX0_pieceCount) (nL := 4) (ret := (some .int)) (by decide) (Nat.le_of_ble_eq_true rfl) (fun p e s m below meth c ls X hnm hxt hl hI => ?_)
  have hl : lv_has ls 4 [(0, .ref z0), (1, .int z1), (2, .ref z2)] := hl
  have hx := X.1
  have hb := X.2.1
  have hcc : 0 + 5 ≤ 5 ∧ 0 + 25 ≤ 25 := ⟨Nat.le_refl _, Nat.le_refl _⟩
  unfold f_X0_pieceCount at hr
  refine lv_aload_n hx hb dX0_pieceCount_0 rfl (lv_at hl 2 rfl) ?_
  refine lv_iconst (v := 0) hx hb dX0_pieceCount_1 (by decide) ?_
  refine lv_aload_n hx hb dX0_pieceCount_2 rfl (lv_at hl 0 rfl) ?_
  refine lv_iload_n hx hb dX0_pieceCount_3 rfl (lv_at hl 1 rfl) ?_
  obtain ⟨_, ho1, hr⟩ := gB_i hr
  rcases gTX_i hr with ⟨v3, h5, n6, hc2, hr⟩ | ⟨q4, h7, n8, hc2, hr⟩
  · refine gXRet_i (g_xrunV X hI (w_X1_pieceCount hst hc2) ho1 rfl hl (lw_V q1266 q1267 q1268 q96 q1269) rfl rfl hd_X1_pieceCount ⟨Nat.le_of_ble_eq_true rfl, Nat.le_of_ble_eq_true rfl⟩ (as := [.int z1]) (rest := [.int (0 : Int32), .ref z2]) rfl rfl (Nat.le_of_ble_eq_true rfl) ⟨(show 0 + 5 ≤ 5 from by omega), (show 0 + 25 ≤ 25 from by omega)⟩ dX0_pieceCount_4) (fun H locs hI => ?_)
    refine lv_i2l hx hb dX0_pieceCount_7 rfl ?_
    refine g_last X hI hr dX0_pieceCount_8 (fun h9 H locs hI hr => ?_)
    refine lv_goto (tgt := 15) hx hb dX0_pieceCount_9 (by decide) ?_
    refine lv_iconst (v := 0) hx hb dX0_pieceCount_15 (by decide) ?_
    have hr := gS_i hr
    subst hr
    exact g_xiret X hI rfl (show (0 + 5) ≤ 5 from by omega) (show (0 + 25) ≤ 25 from by omega) dX0_pieceCount_16
  · refine gXThr (k := q4.1) (q := q4.2) (g_xrunV X hI (w_X1_pieceCount hst hc2) ho1 rfl hl (lw_V q1266 q1267 q1268 q96 q1269) rfl rfl hd_X1_pieceCount ⟨Nat.le_of_ble_eq_true rfl, Nat.le_of_ble_eq_true rfl⟩ (as := [.int z1]) (rest := [.int (0 : Int32), .ref z2]) rfl rfl (Nat.le_of_ble_eq_true rfl) ⟨(show 0 + 5 ≤ 5 from by omega), (show 0 + 25 ≤ 25 from by omega)⟩ dX0_pieceCount_4) (fun H locs hI hxc => ?_)
    by_cases c10 : q4.1 = 12
    · replace hr := gIf_t c10 hr
      refine g_catch (a := 0) (b := 9) (hp := 12) (ct := 29) X hxc hxt (pre := []) (suf := []) rfl gPs_0 (by decide) (by decide) (j := 12) c10 q1147 ?_
      refine lv_astore_n (lv' := [(3, .ref q4.2), (0, .ref z0), (1, .int z1), (2, .ref z2)]) hx hb dX0_pieceCount_12 rfl hl (by decide) rfl (fun ls hl => ?_)
      refine lv_iconst (v := 1) hx hb dX0_pieceCount_13 (by decide) ?_
      have hr := gS_i hr
      subst hr
      exact g_xiret X hI rfl (show (0 + 5) ≤ 5 from by omega) (show (0 + 25) ≤ 25 from by omega) dX0_pieceCount_14
    replace hr := gIf_f c10 hr
    have hr := gS_i hr
    subst hr
    exact g_xout X hI hxc hxt (gPs_c (Or.inr ⟨by decide, 12, by decide, c10, q1147⟩) gPs_0) (show (0 + 5) ≤ 5 from by omega) (show (0 + 25) ≤ 25 from by omega)
abbrev rm_X0_mark : Room := { frames := 12, cells := 7, slots := 37, locals := 248 }
theorem hd_X0_mark : yX0_mark.cls ≠ "java/lang/invoke/MethodHandle" ∧ yX0_mark.cls ≠ "java/lang/invoke/VarHandle" ∧ (parseMethodDescriptor yX0_mark.desc).map (fun d => d.parameters.length) = some 5 := by decide +kernel
set_option maxHeartbeats 2000000 in
theorem w_X0_mark {l : Launch} {x : gV} {base : Nat} (hst : l.stackTraces = false) {z0 : Nat} {z1 : Int32} {z2 : Int32} {z3 : Int32} {z4 : Nat} {h : gH} {n : Nat} {res : (Int32 ⊕ gX) × gH × Nat} (hr : f_X0_mark z0 z1 z2 z3 z4 h n = some res) : gMX l yX0_mark (wsW_ yX0_mark cX0_mark 6 (some .int) [(0, 12, 15, 29), (0, 12, 19, 19)]) rm_X0_mark x base (fun v => some (.int v)) [.ref z0, .int z1, .int z2, .int z3, .ref z4] h n res 7 37 := by
  refine g_metW (cc := cX0_mark) (nL := 6) (ret := (some .int)) (by decide) (Nat.le_of_ble_eq_true rfl) (fun p e s m below meth c ls X hnm hxt hl hI => ?_)
  have hl : lv_has ls 6 [(0, .ref z0), (1, .int z1), (2, .int z2), (3, .int z3), (4, .ref z4)] := hl
  have hx := X.1
  have hb := X.2.1
  have hcc : 0 + 7 ≤ 7 ∧ 0 + 37 ≤ 37 := ⟨Nat.le_refl _, Nat.le_refl _⟩
  unfold f_X0_mark at hr
  refine lv_aload hx hb dX0_mark_0 (lv_at hl 4 rfl) ?_
  refine lv_iconst (v := 0) hx hb dX0_mark_2 (by decide) ?_
  refine lv_aload_n hx hb dX0_mark_3 rfl (lv_at hl 0 rfl) ?_
  refine lv_iload_n hx hb dX0_mark_4 rfl (lv_at hl 1 rfl) ?_
  refine lv_iload_n hx hb dX0_mark_5 rfl (lv_at hl 2 rfl) ?_
  refine lv_iload_n hx hb dX0_mark_6 rfl (lv_at hl 3 rfl) ?_
  obtain ⟨_, ho1, hr⟩ := gB_i hr
  rcases gTX_i hr with ⟨v3, h5, n6, hc2, hr⟩ | ⟨q4, h7, n8, hc2, hr⟩
  · refine gXRet_i (g_xrunV X hI (w_X1_mark hst hc2) ho1 rfl hl (lw_V q1273 q1274 q1275 q96 q1276) rfl rfl hd_X1_mark ⟨Nat.le_of_ble_eq_true rfl, Nat.le_of_ble_eq_true rfl⟩ (as := [.int z1, .int z2, .int z3]) (rest := [.int (0 : Int32), .ref z4]) rfl rfl (Nat.le_of_ble_eq_true rfl) ⟨(show 0 + 7 ≤ 7 from by omega), (show 0 + 37 ≤ 37 from by omega)⟩ dX0_mark_7) (fun H locs hI => ?_)
    refine lv_i2l hx hb dX0_mark_10 rfl ?_
    refine g_last X hI hr dX0_mark_11 (fun h9 H locs hI hr => ?_)
    refine lv_goto (tgt := 23) hx hb dX0_mark_12 (by decide) ?_
    refine lv_iconst (v := 0) hx hb dX0_mark_23 (by decide) ?_
    have hr := gS_i hr
    subst hr
    exact g_xiret X hI rfl (show (0 + 7) ≤ 7 from by omega) (show (0 + 37) ≤ 37 from by omega) dX0_mark_24
  · refine gXThr (k := q4.1) (q := q4.2) (g_xrunV X hI (w_X1_mark hst hc2) ho1 rfl hl (lw_V q1273 q1274 q1275 q96 q1276) rfl rfl hd_X1_mark ⟨Nat.le_of_ble_eq_true rfl, Nat.le_of_ble_eq_true rfl⟩ (as := [.int z1, .int z2, .int z3]) (rest := [.int (0 : Int32), .ref z4]) rfl rfl (Nat.le_of_ble_eq_true rfl) ⟨(show 0 + 7 ≤ 7 from by omega), (show 0 + 37 ≤ 37 from by omega)⟩ dX0_mark_7) (fun H locs hI hxc => ?_)
    by_cases c10 : q4.1 = 12
    · replace hr := gIf_t c10 hr
      refine g_catch (a := 0) (b := 12) (hp := 15) (ct := 29) X hxc hxt (pre := []) (suf := [(0, 12, 19, 19)]) rfl gPs_0 (by decide) (by decide) (j := 12) c10 q1147 ?_
      refine lv_astore (lv' := [(5, .ref q4.2), (0, .ref z0), (1, .int z1), (2, .int z2), (3, .int z3), (4, .ref z4)]) hx hb dX0_mark_15 hl (by decide) rfl (fun ls hl => ?_)
      refine lv_iconst (v := 1) hx hb dX0_mark_17 (by decide) ?_
      have hr := gS_i hr
      subst hr
      exact g_xiret X hI rfl (show (0 + 7) ≤ 7 from by omega) (show (0 + 37) ≤ 37 from by omega) dX0_mark_18
    replace hr := gIf_f c10 hr
    by_cases c11 : q4.1 = 11
    · replace hr := gIf_t c11 hr
      refine g_catch (a := 0) (b := 12) (hp := 19) (ct := 19) X hxc hxt (pre := [(0, 12, 15, 29)]) (suf := []) rfl (gPs_c (Or.inr ⟨by decide, 12, by decide, c10, q1147⟩) gPs_0) (by decide) (by decide) (j := 11) c11 q1116 ?_
      refine lv_astore (lv' := [(5, .ref q4.2), (0, .ref z0), (1, .int z1), (2, .int z2), (3, .int z3), (4, .ref z4)]) hx hb dX0_mark_19 hl (by decide) rfl (fun ls hl => ?_)
      refine lv_iconst (v := 2) hx hb dX0_mark_21 (by decide) ?_
      have hr := gS_i hr
      subst hr
      exact g_xiret X hI rfl (show (0 + 7) ≤ 7 from by omega) (show (0 + 37) ≤ 37 from by omega) dX0_mark_22
    replace hr := gIf_f c11 hr
    have hr := gS_i hr
    subst hr
    exact g_xout X hI hxc hxt (gPs_c (Or.inr ⟨by decide, 12, by decide, c10, q1147⟩) (gPs_c (Or.inr ⟨by decide, 11, by decide, c11, q1116⟩) gPs_0)) (show (0 + 7) ≤ 7 from by omega) (show (0 + 37) ≤ 37 from by omega)
abbrev rm_X0_favouriteFreeCell : Room := { frames := 11, cells := 5, slots := 25, locals := 224 }
theorem hd_X0_favouriteFreeCell : yX0_favouriteFreeCell.cls ≠ "java/lang/invoke/MethodHandle" ∧ yX0_favouriteFreeCell.cls ≠ "java/lang/invoke/VarHandle" ∧ (parseMethodDescriptor yX0_favouriteFreeCell.desc).map (fun d => d.parameters.length) = some 3 := by decide +kernel
set_option maxHeartbeats 2000000 in
theorem w_X0_favouriteFreeCell {l : Launch} {x : gV} {base : Nat} (hst : l.stackTraces = false) {z0 : Nat} {z1 : Int32} {z2 : Nat} {h : gH} {n : Nat} {res : (Int32 ⊕ gX) × gH × Nat} (hr : f_X0_favouriteFreeCell z0 z1 z2 h n = some res) : gMX l yX0_favouriteFreeCell (wsW_ yX0_favouriteFreeCell cX0_favouriteFreeCell 4 (some .int) [(0, 9, 12, 29)]) rm_X0_favouriteFreeCell x base (fun v => some (.int v)) [.ref z0, .int z1, .ref z2] h n res 5 25 := by
  refine g_metW (cc := cX0_favouriteFreeCell) (nL := 4) (ret := (some .int)) (by decide) (Nat.le_of_ble_eq_true rfl) (fun p e s m below meth c ls X hnm hxt hl hI => ?_)
  have hl : lv_has ls 4 [(0, .ref z0), (1, .int z1), (2, .ref z2)] := hl
  have hx := X.1
  have hb := X.2.1
  have hcc : 0 + 5 ≤ 5 ∧ 0 + 25 ≤ 25 := ⟨Nat.le_refl _, Nat.le_refl _⟩
  unfold f_X0_favouriteFreeCell at hr
  refine lv_aload_n hx hb dX0_favouriteFreeCell_0 rfl (lv_at hl 2 rfl) ?_
  refine lv_iconst (v := 0) hx hb dX0_favouriteFreeCell_1 (by decide) ?_
  refine lv_aload_n hx hb dX0_favouriteFreeCell_2 rfl (lv_at hl 0 rfl) ?_
  refine lv_iload_n hx hb dX0_favouriteFreeCell_3 rfl (lv_at hl 1 rfl) ?_
  obtain ⟨_, ho1, hr⟩ := gB_i hr
  rcases gTX_i hr with ⟨v3, h5, n6, hc2, hr⟩ | ⟨q4, h7, n8, hc2, hr⟩
  · refine gXRet_i (g_xrunV X hI (w_X1_favouriteFreeCell hst hc2) ho1 rfl hl (lw_V q1281 q1282 q1283 q96 q1284) rfl rfl hd_X1_favouriteFreeCell ⟨Nat.le_of_ble_eq_true rfl, Nat.le_of_ble_eq_true rfl⟩ (as := [.int z1]) (rest := [.int (0 : Int32), .ref z2]) rfl rfl (Nat.le_of_ble_eq_true rfl) ⟨(show 0 + 5 ≤ 5 from by omega), (show 0 + 25 ≤ 25 from by omega)⟩ dX0_favouriteFreeCell_4) (fun H locs hI => ?_)
    refine lv_i2l hx hb dX0_favouriteFreeCell_7 rfl ?_
    refine g_last X hI hr dX0_favouriteFreeCell_8 (fun h9 H locs hI hr => ?_)
    refine lv_goto (tgt := 15) hx hb dX0_favouriteFreeCell_9 (by decide) ?_
    refine lv_iconst (v := 0) hx hb dX0_favouriteFreeCell_15 (by decide) ?_
    have hr := gS_i hr
    subst hr
    exact g_xiret X hI rfl (show (0 + 5) ≤ 5 from by omega) (show (0 + 25) ≤ 25 from by omega) dX0_favouriteFreeCell_16
  · refine gXThr (k := q4.1) (q := q4.2) (g_xrunV X hI (w_X1_favouriteFreeCell hst hc2) ho1 rfl hl (lw_V q1281 q1282 q1283 q96 q1284) rfl rfl hd_X1_favouriteFreeCell ⟨Nat.le_of_ble_eq_true rfl, Nat.le_of_ble_eq_true rfl⟩ (as := [.int z1]) (rest := [.int (0 : Int32), .ref z2]) rfl rfl (Nat.le_of_ble_eq_true rfl) ⟨(show 0 + 5 ≤ 5 from by omega), (show 0 + 25 ≤ 25 from by omega)⟩ dX0_favouriteFreeCell_4) (fun H locs hI hxc => ?_)
    by_cases c10 : q4.1 = 12
    · replace hr := gIf_t c10 hr
      refine g_catch (a := 0) (b := 9) (hp := 12) (ct := 29) X hxc hxt (pre := []) (suf := []) rfl gPs_0 (by decide) (by decide) (j := 12) c10 q1147 ?_
      refine lv_astore_n (lv' := [(3, .ref q4.2), (0, .ref z0), (1, .int z1), (2, .ref z2)]) hx hb dX0_favouriteFreeCell_12 rfl hl (by decide) rfl (fun ls hl => ?_)
      refine lv_iconst (v := 1) hx hb dX0_favouriteFreeCell_13 (by decide) ?_
      have hr := gS_i hr
      subst hr
      exact g_xiret X hI rfl (show (0 + 5) ≤ 5 from by omega) (show (0 + 25) ≤ 25 from by omega) dX0_favouriteFreeCell_14
    replace hr := gIf_f c10 hr
    have hr := gS_i hr
    subst hr
    exact g_xout X hI hxc hxt (gPs_c (Or.inr ⟨by decide, 12, by decide, c10, q1147⟩) gPs_0) (show (0 + 5) ≤ 5 from by omega) (show (0 + 25) ≤ 25 from by omega)
abbrev rm_X0_envies : Room := { frames := 11, cells := 5, slots := 26, locals := 225 }
theorem hd_X0_envies : yX0_envies.cls ≠ "java/lang/invoke/MethodHandle" ∧ yX0_envies.cls ≠ "java/lang/invoke/VarHandle" ∧ (parseMethodDescriptor yX0_envies.desc).map (fun d => d.parameters.length) = some 4 := by decide +kernel
set_option maxHeartbeats 2000000 in
theorem w_X0_envies {l : Launch} {x : gV} {base : Nat} (hst : l.stackTraces = false) {z0 : Nat} {z1 : Int32} {z2 : Int32} {z3 : Nat} {h : gH} {n : Nat} {res : (Int32 ⊕ gX) × gH × Nat} (hr : f_X0_envies z0 z1 z2 z3 h n = some res) : gMX l yX0_envies (wsW_ yX0_envies cX0_envies 5 (some .int) [(0, 17, 20, 29)]) rm_X0_envies x base (fun v => some (.int v)) [.ref z0, .int z1, .int z2, .ref z3] h n res 5 26 := by
  refine g_metW (cc := cX0_envies) (nL := 5) (ret := (some .int)) (by decide) (Nat.le_of_ble_eq_true rfl) (fun p e s m below meth c ls X hnm hxt hl hI => ?_)
  have hl : lv_has ls 5 [(0, .ref z0), (1, .int z1), (2, .int z2), (3, .ref z3)] := hl
  have hx := X.1
  have hb := X.2.1
  have hcc : 0 + 5 ≤ 5 ∧ 0 + 26 ≤ 26 := ⟨Nat.le_refl _, Nat.le_refl _⟩
  unfold f_X0_envies at hr
  refine lv_aload_n hx hb dX0_envies_0 rfl (lv_at hl 3 rfl) ?_
  refine lv_iconst (v := 0) hx hb dX0_envies_1 (by decide) ?_
  refine lv_aload_n hx hb dX0_envies_2 rfl (lv_at hl 0 rfl) ?_
  refine lv_iload_n hx hb dX0_envies_3 rfl (lv_at hl 1 rfl) ?_
  refine lv_iload_n hx hb dX0_envies_4 rfl (lv_at hl 2 rfl) ?_
  obtain ⟨_, ho1, hr⟩ := gB_i hr
  rcases gTX_i hr with ⟨v3, h5, n6, hc2, hr⟩ | ⟨q4, h7, n8, hc2, hr⟩
  · refine gXRet_i (g_xrunV X hI (w_X1_envies hst hc2) ho1 rfl hl (lw_V q1289 q1290 q1291 q96 q1292) rfl rfl hd_X1_envies ⟨Nat.le_of_ble_eq_true rfl, Nat.le_of_ble_eq_true rfl⟩ (as := [.int z1, .int z2]) (rest := [.int (0 : Int32), .ref z3]) rfl rfl (Nat.le_of_ble_eq_true rfl) ⟨(show 0 + 5 ≤ 5 from by omega), (show 0 + 26 ≤ 26 from by omega)⟩ dX0_envies_5) (fun H locs hI => ?_)
    refine lv_if_eq (tgt := 15) hx hb dX0_envies_8 (by decide) (fun c9 => ?_) (fun c9 => ?_)
    · replace hr := gIf_t c9 hr
      refine lv_lconst (v := 0) hx hb dX0_envies_15 (by decide) ?_
      refine g_last X hI hr dX0_envies_16 (fun h9 H locs hI hr => ?_)
      refine lv_goto (tgt := 24) hx hb dX0_envies_17 (by decide) ?_
      refine lv_iconst (v := 0) hx hb dX0_envies_24 (by decide) ?_
      have hr := gS_i hr
      subst hr
      exact g_xiret X hI rfl (show (0 + 5) ≤ 5 from by omega) (show (0 + 26) ≤ 26 from by omega) dX0_envies_25
    · replace hr := gIf_f c9 hr
      refine lv_lconst (v := 1) hx hb dX0_envies_11 (by decide) ?_
      refine lv_goto (tgt := 16) hx hb dX0_envies_12 (by decide) ?_
      refine g_last X hI hr dX0_envies_16 (fun h10 H locs hI hr => ?_)
      refine lv_goto (tgt := 24) hx hb dX0_envies_17 (by decide) ?_
      refine lv_iconst (v := 0) hx hb dX0_envies_24 (by decide) ?_
      have hr := gS_i hr
      subst hr
      exact g_xiret X hI rfl (show (0 + 5) ≤ 5 from by omega) (show (0 + 26) ≤ 26 from by omega) dX0_envies_25
  · refine gXThr (k := q4.1) (q := q4.2) (g_xrunV X hI (w_X1_envies hst hc2) ho1 rfl hl (lw_V q1289 q1290 q1291 q96 q1292) rfl rfl hd_X1_envies ⟨Nat.le_of_ble_eq_true rfl, Nat.le_of_ble_eq_true rfl⟩ (as := [.int z1, .int z2]) (rest := [.int (0 : Int32), .ref z3]) rfl rfl (Nat.le_of_ble_eq_true rfl) ⟨(show 0 + 5 ≤ 5 from by omega), (show 0 + 26 ≤ 26 from by omega)⟩ dX0_envies_5) (fun H locs hI hxc => ?_)
    by_cases c11 : q4.1 = 12
    · replace hr := gIf_t c11 hr
      refine g_catch (a := 0) (b := 17) (hp := 20) (ct := 29) X hxc hxt (pre := []) (suf := []) rfl gPs_0 (by decide) (by decide) (j := 12) c11 q1147 ?_
      refine lv_astore (lv' := [(4, .ref q4.2), (0, .ref z0), (1, .int z1), (2, .int z2), (3, .ref z3)]) hx hb dX0_envies_20 hl (by decide) rfl (fun ls hl => ?_)
      refine lv_iconst (v := 1) hx hb dX0_envies_22 (by decide) ?_
      have hr := gS_i hr
      subst hr
      exact g_xiret X hI rfl (show (0 + 5) ≤ 5 from by omega) (show (0 + 26) ≤ 26 from by omega) dX0_envies_23
    replace hr := gIf_f c11 hr
    have hr := gS_i hr
    subst hr
    exact g_xout X hI hxc hxt (gPs_c (Or.inr ⟨by decide, 12, by decide, c11, q1147⟩) gPs_0) (show (0 + 5) ≤ 5 from by omega) (show (0 + 26) ≤ 26 from by omega)
abbrev rm_X0_isMild : Room := { frames := 11, cells := 6, slots := 32, locals := 225 }
theorem hd_X0_isMild : yX0_isMild.cls ≠ "java/lang/invoke/MethodHandle" ∧ yX0_isMild.cls ≠ "java/lang/invoke/VarHandle" ∧ (parseMethodDescriptor yX0_isMild.desc).map (fun d => d.parameters.length) = some 4 := by decide +kernel
set_option maxHeartbeats 2000000 in
theorem w_X0_isMild {l : Launch} {x : gV} {base : Nat} (hst : l.stackTraces = false) {z0 : Nat} {z1 : Int32} {z2 : Int32} {z3 : Nat} {h : gH} {n : Nat} {res : (Int32 ⊕ gX) × gH × Nat} (hr : f_X0_isMild z0 z1 z2 z3 h n = some res) : gMX l yX0_isMild (wsW_ yX0_isMild cX0_isMild 5 (some .int) [(0, 17, 20, 29), (0, 17, 24, 13)]) rm_X0_isMild x base (fun v => some (.int v)) [.ref z0, .int z1, .int z2, .ref z3] h n res 6 32 := by
  refine g_metW (cc := cX0_isMild) (nL := 5) (ret := (some .int)) (by decide) (Nat.le_of_ble_eq_true rfl) (fun p e s m below meth c ls X hnm hxt hl hI => ?_)
  have hl : lv_has ls 5 [(0, .ref z0), (1, .int z1), (2, .int z2), (3, .ref z3)] := hl
  have hx := X.1
  have hb := X.2.1
  have hcc : 0 + 6 ≤ 6 ∧ 0 + 32 ≤ 32 := ⟨Nat.le_refl _, Nat.le_refl _⟩
  unfold f_X0_isMild at hr
  refine lv_aload_n hx hb dX0_isMild_0 rfl (lv_at hl 3 rfl) ?_
  refine lv_iconst (v := 0) hx hb dX0_isMild_1 (by decide) ?_
  refine lv_aload_n hx hb dX0_isMild_2 rfl (lv_at hl 0 rfl) ?_
  refine lv_iload_n hx hb dX0_isMild_3 rfl (lv_at hl 1 rfl) ?_
  refine lv_iload_n hx hb dX0_isMild_4 rfl (lv_at hl 2 rfl) ?_
  obtain ⟨_, ho1, hr⟩ := gB_i hr
  rcases gTX_i hr with ⟨v3, h5, n6, hc2, hr⟩ | ⟨q4, h7, n8, hc2, hr⟩
  · refine gXRet_i (g_xrunV X hI (w_X1_isMild hst hc2) ho1 rfl hl (lw_V q1296 q1297 q1298 q96 q1299) rfl rfl hd_X1_isMild ⟨Nat.le_of_ble_eq_true rfl, Nat.le_of_ble_eq_true rfl⟩ (as := [.int z1, .int z2]) (rest := [.int (0 : Int32), .ref z3]) rfl rfl (Nat.le_of_ble_eq_true rfl) ⟨(show 0 + 6 ≤ 6 from by omega), (show 0 + 32 ≤ 32 from by omega)⟩ dX0_isMild_5) (fun H locs hI => ?_)
    refine lv_if_eq (tgt := 15) hx hb dX0_isMild_8 (by decide) (fun c9 => ?_) (fun c9 => ?_)
    · replace hr := gIf_t c9 hr
      refine lv_lconst (v := 0) hx hb dX0_isMild_15 (by decide) ?_
      refine g_last X hI hr dX0_isMild_16 (fun h9 H locs hI hr => ?_)
      refine lv_goto (tgt := 28) hx hb dX0_isMild_17 (by decide) ?_
      refine lv_iconst (v := 0) hx hb dX0_isMild_28 (by decide) ?_
      have hr := gS_i hr
      subst hr
      exact g_xiret X hI rfl (show (0 + 6) ≤ 6 from by omega) (show (0 + 32) ≤ 32 from by omega) dX0_isMild_29
    · replace hr := gIf_f c9 hr
      refine lv_lconst (v := 1) hx hb dX0_isMild_11 (by decide) ?_
      refine lv_goto (tgt := 16) hx hb dX0_isMild_12 (by decide) ?_
      refine g_last X hI hr dX0_isMild_16 (fun h10 H locs hI hr => ?_)
      refine lv_goto (tgt := 28) hx hb dX0_isMild_17 (by decide) ?_
      refine lv_iconst (v := 0) hx hb dX0_isMild_28 (by decide) ?_
      have hr := gS_i hr
      subst hr
      exact g_xiret X hI rfl (show (0 + 6) ≤ 6 from by omega) (show (0 + 32) ≤ 32 from by omega) dX0_isMild_29
  · refine gXThr (k := q4.1) (q := q4.2) (g_xrunV X hI (w_X1_isMild hst hc2) ho1 rfl hl (lw_V q1296 q1297 q1298 q96 q1299) rfl rfl hd_X1_isMild ⟨Nat.le_of_ble_eq_true rfl, Nat.le_of_ble_eq_true rfl⟩ (as := [.int z1, .int z2]) (rest := [.int (0 : Int32), .ref z3]) rfl rfl (Nat.le_of_ble_eq_true rfl) ⟨(show 0 + 6 ≤ 6 from by omega), (show 0 + 32 ≤ 32 from by omega)⟩ dX0_isMild_5) (fun H locs hI hxc => ?_)
    by_cases c11 : q4.1 = 12
    · replace hr := gIf_t c11 hr
      refine g_catch (a := 0) (b := 17) (hp := 20) (ct := 29) X hxc hxt (pre := []) (suf := [(0, 17, 24, 13)]) rfl gPs_0 (by decide) (by decide) (j := 12) c11 q1147 ?_
      refine lv_astore (lv' := [(4, .ref q4.2), (0, .ref z0), (1, .int z1), (2, .int z2), (3, .ref z3)]) hx hb dX0_isMild_20 hl (by decide) rfl (fun ls hl => ?_)
      refine lv_iconst (v := 1) hx hb dX0_isMild_22 (by decide) ?_
      have hr := gS_i hr
      subst hr
      exact g_xiret X hI rfl (show (0 + 6) ≤ 6 from by omega) (show (0 + 32) ≤ 32 from by omega) dX0_isMild_23
    replace hr := gIf_f c11 hr
    by_cases c12 : q4.1 = 10
    · replace hr := gIf_t c12 hr
      refine g_catch (a := 0) (b := 17) (hp := 24) (ct := 13) X hxc hxt (pre := [(0, 17, 20, 29)]) (suf := []) rfl (gPs_c (Or.inr ⟨by decide, 12, by decide, c11, q1147⟩) gPs_0) (by decide) (by decide) (j := 10) c12 q1099 ?_
      refine lv_astore (lv' := [(4, .ref q4.2), (0, .ref z0), (1, .int z1), (2, .int z2), (3, .ref z3)]) hx hb dX0_isMild_24 hl (by decide) rfl (fun ls hl => ?_)
      refine lv_iconst (v := 2) hx hb dX0_isMild_26 (by decide) ?_
      have hr := gS_i hr
      subst hr
      exact g_xiret X hI rfl (show (0 + 6) ≤ 6 from by omega) (show (0 + 32) ≤ 32 from by omega) dX0_isMild_27
    replace hr := gIf_f c12 hr
    have hr := gS_i hr
    subst hr
    exact g_xout X hI hxc hxt (gPs_c (Or.inr ⟨by decide, 12, by decide, c11, q1147⟩) (gPs_c (Or.inr ⟨by decide, 10, by decide, c12, q1099⟩) gPs_0)) (show (0 + 6) ≤ 6 from by omega) (show (0 + 32) ≤ 32 from by omega)
abbrev rm_X0_isSatisfied : Room := { frames := 11, cells := 5, slots := 25, locals := 224 }
theorem hd_X0_isSatisfied : yX0_isSatisfied.cls ≠ "java/lang/invoke/MethodHandle" ∧ yX0_isSatisfied.cls ≠ "java/lang/invoke/VarHandle" ∧ (parseMethodDescriptor yX0_isSatisfied.desc).map (fun d => d.parameters.length) = some 3 := by decide +kernel
set_option maxHeartbeats 2000000 in
theorem w_X0_isSatisfied {l : Launch} {x : gV} {base : Nat} (hst : l.stackTraces = false) {z0 : Nat} {z1 : Int32} {z2 : Nat} {h : gH} {n : Nat} {res : (Int32 ⊕ gX) × gH × Nat} (hr : f_X0_isSatisfied z0 z1 z2 h n = some res) : gMX l yX0_isSatisfied (wsW_ yX0_isSatisfied cX0_isSatisfied 4 (some .int) [(0, 16, 19, 29)]) rm_X0_isSatisfied x base (fun v => some (.int v)) [.ref z0, .int z1, .ref z2] h n res 5 25 := by
  refine g_metW (cc := cX0_isSatisfied) (nL := 4) (ret := (some .int)) (by decide) (Nat.le_of_ble_eq_true rfl) (fun p e s m below meth c ls X hnm hxt hl hI => ?_)
  have hl : lv_has ls 4 [(0, .ref z0), (1, .int z1), (2, .ref z2)] := hl
  have hx := X.1
  have hb := X.2.1
  have hcc : 0 + 5 ≤ 5 ∧ 0 + 25 ≤ 25 := ⟨Nat.le_refl _, Nat.le_refl _⟩
  unfold f_X0_isSatisfied at hr
  refine lv_aload_n hx hb dX0_isSatisfied_0 rfl (lv_at hl 2 rfl) ?_
  refine lv_iconst (v := 0) hx hb dX0_isSatisfied_1 (by decide) ?_
  refine lv_aload_n hx hb dX0_isSatisfied_2 rfl (lv_at hl 0 rfl) ?_
  refine lv_iload_n hx hb dX0_isSatisfied_3 rfl (lv_at hl 1 rfl) ?_
  obtain ⟨_, ho1, hr⟩ := gB_i hr
  rcases gTX_i hr with ⟨v3, h5, n6, hc2, hr⟩ | ⟨q4, h7, n8, hc2, hr⟩
  · refine gXRet_i (g_xrunV X hI (w_X1_isSatisfied hst hc2) ho1 rfl hl (lw_V q1306 q1307 q1308 q96 q1309) rfl rfl hd_X1_isSatisfied ⟨Nat.le_of_ble_eq_true rfl, Nat.le_of_ble_eq_true rfl⟩ (as := [.int z1]) (rest := [.int (0 : Int32), .ref z2]) rfl rfl (Nat.le_of_ble_eq_true rfl) ⟨(show 0 + 5 ≤ 5 from by omega), (show 0 + 25 ≤ 25 from by omega)⟩ dX0_isSatisfied_4) (fun H locs hI => ?_)
    refine lv_if_eq (tgt := 14) hx hb dX0_isSatisfied_7 (by decide) (fun c9 => ?_) (fun c9 => ?_)
    · replace hr := gIf_t c9 hr
      refine lv_lconst (v := 0) hx hb dX0_isSatisfied_14 (by decide) ?_
      refine g_last X hI hr dX0_isSatisfied_15 (fun h9 H locs hI hr => ?_)
      refine lv_goto (tgt := 22) hx hb dX0_isSatisfied_16 (by decide) ?_
      refine lv_iconst (v := 0) hx hb dX0_isSatisfied_22 (by decide) ?_
      have hr := gS_i hr
      subst hr
      exact g_xiret X hI rfl (show (0 + 5) ≤ 5 from by omega) (show (0 + 25) ≤ 25 from by omega) dX0_isSatisfied_23
    · replace hr := gIf_f c9 hr
      refine lv_lconst (v := 1) hx hb dX0_isSatisfied_10 (by decide) ?_
      refine lv_goto (tgt := 15) hx hb dX0_isSatisfied_11 (by decide) ?_
      refine g_last X hI hr dX0_isSatisfied_15 (fun h10 H locs hI hr => ?_)
      refine lv_goto (tgt := 22) hx hb dX0_isSatisfied_16 (by decide) ?_
      refine lv_iconst (v := 0) hx hb dX0_isSatisfied_22 (by decide) ?_
      have hr := gS_i hr
      subst hr
      exact g_xiret X hI rfl (show (0 + 5) ≤ 5 from by omega) (show (0 + 25) ≤ 25 from by omega) dX0_isSatisfied_23
  · refine gXThr (k := q4.1) (q := q4.2) (g_xrunV X hI (w_X1_isSatisfied hst hc2) ho1 rfl hl (lw_V q1306 q1307 q1308 q96 q1309) rfl rfl hd_X1_isSatisfied ⟨Nat.le_of_ble_eq_true rfl, Nat.le_of_ble_eq_true rfl⟩ (as := [.int z1]) (rest := [.int (0 : Int32), .ref z2]) rfl rfl (Nat.le_of_ble_eq_true rfl) ⟨(show 0 + 5 ≤ 5 from by omega), (show 0 + 25 ≤ 25 from by omega)⟩ dX0_isSatisfied_4) (fun H locs hI hxc => ?_)
    by_cases c11 : q4.1 = 12
    · replace hr := gIf_t c11 hr
      refine g_catch (a := 0) (b := 16) (hp := 19) (ct := 29) X hxc hxt (pre := []) (suf := []) rfl gPs_0 (by decide) (by decide) (j := 12) c11 q1147 ?_
      refine lv_astore_n (lv' := [(3, .ref q4.2), (0, .ref z0), (1, .int z1), (2, .ref z2)]) hx hb dX0_isSatisfied_19 rfl hl (by decide) rfl (fun ls hl => ?_)
      refine lv_iconst (v := 1) hx hb dX0_isSatisfied_20 (by decide) ?_
      have hr := gS_i hr
      subst hr
      exact g_xiret X hI rfl (show (0 + 5) ≤ 5 from by omega) (show (0 + 25) ≤ 25 from by omega) dX0_isSatisfied_21
    replace hr := gIf_f c11 hr
    have hr := gS_i hr
    subst hr
    exact g_xout X hI hxc hxt (gPs_c (Or.inr ⟨by decide, 12, by decide, c11, q1147⟩) gPs_0) (show (0 + 5) ≤ 5 from by omega) (show (0 + 25) ≤ 25 from by omega)
abbrev rm_X0_envyCycleLength : Room := { frames := 11, cells := 7, slots := 35, locals := 243 }
theorem hd_X0_envyCycleLength : yX0_envyCycleLength.cls ≠ "java/lang/invoke/MethodHandle" ∧ yX0_envyCycleLength.cls ≠ "java/lang/invoke/VarHandle" ∧ (parseMethodDescriptor yX0_envyCycleLength.desc).map (fun d => d.parameters.length) = some 3 := by decide +kernel
set_option maxHeartbeats 2000000 in
theorem w_X0_envyCycleLength {l : Launch} {x : gV} {base : Nat} (hst : l.stackTraces = false) {z0 : Nat} {z1 : Int32} {z2 : Nat} {h : gH} {n : Nat} {res : (Int32 ⊕ gX) × gH × Nat} (hr : f_X0_envyCycleLength z0 z1 z2 h n = some res) : gMX l yX0_envyCycleLength (wsW_ yX0_envyCycleLength cX0_envyCycleLength 4 (some .int) [(0, 9, 12, 29)]) rm_X0_envyCycleLength x base (fun v => some (.int v)) [.ref z0, .int z1, .ref z2] h n res 7 35 := by
  refine g_metW (cc := cX0_envyCycleLength) (nL := 4) (ret := (some .int)) (by decide) (Nat.le_of_ble_eq_true rfl) (fun p e s m below meth c ls X hnm hxt hl hI => ?_)
  have hl : lv_has ls 4 [(0, .ref z0), (1, .int z1), (2, .ref z2)] := hl
  have hx := X.1
  have hb := X.2.1
  have hcc : 0 + 7 ≤ 7 ∧ 0 + 35 ≤ 35 := ⟨Nat.le_refl _, Nat.le_refl _⟩
  unfold f_X0_envyCycleLength at hr
  refine lv_aload_n hx hb dX0_envyCycleLength_0 rfl (lv_at hl 2 rfl) ?_
  refine lv_iconst (v := 0) hx hb dX0_envyCycleLength_1 (by decide) ?_
  refine lv_aload_n hx hb dX0_envyCycleLength_2 rfl (lv_at hl 0 rfl) ?_
  refine lv_iload_n hx hb dX0_envyCycleLength_3 rfl (lv_at hl 1 rfl) ?_
  obtain ⟨_, ho1, hr⟩ := gB_i hr
  rcases gTX_i hr with ⟨v3, h5, n6, hc2, hr⟩ | ⟨q4, h7, n8, hc2, hr⟩
  · refine gXRet_i (g_xrunV X hI (w_X1_envyCycleLength hst hc2) ho1 rfl hl (lw_V q1314 q1315 q1316 q96 q1317) rfl rfl hd_X1_envyCycleLength ⟨Nat.le_of_ble_eq_true rfl, Nat.le_of_ble_eq_true rfl⟩ (as := [.int z1]) (rest := [.int (0 : Int32), .ref z2]) rfl rfl (Nat.le_of_ble_eq_true rfl) ⟨(show 0 + 7 ≤ 7 from by omega), (show 0 + 35 ≤ 35 from by omega)⟩ dX0_envyCycleLength_4) (fun H locs hI => ?_)
    refine lv_i2l hx hb dX0_envyCycleLength_7 rfl ?_
    refine g_last X hI hr dX0_envyCycleLength_8 (fun h9 H locs hI hr => ?_)
    refine lv_goto (tgt := 15) hx hb dX0_envyCycleLength_9 (by decide) ?_
    refine lv_iconst (v := 0) hx hb dX0_envyCycleLength_15 (by decide) ?_
    have hr := gS_i hr
    subst hr
    exact g_xiret X hI rfl (show (0 + 7) ≤ 7 from by omega) (show (0 + 35) ≤ 35 from by omega) dX0_envyCycleLength_16
  · refine gXThr (k := q4.1) (q := q4.2) (g_xrunV X hI (w_X1_envyCycleLength hst hc2) ho1 rfl hl (lw_V q1314 q1315 q1316 q96 q1317) rfl rfl hd_X1_envyCycleLength ⟨Nat.le_of_ble_eq_true rfl, Nat.le_of_ble_eq_true rfl⟩ (as := [.int z1]) (rest := [.int (0 : Int32), .ref z2]) rfl rfl (Nat.le_of_ble_eq_true rfl) ⟨(show 0 + 7 ≤ 7 from by omega), (show 0 + 35 ≤ 35 from by omega)⟩ dX0_envyCycleLength_4) (fun H locs hI hxc => ?_)
    by_cases c10 : q4.1 = 12
    · replace hr := gIf_t c10 hr
      refine g_catch (a := 0) (b := 9) (hp := 12) (ct := 29) X hxc hxt (pre := []) (suf := []) rfl gPs_0 (by decide) (by decide) (j := 12) c10 q1147 ?_
      refine lv_astore_n (lv' := [(3, .ref q4.2), (0, .ref z0), (1, .int z1), (2, .ref z2)]) hx hb dX0_envyCycleLength_12 rfl hl (by decide) rfl (fun ls hl => ?_)
      refine lv_iconst (v := 1) hx hb dX0_envyCycleLength_13 (by decide) ?_
      have hr := gS_i hr
      subst hr
      exact g_xiret X hI rfl (show (0 + 7) ≤ 7 from by omega) (show (0 + 35) ≤ 35 from by omega) dX0_envyCycleLength_14
    replace hr := gIf_f c10 hr
    have hr := gS_i hr
    subst hr
    exact g_xout X hI hxc hxt (gPs_c (Or.inr ⟨by decide, 12, by decide, c10, q1147⟩) gPs_0) (show (0 + 7) ≤ 7 from by omega) (show (0 + 35) ≤ 35 from by omega)
abbrev rm_X0_envyCycleMember : Room := { frames := 11, cells := 8, slots := 41, locals := 245 }
theorem hd_X0_envyCycleMember : yX0_envyCycleMember.cls ≠ "java/lang/invoke/MethodHandle" ∧ yX0_envyCycleMember.cls ≠ "java/lang/invoke/VarHandle" ∧ (parseMethodDescriptor yX0_envyCycleMember.desc).map (fun d => d.parameters.length) = some 4 := by decide +kernel
set_option maxHeartbeats 2000000 in
theorem w_X0_envyCycleMember {l : Launch} {x : gV} {base : Nat} (hst : l.stackTraces = false) {z0 : Nat} {z1 : Int32} {z2 : Int32} {z3 : Nat} {h : gH} {n : Nat} {res : (Int32 ⊕ gX) × gH × Nat} (hr : f_X0_envyCycleMember z0 z1 z2 z3 h n = some res) : gMX l yX0_envyCycleMember (wsW_ yX0_envyCycleMember cX0_envyCycleMember 5 (some .int) [(0, 10, 13, 29), (0, 10, 17, 34)]) rm_X0_envyCycleMember x base (fun v => some (.int v)) [.ref z0, .int z1, .int z2, .ref z3] h n res 8 41 := by
  refine g_metW (cc := cX0_envyCycleMember) (nL := 5) (ret := (some .int)) (by decide) (Nat.le_of_ble_eq_true rfl) (fun p e s m below meth c ls X hnm hxt hl hI => ?_)
  have hl : lv_has ls 5 [(0, .ref z0), (1, .int z1), (2, .int z2), (3, .ref z3)] := hl
  have hx := X.1
  have hb := X.2.1
  have hcc : 0 + 8 ≤ 8 ∧ 0 + 41 ≤ 41 := ⟨Nat.le_refl _, Nat.le_refl _⟩
  unfold f_X0_envyCycleMember at hr
  refine lv_aload_n hx hb dX0_envyCycleMember_0 rfl (lv_at hl 3 rfl) ?_
  refine lv_iconst (v := 0) hx hb dX0_envyCycleMember_1 (by decide) ?_
  refine lv_aload_n hx hb dX0_envyCycleMember_2 rfl (lv_at hl 0 rfl) ?_
  refine lv_iload_n hx hb dX0_envyCycleMember_3 rfl (lv_at hl 1 rfl) ?_
  refine lv_iload_n hx hb dX0_envyCycleMember_4 rfl (lv_at hl 2 rfl) ?_
  obtain ⟨_, ho1, hr⟩ := gB_i hr
  rcases gTX_i hr with ⟨v3, h5, n6, hc2, hr⟩ | ⟨q4, h7, n8, hc2, hr⟩
  · refine gXRet_i (g_xrunV X hI (w_X1_envyCycleMember hst hc2) ho1 rfl hl (lw_V q1354 q1355 q1356 q96 q1357) rfl rfl hd_X1_envyCycleMember ⟨Nat.le_of_ble_eq_true rfl, Nat.le_of_ble_eq_true rfl⟩ (as := [.int z1, .int z2]) (rest := [.int (0 : Int32), .ref z3]) rfl rfl (Nat.le_of_ble_eq_true rfl) ⟨(show 0 + 8 ≤ 8 from by omega), (show 0 + 41 ≤ 41 from by omega)⟩ dX0_envyCycleMember_5) (fun H locs hI => ?_)
    refine lv_i2l hx hb dX0_envyCycleMember_8 rfl ?_
    refine g_last X hI hr dX0_envyCycleMember_9 (fun h9 H locs hI hr => ?_)
    refine lv_goto (tgt := 21) hx hb dX0_envyCycleMember_10 (by decide) ?_
    refine lv_iconst (v := 0) hx hb dX0_envyCycleMember_21 (by decide) ?_
    have hr := gS_i hr
    subst hr
    exact g_xiret X hI rfl (show (0 + 8) ≤ 8 from by omega) (show (0 + 41) ≤ 41 from by omega) dX0_envyCycleMember_22
  · refine gXThr (k := q4.1) (q := q4.2) (g_xrunV X hI (w_X1_envyCycleMember hst hc2) ho1 rfl hl (lw_V q1354 q1355 q1356 q96 q1357) rfl rfl hd_X1_envyCycleMember ⟨Nat.le_of_ble_eq_true rfl, Nat.le_of_ble_eq_true rfl⟩ (as := [.int z1, .int z2]) (rest := [.int (0 : Int32), .ref z3]) rfl rfl (Nat.le_of_ble_eq_true rfl) ⟨(show 0 + 8 ≤ 8 from by omega), (show 0 + 41 ≤ 41 from by omega)⟩ dX0_envyCycleMember_5) (fun H locs hI hxc => ?_)
    by_cases c10 : q4.1 = 12
    · replace hr := gIf_t c10 hr
      refine g_catch (a := 0) (b := 10) (hp := 13) (ct := 29) X hxc hxt (pre := []) (suf := [(0, 10, 17, 34)]) rfl gPs_0 (by decide) (by decide) (j := 12) c10 q1147 ?_
      refine lv_astore (lv' := [(4, .ref q4.2), (0, .ref z0), (1, .int z1), (2, .int z2), (3, .ref z3)]) hx hb dX0_envyCycleMember_13 hl (by decide) rfl (fun ls hl => ?_)
      refine lv_iconst (v := 1) hx hb dX0_envyCycleMember_15 (by decide) ?_
      have hr := gS_i hr
      subst hr
      exact g_xiret X hI rfl (show (0 + 8) ≤ 8 from by omega) (show (0 + 41) ≤ 41 from by omega) dX0_envyCycleMember_16
    replace hr := gIf_f c10 hr
    by_cases c11 : q4.1 = 13
    · replace hr := gIf_t c11 hr
      refine g_catch (a := 0) (b := 10) (hp := 17) (ct := 34) X hxc hxt (pre := [(0, 10, 13, 29)]) (suf := []) rfl (gPs_c (Or.inr ⟨by decide, 12, by decide, c10, q1147⟩) gPs_0) (by decide) (by decide) (j := 13) c11 q1199 ?_
      refine lv_astore (lv' := [(4, .ref q4.2), (0, .ref z0), (1, .int z1), (2, .int z2), (3, .ref z3)]) hx hb dX0_envyCycleMember_17 hl (by decide) rfl (fun ls hl => ?_)
      refine lv_iconst (v := 2) hx hb dX0_envyCycleMember_19 (by decide) ?_
      have hr := gS_i hr
      subst hr
      exact g_xiret X hI rfl (show (0 + 8) ≤ 8 from by omega) (show (0 + 41) ≤ 41 from by omega) dX0_envyCycleMember_20
    replace hr := gIf_f c11 hr
    have hr := gS_i hr
    subst hr
    exact g_xout X hI hxc hxt (gPs_c (Or.inr ⟨by decide, 12, by decide, c10, q1147⟩) (gPs_c (Or.inr ⟨by decide, 13, by decide, c11, q1199⟩) gPs_0)) (show (0 + 8) ≤ 8 from by omega) (show (0 + 41) ≤ 41 from by omega)
abbrev rm_X0_wouldSwap : Room := { frames := 11, cells := 5, slots := 26, locals := 225 }
theorem hd_X0_wouldSwap : yX0_wouldSwap.cls ≠ "java/lang/invoke/MethodHandle" ∧ yX0_wouldSwap.cls ≠ "java/lang/invoke/VarHandle" ∧ (parseMethodDescriptor yX0_wouldSwap.desc).map (fun d => d.parameters.length) = some 4 := by decide +kernel
set_option maxHeartbeats 2000000 in
theorem w_X0_wouldSwap {l : Launch} {x : gV} {base : Nat} (hst : l.stackTraces = false) {z0 : Nat} {z1 : Int32} {z2 : Int32} {z3 : Nat} {h : gH} {n : Nat} {res : (Int32 ⊕ gX) × gH × Nat} (hr : f_X0_wouldSwap z0 z1 z2 z3 h n = some res) : gMX l yX0_wouldSwap (wsW_ yX0_wouldSwap cX0_wouldSwap 5 (some .int) [(0, 17, 20, 29)]) rm_X0_wouldSwap x base (fun v => some (.int v)) [.ref z0, .int z1, .int z2, .ref z3] h n res 5 26 := by
  refine g_metW (cc := cX0_wouldSwap) (nL := 5) (ret := (some .int)) (by decide) (Nat.le_of_ble_eq_true rfl) (fun p e s m below meth c ls X hnm hxt hl hI => ?_)
  have hl : lv_has ls 5 [(0, .ref z0), (1, .int z1), (2, .int z2), (3, .ref z3)] := hl
  have hx := X.1
  have hb := X.2.1
  have hcc : 0 + 5 ≤ 5 ∧ 0 + 26 ≤ 26 := ⟨Nat.le_refl _, Nat.le_refl _⟩
  unfold f_X0_wouldSwap at hr
  refine lv_aload_n hx hb dX0_wouldSwap_0 rfl (lv_at hl 3 rfl) ?_
  refine lv_iconst (v := 0) hx hb dX0_wouldSwap_1 (by decide) ?_
  refine lv_aload_n hx hb dX0_wouldSwap_2 rfl (lv_at hl 0 rfl) ?_
  refine lv_iload_n hx hb dX0_wouldSwap_3 rfl (lv_at hl 1 rfl) ?_
  refine lv_iload_n hx hb dX0_wouldSwap_4 rfl (lv_at hl 2 rfl) ?_
  obtain ⟨_, ho1, hr⟩ := gB_i hr
  rcases gTX_i hr with ⟨v3, h5, n6, hc2, hr⟩ | ⟨q4, h7, n8, hc2, hr⟩
  · refine gXRet_i (g_xrunV X hI (w_X1_wouldSwap hst hc2) ho1 rfl hl (lw_V q1365 q1366 q1367 q96 q1368) rfl rfl hd_X1_wouldSwap ⟨Nat.le_of_ble_eq_true rfl, Nat.le_of_ble_eq_true rfl⟩ (as := [.int z1, .int z2]) (rest := [.int (0 : Int32), .ref z3]) rfl rfl (Nat.le_of_ble_eq_true rfl) ⟨(show 0 + 5 ≤ 5 from by omega), (show 0 + 26 ≤ 26 from by omega)⟩ dX0_wouldSwap_5) (fun H locs hI => ?_)
    refine lv_if_eq (tgt := 15) hx hb dX0_wouldSwap_8 (by decide) (fun c9 => ?_) (fun c9 => ?_)
    · replace hr := gIf_t c9 hr
      refine lv_lconst (v := 0) hx hb dX0_wouldSwap_15 (by decide) ?_
      refine g_last X hI hr dX0_wouldSwap_16 (fun h9 H locs hI hr => ?_)
      refine lv_goto (tgt := 24) hx hb dX0_wouldSwap_17 (by decide) ?_
      refine lv_iconst (v := 0) hx hb dX0_wouldSwap_24 (by decide) ?_
      have hr := gS_i hr
      subst hr
      exact g_xiret X hI rfl (show (0 + 5) ≤ 5 from by omega) (show (0 + 26) ≤ 26 from by omega) dX0_wouldSwap_25
    · replace hr := gIf_f c9 hr
      refine lv_lconst (v := 1) hx hb dX0_wouldSwap_11 (by decide) ?_
      refine lv_goto (tgt := 16) hx hb dX0_wouldSwap_12 (by decide) ?_
      refine g_last X hI hr dX0_wouldSwap_16 (fun h10 H locs hI hr => ?_)
      refine lv_goto (tgt := 24) hx hb dX0_wouldSwap_17 (by decide) ?_
      refine lv_iconst (v := 0) hx hb dX0_wouldSwap_24 (by decide) ?_
      have hr := gS_i hr
      subst hr
      exact g_xiret X hI rfl (show (0 + 5) ≤ 5 from by omega) (show (0 + 26) ≤ 26 from by omega) dX0_wouldSwap_25
  · refine gXThr (k := q4.1) (q := q4.2) (g_xrunV X hI (w_X1_wouldSwap hst hc2) ho1 rfl hl (lw_V q1365 q1366 q1367 q96 q1368) rfl rfl hd_X1_wouldSwap ⟨Nat.le_of_ble_eq_true rfl, Nat.le_of_ble_eq_true rfl⟩ (as := [.int z1, .int z2]) (rest := [.int (0 : Int32), .ref z3]) rfl rfl (Nat.le_of_ble_eq_true rfl) ⟨(show 0 + 5 ≤ 5 from by omega), (show 0 + 26 ≤ 26 from by omega)⟩ dX0_wouldSwap_5) (fun H locs hI hxc => ?_)
    by_cases c11 : q4.1 = 12
    · replace hr := gIf_t c11 hr
      refine g_catch (a := 0) (b := 17) (hp := 20) (ct := 29) X hxc hxt (pre := []) (suf := []) rfl gPs_0 (by decide) (by decide) (j := 12) c11 q1147 ?_
      refine lv_astore (lv' := [(4, .ref q4.2), (0, .ref z0), (1, .int z1), (2, .int z2), (3, .ref z3)]) hx hb dX0_wouldSwap_20 hl (by decide) rfl (fun ls hl => ?_)
      refine lv_iconst (v := 1) hx hb dX0_wouldSwap_22 (by decide) ?_
      have hr := gS_i hr
      subst hr
      exact g_xiret X hI rfl (show (0 + 5) ≤ 5 from by omega) (show (0 + 26) ≤ 26 from by omega) dX0_wouldSwap_23
    replace hr := gIf_f c11 hr
    have hr := gS_i hr
    subst hr
    exact g_xout X hI hxc hxt (gPs_c (Or.inr ⟨by decide, 12, by decide, c11, q1147⟩) gPs_0) (show (0 + 5) ≤ 5 from by omega) (show (0 + 26) ≤ 26 from by omega)
abbrev rm_X0_satisfaction : Room := { frames := 12, cells := 5, slots := 25, locals := 246 }
theorem hd_X0_satisfaction : yX0_satisfaction.cls ≠ "java/lang/invoke/MethodHandle" ∧ yX0_satisfaction.cls ≠ "java/lang/invoke/VarHandle" ∧ (parseMethodDescriptor yX0_satisfaction.desc).map (fun d => d.parameters.length) = some 3 := by decide +kernel
set_option maxHeartbeats 2000000 in
theorem w_X0_satisfaction {l : Launch} {x : gV} {base : Nat} (hst : l.stackTraces = false) {z0 : Nat} {z1 : Int32} {z2 : Nat} {h : gH} {n : Nat} {res : (Int32 ⊕ gX) × gH × Nat} (hr : f_X0_satisfaction z0 z1 z2 h n = some res) : gMX l yX0_satisfaction (wsW_ yX0_satisfaction cX0_satisfaction 4 (some .int) [(0, 9, 12, 29)]) rm_X0_satisfaction x base (fun v => some (.int v)) [.ref z0, .int z1, .ref z2] h n res 5 25 := by
  refine g_metW (cc := cX0_satisfaction) (nL := 4) (ret := (some .int)) (by decide) (Nat.le_of_ble_eq_true rfl) (fun p e s m below meth c ls X hnm hxt hl hI => ?_)
  have hl : lv_has ls 4 [(0, .ref z0), (1, .int z1), (2, .ref z2)] := hl
  have hx := X.1
  have hb := X.2.1
  have hcc : 0 + 5 ≤ 5 ∧ 0 + 25 ≤ 25 := ⟨Nat.le_refl _, Nat.le_refl _⟩
  unfold f_X0_satisfaction at hr
  refine lv_aload_n hx hb dX0_satisfaction_0 rfl (lv_at hl 2 rfl) ?_
  refine lv_iconst (v := 0) hx hb dX0_satisfaction_1 (by decide) ?_
  refine lv_aload_n hx hb dX0_satisfaction_2 rfl (lv_at hl 0 rfl) ?_
  refine lv_iload_n hx hb dX0_satisfaction_3 rfl (lv_at hl 1 rfl) ?_
  obtain ⟨_, ho1, hr⟩ := gB_i hr
  rcases gTX_i hr with ⟨v3, h5, n6, hc2, hr⟩ | ⟨q4, h7, n8, hc2, hr⟩
  · refine gXRet_f (g_xrunV X hI (w_X1_satisfaction hst hc2) ho1 rfl hl (lw_V q1372 q1373 q1374 q96 q1375) rfl rfl hd_X1_satisfaction ⟨Nat.le_of_ble_eq_true rfl, Nat.le_of_ble_eq_true rfl⟩ (as := [.int z1]) (rest := [.int (0 : Int32), .ref z2]) rfl rfl (Nat.le_of_ble_eq_true rfl) ⟨(show 0 + 5 ≤ 5 from by omega), (show 0 + 25 ≤ 25 from by omega)⟩ dX0_satisfaction_4) (fun H locs hI => ?_)
    obtain ⟨c9, hr⟩ := gIf_o hr
    refine lv_f2d hx hb dX0_satisfaction_7 (g_n64_i c9) ?_
    refine g_dast X hI hr dX0_satisfaction_8 (fun h9 H locs hI hr => ?_)
    refine lv_goto (tgt := 15) hx hb dX0_satisfaction_9 (by decide) ?_
    refine lv_iconst (v := 0) hx hb dX0_satisfaction_15 (by decide) ?_
    have hr := gS_i hr
    subst hr
    exact g_xiret X hI rfl (show (0 + 5) ≤ 5 from by omega) (show (0 + 25) ≤ 25 from by omega) dX0_satisfaction_16
  · refine gXThr (k := q4.1) (q := q4.2) (g_xrunV X hI (w_X1_satisfaction hst hc2) ho1 rfl hl (lw_V q1372 q1373 q1374 q96 q1375) rfl rfl hd_X1_satisfaction ⟨Nat.le_of_ble_eq_true rfl, Nat.le_of_ble_eq_true rfl⟩ (as := [.int z1]) (rest := [.int (0 : Int32), .ref z2]) rfl rfl (Nat.le_of_ble_eq_true rfl) ⟨(show 0 + 5 ≤ 5 from by omega), (show 0 + 25 ≤ 25 from by omega)⟩ dX0_satisfaction_4) (fun H locs hI hxc => ?_)
    by_cases c10 : q4.1 = 12
    · replace hr := gIf_t c10 hr
      refine g_catch (a := 0) (b := 9) (hp := 12) (ct := 29) X hxc hxt (pre := []) (suf := []) rfl gPs_0 (by decide) (by decide) (j := 12) c10 q1147 ?_
      refine lv_astore_n (lv' := [(3, .ref q4.2), (0, .ref z0), (1, .int z1), (2, .ref z2)]) hx hb dX0_satisfaction_12 rfl hl (by decide) rfl (fun ls hl => ?_)
      refine lv_iconst (v := 1) hx hb dX0_satisfaction_13 (by decide) ?_
      have hr := gS_i hr
      subst hr
      exact g_xiret X hI rfl (show (0 + 5) ≤ 5 from by omega) (show (0 + 25) ≤ 25 from by omega) dX0_satisfaction_14
    replace hr := gIf_f c10 hr
    have hr := gS_i hr
    subst hr
    exact g_xout X hI hxc hxt (gPs_c (Or.inr ⟨by decide, 12, by decide, c10, q1147⟩) gPs_0) (show (0 + 5) ≤ 5 from by omega) (show (0 + 25) ≤ 25 from by omega)
abbrev rm_X0_cutFor : Room := { frames := 11, cells := 5, slots := 25, locals := 224 }
theorem hd_X0_cutFor : yX0_cutFor.cls ≠ "java/lang/invoke/MethodHandle" ∧ yX0_cutFor.cls ≠ "java/lang/invoke/VarHandle" ∧ (parseMethodDescriptor yX0_cutFor.desc).map (fun d => d.parameters.length) = some 3 := by decide +kernel
set_option maxHeartbeats 2000000 in
theorem w_X0_cutFor {l : Launch} {x : gV} {base : Nat} (hst : l.stackTraces = false) {z0 : Nat} {z1 : Int32} {z2 : Nat} {h : gH} {n : Nat} {res : (Int32 ⊕ gX) × gH × Nat} (hr : f_X0_cutFor z0 z1 z2 h n = some res) : gMX l yX0_cutFor (wsW_ yX0_cutFor cX0_cutFor 4 (some .int) [(0, 9, 12, 29)]) rm_X0_cutFor x base (fun v => some (.int v)) [.ref z0, .int z1, .ref z2] h n res 5 25 := by
  refine g_metW (cc := cX0_cutFor) (nL := 4) (ret := (some .int)) (by decide) (Nat.le_of_ble_eq_true rfl) (fun p e s m below meth c ls X hnm hxt hl hI => ?_)
  have hl : lv_has ls 4 [(0, .ref z0), (1, .int z1), (2, .ref z2)] := hl
  have hx := X.1
  have hb := X.2.1
  have hcc : 0 + 5 ≤ 5 ∧ 0 + 25 ≤ 25 := ⟨Nat.le_refl _, Nat.le_refl _⟩
  unfold f_X0_cutFor at hr
  refine lv_aload_n hx hb dX0_cutFor_0 rfl (lv_at hl 2 rfl) ?_
  refine lv_iconst (v := 0) hx hb dX0_cutFor_1 (by decide) ?_
  refine lv_aload_n hx hb dX0_cutFor_2 rfl (lv_at hl 0 rfl) ?_
  refine lv_iload_n hx hb dX0_cutFor_3 rfl (lv_at hl 1 rfl) ?_
  obtain ⟨_, ho1, hr⟩ := gB_i hr
  rcases gTX_i hr with ⟨v3, h5, n6, hc2, hr⟩ | ⟨q4, h7, n8, hc2, hr⟩
  · refine gXRet_i (g_xrunV X hI (w_X1_cutFor hst hc2) ho1 rfl hl (lw_V q1379 q1380 q1381 q96 q1382) rfl rfl hd_X1_cutFor ⟨Nat.le_of_ble_eq_true rfl, Nat.le_of_ble_eq_true rfl⟩ (as := [.int z1]) (rest := [.int (0 : Int32), .ref z2]) rfl rfl (Nat.le_of_ble_eq_true rfl) ⟨(show 0 + 5 ≤ 5 from by omega), (show 0 + 25 ≤ 25 from by omega)⟩ dX0_cutFor_4) (fun H locs hI => ?_)
    refine lv_i2l hx hb dX0_cutFor_7 rfl ?_
    refine g_last X hI hr dX0_cutFor_8 (fun h9 H locs hI hr => ?_)
    refine lv_goto (tgt := 15) hx hb dX0_cutFor_9 (by decide) ?_
    refine lv_iconst (v := 0) hx hb dX0_cutFor_15 (by decide) ?_
    have hr := gS_i hr
    subst hr
    exact g_xiret X hI rfl (show (0 + 5) ≤ 5 from by omega) (show (0 + 25) ≤ 25 from by omega) dX0_cutFor_16
  · refine gXThr (k := q4.1) (q := q4.2) (g_xrunV X hI (w_X1_cutFor hst hc2) ho1 rfl hl (lw_V q1379 q1380 q1381 q96 q1382) rfl rfl hd_X1_cutFor ⟨Nat.le_of_ble_eq_true rfl, Nat.le_of_ble_eq_true rfl⟩ (as := [.int z1]) (rest := [.int (0 : Int32), .ref z2]) rfl rfl (Nat.le_of_ble_eq_true rfl) ⟨(show 0 + 5 ≤ 5 from by omega), (show 0 + 25 ≤ 25 from by omega)⟩ dX0_cutFor_4) (fun H locs hI hxc => ?_)
    by_cases c10 : q4.1 = 12
    · replace hr := gIf_t c10 hr
      refine g_catch (a := 0) (b := 9) (hp := 12) (ct := 29) X hxc hxt (pre := []) (suf := []) rfl gPs_0 (by decide) (by decide) (j := 12) c10 q1147 ?_
      refine lv_astore_n (lv' := [(3, .ref q4.2), (0, .ref z0), (1, .int z1), (2, .ref z2)]) hx hb dX0_cutFor_12 rfl hl (by decide) rfl (fun ls hl => ?_)
      refine lv_iconst (v := 1) hx hb dX0_cutFor_13 (by decide) ?_
      have hr := gS_i hr
      subst hr
      exact g_xiret X hI rfl (show (0 + 5) ≤ 5 from by omega) (show (0 + 25) ≤ 25 from by omega) dX0_cutFor_14
    replace hr := gIf_f c10 hr
    have hr := gS_i hr
    subst hr
    exact g_xout X hI hxc hxt (gPs_c (Or.inr ⟨by decide, 12, by decide, c10, q1147⟩) gPs_0) (show (0 + 5) ≤ 5 from by omega) (show (0 + 25) ≤ 25 from by omega)
abbrev rm_X0_welfareByKnife : Room := { frames := 11, cells := 10, slots := 67, locals := 225 }
theorem hd_X0_welfareByKnife : yX0_welfareByKnife.cls ≠ "java/lang/invoke/MethodHandle" ∧ yX0_welfareByKnife.cls ≠ "java/lang/invoke/VarHandle" ∧ (parseMethodDescriptor yX0_welfareByKnife.desc).map (fun d => d.parameters.length) = some 3 := by decide +kernel
set_option maxHeartbeats 2000000 in
theorem w_X0_welfareByKnife {l : Launch} {x : gV} {base : Nat} (hst : l.stackTraces = false) {z0 : Nat} {z1 : Int32} {z2 : Nat} {h : gH} {n : Nat} {res : (Int32 ⊕ gX) × gH × Nat} (hr : f_X0_welfareByKnife z0 z1 z2 h n = some res) : gMX l yX0_welfareByKnife (wsW_ yX0_welfareByKnife cX0_welfareByKnife 4 (some .int) [(0, 9, 12, 29)]) rm_X0_welfareByKnife x base (fun v => some (.int v)) [.ref z0, .int z1, .ref z2] h n res 10 67 := by
  refine g_metW (cc := cX0_welfareByKnife) (nL := 4) (ret := (some .int)) (by decide) (Nat.le_of_ble_eq_true rfl) (fun p e s m below meth c ls X hnm hxt hl hI => ?_)
  have hl : lv_has ls 4 [(0, .ref z0), (1, .int z1), (2, .ref z2)] := hl
  have hx := X.1
  have hb := X.2.1
  have hcc : 0 + 10 ≤ 10 ∧ 0 + 67 ≤ 67 := ⟨Nat.le_refl _, Nat.le_refl _⟩
  unfold f_X0_welfareByKnife at hr
  refine lv_aload_n hx hb dX0_welfareByKnife_0 rfl (lv_at hl 2 rfl) ?_
  refine lv_iconst (v := 0) hx hb dX0_welfareByKnife_1 (by decide) ?_
  refine lv_aload_n hx hb dX0_welfareByKnife_2 rfl (lv_at hl 0 rfl) ?_
  refine lv_iload_n hx hb dX0_welfareByKnife_3 rfl (lv_at hl 1 rfl) ?_
  obtain ⟨_, ho1, hr⟩ := gB_i hr
  rcases gTX_i hr with ⟨v3, h5, n6, hc2, hr⟩ | ⟨q4, h7, n8, hc2, hr⟩
  · refine gXRet_i (g_xrunV X hI (w_X1_welfareByKnife hst hc2) ho1 rfl hl (lw_V q1395 q1396 q1397 q96 q1398) rfl rfl hd_X1_welfareByKnife ⟨Nat.le_of_ble_eq_true rfl, Nat.le_of_ble_eq_true rfl⟩ (as := [.int z1]) (rest := [.int (0 : Int32), .ref z2]) rfl rfl (Nat.le_of_ble_eq_true rfl) ⟨(show 0 + 10 ≤ 10 from by omega), (show 0 + 67 ≤ 67 from by omega)⟩ dX0_welfareByKnife_4) (fun H locs hI => ?_)
    refine lv_i2l hx hb dX0_welfareByKnife_7 rfl ?_
    refine g_last X hI hr dX0_welfareByKnife_8 (fun h9 H locs hI hr => ?_)
    refine lv_goto (tgt := 15) hx hb dX0_welfareByKnife_9 (by decide) ?_
    refine lv_iconst (v := 0) hx hb dX0_welfareByKnife_15 (by decide) ?_
    have hr := gS_i hr
    subst hr
    exact g_xiret X hI rfl (show (0 + 10) ≤ 10 from by omega) (show (0 + 67) ≤ 67 from by omega) dX0_welfareByKnife_16
  · refine gXThr (k := q4.1) (q := q4.2) (g_xrunV X hI (w_X1_welfareByKnife hst hc2) ho1 rfl hl (lw_V q1395 q1396 q1397 q96 q1398) rfl rfl hd_X1_welfareByKnife ⟨Nat.le_of_ble_eq_true rfl, Nat.le_of_ble_eq_true rfl⟩ (as := [.int z1]) (rest := [.int (0 : Int32), .ref z2]) rfl rfl (Nat.le_of_ble_eq_true rfl) ⟨(show 0 + 10 ≤ 10 from by omega), (show 0 + 67 ≤ 67 from by omega)⟩ dX0_welfareByKnife_4) (fun H locs hI hxc => ?_)
    by_cases c10 : q4.1 = 12
    · replace hr := gIf_t c10 hr
      refine g_catch (a := 0) (b := 9) (hp := 12) (ct := 29) X hxc hxt (pre := []) (suf := []) rfl gPs_0 (by decide) (by decide) (j := 12) c10 q1147 ?_
      refine lv_astore_n (lv' := [(3, .ref q4.2), (0, .ref z0), (1, .int z1), (2, .ref z2)]) hx hb dX0_welfareByKnife_12 rfl hl (by decide) rfl (fun ls hl => ?_)
      refine lv_iconst (v := 1) hx hb dX0_welfareByKnife_13 (by decide) ?_
      have hr := gS_i hr
      subst hr
      exact g_xiret X hI rfl (show (0 + 10) ≤ 10 from by omega) (show (0 + 67) ≤ 67 from by omega) dX0_welfareByKnife_14
    replace hr := gIf_f c10 hr
    have hr := gS_i hr
    subst hr
    exact g_xout X hI hxc hxt (gPs_c (Or.inr ⟨by decide, 12, by decide, c10, q1147⟩) gPs_0) (show (0 + 10) ≤ 10 from by omega) (show (0 + 67) ≤ 67 from by omega)
abbrev rm_X0_welfareByRobin : Room := { frames := 11, cells := 10, slots := 68, locals := 225 }
theorem hd_X0_welfareByRobin : yX0_welfareByRobin.cls ≠ "java/lang/invoke/MethodHandle" ∧ yX0_welfareByRobin.cls ≠ "java/lang/invoke/VarHandle" ∧ (parseMethodDescriptor yX0_welfareByRobin.desc).map (fun d => d.parameters.length) = some 4 := by decide +kernel
set_option maxHeartbeats 2000000 in
theorem w_X0_welfareByRobin {l : Launch} {x : gV} {base : Nat} (hst : l.stackTraces = false) {z0 : Nat} {z1 : Int32} {z2 : Int32} {z3 : Nat} {h : gH} {n : Nat} {res : (Int32 ⊕ gX) × gH × Nat} (hr : f_X0_welfareByRobin z0 z1 z2 z3 h n = some res) : gMX l yX0_welfareByRobin (wsW_ yX0_welfareByRobin cX0_welfareByRobin 5 (some .int) [(0, 10, 13, 29)]) rm_X0_welfareByRobin x base (fun v => some (.int v)) [.ref z0, .int z1, .int z2, .ref z3] h n res 10 68 := by
  refine g_metW (cc := cX0_welfareByRobin) (nL := 5) (ret := (some .int)) (by decide) (Nat.le_of_ble_eq_true rfl) (fun p e s m below meth c ls X hnm hxt hl hI => ?_)
  have hl : lv_has ls 5 [(0, .ref z0), (1, .int z1), (2, .int z2), (3, .ref z3)] := hl
  have hx := X.1
  have hb := X.2.1
  have hcc : 0 + 10 ≤ 10 ∧ 0 + 68 ≤ 68 := ⟨Nat.le_refl _, Nat.le_refl _⟩
  unfold f_X0_welfareByRobin at hr
  refine lv_aload_n hx hb dX0_welfareByRobin_0 rfl (lv_at hl 3 rfl) ?_
  refine lv_iconst (v := 0) hx hb dX0_welfareByRobin_1 (by decide) ?_
  refine lv_aload_n hx hb dX0_welfareByRobin_2 rfl (lv_at hl 0 rfl) ?_
  refine lv_iload_n hx hb dX0_welfareByRobin_3 rfl (lv_at hl 1 rfl) ?_
  refine lv_iload_n hx hb dX0_welfareByRobin_4 rfl (lv_at hl 2 rfl) ?_
  obtain ⟨_, ho1, hr⟩ := gB_i hr
  rcases gTX_i hr with ⟨v3, h5, n6, hc2, hr⟩ | ⟨q4, h7, n8, hc2, hr⟩
  · refine gXRet_i (g_xrunV X hI (w_X1_welfareByRobin hst hc2) ho1 rfl hl (lw_V q1402 q1403 q1404 q96 q1405) rfl rfl hd_X1_welfareByRobin ⟨Nat.le_of_ble_eq_true rfl, Nat.le_of_ble_eq_true rfl⟩ (as := [.int z1, .int z2]) (rest := [.int (0 : Int32), .ref z3]) rfl rfl (Nat.le_of_ble_eq_true rfl) ⟨(show 0 + 10 ≤ 10 from by omega), (show 0 + 68 ≤ 68 from by omega)⟩ dX0_welfareByRobin_5) (fun H locs hI => ?_)
    refine lv_i2l hx hb dX0_welfareByRobin_8 rfl ?_
    refine g_last X hI hr dX0_welfareByRobin_9 (fun h9 H locs hI hr => ?_)
    refine lv_goto (tgt := 17) hx hb dX0_welfareByRobin_10 (by decide) ?_
    refine lv_iconst (v := 0) hx hb dX0_welfareByRobin_17 (by decide) ?_
    have hr := gS_i hr
    subst hr
    exact g_xiret X hI rfl (show (0 + 10) ≤ 10 from by omega) (show (0 + 68) ≤ 68 from by omega) dX0_welfareByRobin_18
  · refine gXThr (k := q4.1) (q := q4.2) (g_xrunV X hI (w_X1_welfareByRobin hst hc2) ho1 rfl hl (lw_V q1402 q1403 q1404 q96 q1405) rfl rfl hd_X1_welfareByRobin ⟨Nat.le_of_ble_eq_true rfl, Nat.le_of_ble_eq_true rfl⟩ (as := [.int z1, .int z2]) (rest := [.int (0 : Int32), .ref z3]) rfl rfl (Nat.le_of_ble_eq_true rfl) ⟨(show 0 + 10 ≤ 10 from by omega), (show 0 + 68 ≤ 68 from by omega)⟩ dX0_welfareByRobin_5) (fun H locs hI hxc => ?_)
    by_cases c10 : q4.1 = 12
    · replace hr := gIf_t c10 hr
      refine g_catch (a := 0) (b := 10) (hp := 13) (ct := 29) X hxc hxt (pre := []) (suf := []) rfl gPs_0 (by decide) (by decide) (j := 12) c10 q1147 ?_
      refine lv_astore (lv' := [(4, .ref q4.2), (0, .ref z0), (1, .int z1), (2, .int z2), (3, .ref z3)]) hx hb dX0_welfareByRobin_13 hl (by decide) rfl (fun ls hl => ?_)
      refine lv_iconst (v := 1) hx hb dX0_welfareByRobin_15 (by decide) ?_
      have hr := gS_i hr
      subst hr
      exact g_xiret X hI rfl (show (0 + 10) ≤ 10 from by omega) (show (0 + 68) ≤ 68 from by omega) dX0_welfareByRobin_16
    replace hr := gIf_f c10 hr
    have hr := gS_i hr
    subst hr
    exact g_xout X hI hxc hxt (gPs_c (Or.inr ⟨by decide, 12, by decide, c10, q1147⟩) gPs_0) (show (0 + 10) ≤ 10 from by omega) (show (0 + 68) ≤ 68 from by omega)
abbrev rm_X0_give : Room := { frames := 12, cells := 11, slots := 73, locals := 250 }
theorem hd_X0_give : yX0_give.cls ≠ "java/lang/invoke/MethodHandle" ∧ yX0_give.cls ≠ "java/lang/invoke/VarHandle" ∧ (parseMethodDescriptor yX0_give.desc).map (fun d => d.parameters.length) = some 5 := by decide +kernel
set_option maxHeartbeats 2000000 in
theorem w_X0_give {l : Launch} {x : gV} {base : Nat} (hst : l.stackTraces = false) {z0 : Nat} {z1 : Int32} {z2 : Int32} {z3 : Int32} {z4 : Nat} {h : gH} {n : Nat} {res : (Int32 ⊕ gX) × gH × Nat} (hr : f_X0_give z0 z1 z2 z3 z4 h n = some res) : gMX l yX0_give (wsW_ yX0_give cX0_give 6 (some .int) [(0, 12, 15, 29), (0, 12, 19, 19)]) rm_X0_give x base (fun v => some (.int v)) [.ref z0, .int z1, .int z2, .int z3, .ref z4] h n res 11 73 := by
  refine g_metW (cc := cX0_give) (nL := 6) (ret := (some .int)) (by decide) (Nat.le_of_ble_eq_true rfl) (fun p e s m below meth c ls X hnm hxt hl hI => ?_)
  have hl : lv_has ls 6 [(0, .ref z0), (1, .int z1), (2, .int z2), (3, .int z3), (4, .ref z4)] := hl
  have hx := X.1
  have hb := X.2.1
  have hcc : 0 + 11 ≤ 11 ∧ 0 + 73 ≤ 73 := ⟨Nat.le_refl _, Nat.le_refl _⟩
  unfold f_X0_give at hr
  refine lv_aload hx hb dX0_give_0 (lv_at hl 4 rfl) ?_
  refine lv_iconst (v := 0) hx hb dX0_give_2 (by decide) ?_
  refine lv_aload_n hx hb dX0_give_3 rfl (lv_at hl 0 rfl) ?_
  refine lv_iload_n hx hb dX0_give_4 rfl (lv_at hl 1 rfl) ?_
  refine lv_iload_n hx hb dX0_give_5 rfl (lv_at hl 2 rfl) ?_
  refine lv_iload_n hx hb dX0_give_6 rfl (lv_at hl 3 rfl) ?_
  obtain ⟨_, ho1, hr⟩ := gB_i hr
  rcases gTX_i hr with ⟨v3, h5, n6, hc2, hr⟩ | ⟨q4, h7, n8, hc2, hr⟩
  · refine gXRet_i (g_xrunV X hI (w_X1_give hst hc2) ho1 rfl hl (lw_V q1409 q1410 q1411 q96 q1412) rfl rfl hd_X1_give ⟨Nat.le_of_ble_eq_true rfl, Nat.le_of_ble_eq_true rfl⟩ (as := [.int z1, .int z2, .int z3]) (rest := [.int (0 : Int32), .ref z4]) rfl rfl (Nat.le_of_ble_eq_true rfl) ⟨(show 0 + 11 ≤ 11 from by omega), (show 0 + 73 ≤ 73 from by omega)⟩ dX0_give_7) (fun H locs hI => ?_)
    refine lv_i2l hx hb dX0_give_10 rfl ?_
    refine g_last X hI hr dX0_give_11 (fun h9 H locs hI hr => ?_)
    refine lv_goto (tgt := 23) hx hb dX0_give_12 (by decide) ?_
    refine lv_iconst (v := 0) hx hb dX0_give_23 (by decide) ?_
    have hr := gS_i hr
    subst hr
    exact g_xiret X hI rfl (show (0 + 11) ≤ 11 from by omega) (show (0 + 73) ≤ 73 from by omega) dX0_give_24
  · refine gXThr (k := q4.1) (q := q4.2) (g_xrunV X hI (w_X1_give hst hc2) ho1 rfl hl (lw_V q1409 q1410 q1411 q96 q1412) rfl rfl hd_X1_give ⟨Nat.le_of_ble_eq_true rfl, Nat.le_of_ble_eq_true rfl⟩ (as := [.int z1, .int z2, .int z3]) (rest := [.int (0 : Int32), .ref z4]) rfl rfl (Nat.le_of_ble_eq_true rfl) ⟨(show 0 + 11 ≤ 11 from by omega), (show 0 + 73 ≤ 73 from by omega)⟩ dX0_give_7) (fun H locs hI hxc => ?_)
    by_cases c10 : q4.1 = 12
    · replace hr := gIf_t c10 hr
      refine g_catch (a := 0) (b := 12) (hp := 15) (ct := 29) X hxc hxt (pre := []) (suf := [(0, 12, 19, 19)]) rfl gPs_0 (by decide) (by decide) (j := 12) c10 q1147 ?_
      refine lv_astore (lv' := [(5, .ref q4.2), (0, .ref z0), (1, .int z1), (2, .int z2), (3, .int z3), (4, .ref z4)]) hx hb dX0_give_15 hl (by decide) rfl (fun ls hl => ?_)
      refine lv_iconst (v := 1) hx hb dX0_give_17 (by decide) ?_
      have hr := gS_i hr
      subst hr
      exact g_xiret X hI rfl (show (0 + 11) ≤ 11 from by omega) (show (0 + 73) ≤ 73 from by omega) dX0_give_18
    replace hr := gIf_f c10 hr
    by_cases c11 : q4.1 = 11
    · replace hr := gIf_t c11 hr
      refine g_catch (a := 0) (b := 12) (hp := 19) (ct := 19) X hxc hxt (pre := [(0, 12, 15, 29)]) (suf := []) rfl (gPs_c (Or.inr ⟨by decide, 12, by decide, c10, q1147⟩) gPs_0) (by decide) (by decide) (j := 11) c11 q1116 ?_
      refine lv_astore (lv' := [(5, .ref q4.2), (0, .ref z0), (1, .int z1), (2, .int z2), (3, .int z3), (4, .ref z4)]) hx hb dX0_give_19 hl (by decide) rfl (fun ls hl => ?_)
      refine lv_iconst (v := 2) hx hb dX0_give_21 (by decide) ?_
      have hr := gS_i hr
      subst hr
      exact g_xiret X hI rfl (show (0 + 11) ≤ 11 from by omega) (show (0 + 73) ≤ 73 from by omega) dX0_give_22
    replace hr := gIf_f c11 hr
    have hr := gS_i hr
    subst hr
    exact g_xout X hI hxc hxt (gPs_c (Or.inr ⟨by decide, 12, by decide, c10, q1147⟩) (gPs_c (Or.inr ⟨by decide, 11, by decide, c11, q1116⟩) gPs_0)) (show (0 + 11) ≤ 11 from by omega) (show (0 + 73) ≤ 73 from by omega)
abbrev rm_X0_release : Room := { frames := 12, cells := 6, slots := 48, locals := 247 }
theorem hd_X0_release : yX0_release.cls ≠ "java/lang/invoke/MethodHandle" ∧ yX0_release.cls ≠ "java/lang/invoke/VarHandle" ∧ (parseMethodDescriptor yX0_release.desc).map (fun d => d.parameters.length) = some 4 := by decide +kernel
set_option maxHeartbeats 2000000 in
theorem w_X0_release {l : Launch} {x : gV} {base : Nat} (hst : l.stackTraces = false) {z0 : Nat} {z1 : Int32} {z2 : Int32} {z3 : Nat} {h : gH} {n : Nat} {res : (Int32 ⊕ gX) × gH × Nat} (hr : f_X0_release z0 z1 z2 z3 h n = some res) : gMX l yX0_release (wsW_ yX0_release cX0_release 5 (some .int) [(0, 10, 13, 19)]) rm_X0_release x base (fun v => some (.int v)) [.ref z0, .int z1, .int z2, .ref z3] h n res 6 48 := by
  refine g_metW (cc := cX0_release) (nL := 5) (ret := (some .int)) (by decide) (Nat.le_of_ble_eq_true rfl) (fun p e s m below meth c ls X hnm hxt hl hI => ?_)
  have hl : lv_has ls 5 [(0, .ref z0), (1, .int z1), (2, .int z2), (3, .ref z3)] := hl
  have hx := X.1
  have hb := X.2.1
  have hcc : 0 + 6 ≤ 6 ∧ 0 + 48 ≤ 48 := ⟨Nat.le_refl _, Nat.le_refl _⟩
  unfold f_X0_release at hr
  refine lv_aload_n hx hb dX0_release_0 rfl (lv_at hl 3 rfl) ?_
  refine lv_iconst (v := 0) hx hb dX0_release_1 (by decide) ?_
  refine lv_aload_n hx hb dX0_release_2 rfl (lv_at hl 0 rfl) ?_
  refine lv_iload_n hx hb dX0_release_3 rfl (lv_at hl 1 rfl) ?_
  refine lv_iload_n hx hb dX0_release_4 rfl (lv_at hl 2 rfl) ?_
  obtain ⟨_, ho1, hr⟩ := gB_i hr
  rcases gTX_i hr with ⟨v3, h5, n6, hc2, hr⟩ | ⟨q4, h7, n8, hc2, hr⟩
  · refine gXRet_i (g_xrunV X hI (w_X1_release hst hc2) ho1 rfl hl (lw_V q1421 q1422 q1423 q96 q1424) rfl rfl hd_X1_release ⟨Nat.le_of_ble_eq_true rfl, Nat.le_of_ble_eq_true rfl⟩ (as := [.int z1, .int z2]) (rest := [.int (0 : Int32), .ref z3]) rfl rfl (Nat.le_of_ble_eq_true rfl) ⟨(show 0 + 6 ≤ 6 from by omega), (show 0 + 48 ≤ 48 from by omega)⟩ dX0_release_5) (fun H locs hI => ?_)
    refine lv_i2l hx hb dX0_release_8 rfl ?_
    refine g_last X hI hr dX0_release_9 (fun h9 H locs hI hr => ?_)
    refine lv_goto (tgt := 17) hx hb dX0_release_10 (by decide) ?_
    refine lv_iconst (v := 0) hx hb dX0_release_17 (by decide) ?_
    have hr := gS_i hr
    subst hr
    exact g_xiret X hI rfl (show (0 + 6) ≤ 6 from by omega) (show (0 + 48) ≤ 48 from by omega) dX0_release_18
  · refine gXThr (k := q4.1) (q := q4.2) (g_xrunV X hI (w_X1_release hst hc2) ho1 rfl hl (lw_V q1421 q1422 q1423 q96 q1424) rfl rfl hd_X1_release ⟨Nat.le_of_ble_eq_true rfl, Nat.le_of_ble_eq_true rfl⟩ (as := [.int z1, .int z2]) (rest := [.int (0 : Int32), .ref z3]) rfl rfl (Nat.le_of_ble_eq_true rfl) ⟨(show 0 + 6 ≤ 6 from by omega), (show 0 + 48 ≤ 48 from by omega)⟩ dX0_release_5) (fun H locs hI hxc => ?_)
    by_cases c10 : q4.1 = 11
    · replace hr := gIf_t c10 hr
      refine g_catch (a := 0) (b := 10) (hp := 13) (ct := 19) X hxc hxt (pre := []) (suf := []) rfl gPs_0 (by decide) (by decide) (j := 11) c10 q1116 ?_
      refine lv_astore (lv' := [(4, .ref q4.2), (0, .ref z0), (1, .int z1), (2, .int z2), (3, .ref z3)]) hx hb dX0_release_13 hl (by decide) rfl (fun ls hl => ?_)
      refine lv_iconst (v := 1) hx hb dX0_release_15 (by decide) ?_
      have hr := gS_i hr
      subst hr
      exact g_xiret X hI rfl (show (0 + 6) ≤ 6 from by omega) (show (0 + 48) ≤ 48 from by omega) dX0_release_16
    replace hr := gIf_f c10 hr
    have hr := gS_i hr
    subst hr
    exact g_xout X hI hxc hxt (gPs_c (Or.inr ⟨by decide, 11, by decide, c10, q1116⟩) gPs_0) (show (0 + 6) ≤ 6 from by omega) (show (0 + 48) ≤ 48 from by omega)
abbrev rm_X0_swapShares : Room := { frames := 12, cells := 11, slots := 74, locals := 250 }
theorem hd_X0_swapShares : yX0_swapShares.cls ≠ "java/lang/invoke/MethodHandle" ∧ yX0_swapShares.cls ≠ "java/lang/invoke/VarHandle" ∧ (parseMethodDescriptor yX0_swapShares.desc).map (fun d => d.parameters.length) = some 4 := by decide +kernel
set_option maxHeartbeats 2000000 in
theorem w_X0_swapShares {l : Launch} {x : gV} {base : Nat} (hst : l.stackTraces = false) {z0 : Nat} {z1 : Int32} {z2 : Int32} {z3 : Nat} {h : gH} {n : Nat} {res : (Int32 ⊕ gX) × gH × Nat} (hr : f_X0_swapShares z0 z1 z2 z3 h n = some res) : gMX l yX0_swapShares (wsW_ yX0_swapShares cX0_swapShares 5 (some .int) [(0, 10, 13, 29), (0, 10, 17, 13)]) rm_X0_swapShares x base (fun v => some (.int v)) [.ref z0, .int z1, .int z2, .ref z3] h n res 11 74 := by
  refine g_metW (cc := cX0_swapShares) (nL := 5) (ret := (some .int)) (by decide) (Nat.le_of_ble_eq_true rfl) (fun p e s m below meth c ls X hnm hxt hl hI => ?_)
  have hl : lv_has ls 5 [(0, .ref z0), (1, .int z1), (2, .int z2), (3, .ref z3)] := hl
  have hx := X.1
  have hb := X.2.1
  have hcc : 0 + 11 ≤ 11 ∧ 0 + 74 ≤ 74 := ⟨Nat.le_refl _, Nat.le_refl _⟩
  unfold f_X0_swapShares at hr
  refine lv_aload_n hx hb dX0_swapShares_0 rfl (lv_at hl 3 rfl) ?_
  refine lv_iconst (v := 0) hx hb dX0_swapShares_1 (by decide) ?_
  refine lv_aload_n hx hb dX0_swapShares_2 rfl (lv_at hl 0 rfl) ?_
  refine lv_iload_n hx hb dX0_swapShares_3 rfl (lv_at hl 1 rfl) ?_
  refine lv_iload_n hx hb dX0_swapShares_4 rfl (lv_at hl 2 rfl) ?_
  obtain ⟨_, ho1, hr⟩ := gB_i hr
  rcases gTX_i hr with ⟨v3, h5, n6, hc2, hr⟩ | ⟨q4, h7, n8, hc2, hr⟩
  · refine gXRet_i (g_xrunV X hI (w_X1_swapShares hst hc2) ho1 rfl hl (lw_V q1433 q1434 q1435 q96 q1436) rfl rfl hd_X1_swapShares ⟨Nat.le_of_ble_eq_true rfl, Nat.le_of_ble_eq_true rfl⟩ (as := [.int z1, .int z2]) (rest := [.int (0 : Int32), .ref z3]) rfl rfl (Nat.le_of_ble_eq_true rfl) ⟨(show 0 + 11 ≤ 11 from by omega), (show 0 + 74 ≤ 74 from by omega)⟩ dX0_swapShares_5) (fun H locs hI => ?_)
    refine lv_i2l hx hb dX0_swapShares_8 rfl ?_
    refine g_last X hI hr dX0_swapShares_9 (fun h9 H locs hI hr => ?_)
    refine lv_goto (tgt := 21) hx hb dX0_swapShares_10 (by decide) ?_
    refine lv_iconst (v := 0) hx hb dX0_swapShares_21 (by decide) ?_
    have hr := gS_i hr
    subst hr
    exact g_xiret X hI rfl (show (0 + 11) ≤ 11 from by omega) (show (0 + 74) ≤ 74 from by omega) dX0_swapShares_22
  · refine gXThr (k := q4.1) (q := q4.2) (g_xrunV X hI (w_X1_swapShares hst hc2) ho1 rfl hl (lw_V q1433 q1434 q1435 q96 q1436) rfl rfl hd_X1_swapShares ⟨Nat.le_of_ble_eq_true rfl, Nat.le_of_ble_eq_true rfl⟩ (as := [.int z1, .int z2]) (rest := [.int (0 : Int32), .ref z3]) rfl rfl (Nat.le_of_ble_eq_true rfl) ⟨(show 0 + 11 ≤ 11 from by omega), (show 0 + 74 ≤ 74 from by omega)⟩ dX0_swapShares_5) (fun H locs hI hxc => ?_)
    by_cases c10 : q4.1 = 12
    · replace hr := gIf_t c10 hr
      refine g_catch (a := 0) (b := 10) (hp := 13) (ct := 29) X hxc hxt (pre := []) (suf := [(0, 10, 17, 13)]) rfl gPs_0 (by decide) (by decide) (j := 12) c10 q1147 ?_
      refine lv_astore (lv' := [(4, .ref q4.2), (0, .ref z0), (1, .int z1), (2, .int z2), (3, .ref z3)]) hx hb dX0_swapShares_13 hl (by decide) rfl (fun ls hl => ?_)
      refine lv_iconst (v := 1) hx hb dX0_swapShares_15 (by decide) ?_
      have hr := gS_i hr
      subst hr
      exact g_xiret X hI rfl (show (0 + 11) ≤ 11 from by omega) (show (0 + 74) ≤ 74 from by omega) dX0_swapShares_16
    replace hr := gIf_f c10 hr
    by_cases c11 : q4.1 = 10
    · replace hr := gIf_t c11 hr
      refine g_catch (a := 0) (b := 10) (hp := 17) (ct := 13) X hxc hxt (pre := [(0, 10, 13, 29)]) (suf := []) rfl (gPs_c (Or.inr ⟨by decide, 12, by decide, c10, q1147⟩) gPs_0) (by decide) (by decide) (j := 10) c11 q1099 ?_
      refine lv_astore (lv' := [(4, .ref q4.2), (0, .ref z0), (1, .int z1), (2, .int z2), (3, .ref z3)]) hx hb dX0_swapShares_17 hl (by decide) rfl (fun ls hl => ?_)
      refine lv_iconst (v := 2) hx hb dX0_swapShares_19 (by decide) ?_
      have hr := gS_i hr
      subst hr
      exact g_xiret X hI rfl (show (0 + 11) ≤ 11 from by omega) (show (0 + 74) ≤ 74 from by omega) dX0_swapShares_20
    replace hr := gIf_f c11 hr
    have hr := gS_i hr
    subst hr
    exact g_xout X hI hxc hxt (gPs_c (Or.inr ⟨by decide, 12, by decide, c10, q1147⟩) (gPs_c (Or.inr ⟨by decide, 10, by decide, c11, q1099⟩) gPs_0)) (show (0 + 11) ≤ 11 from by omega) (show (0 + 74) ≤ 74 from by omega)
abbrev rm_X0_setValue : Room := { frames := 13, cells := 14, slots := 105, locals := 272 }
theorem hd_X0_setValue : yX0_setValue.cls ≠ "java/lang/invoke/MethodHandle" ∧ yX0_setValue.cls ≠ "java/lang/invoke/VarHandle" ∧ (parseMethodDescriptor yX0_setValue.desc).map (fun d => d.parameters.length) = some 5 := by decide +kernel
set_option maxHeartbeats 2000000 in
theorem w_X0_setValue {l : Launch} {x : gV} {base : Nat} (hst : l.stackTraces = false) {z0 : Nat} {z1 : Int32} {z2 : Int32} {z3 : Int32} {z4 : Nat} {h : gH} {n : Nat} {res : (Int32 ⊕ gX) × gH × Nat} (hr : f_X0_setValue z0 z1 z2 z3 z4 h n = some res) : gMX l yX0_setValue (wsW_ yX0_setValue cX0_setValue 6 (some .int) [(0, 12, 15, 29), (0, 12, 19, 19)]) rm_X0_setValue x base (fun v => some (.int v)) [.ref z0, .int z1, .int z2, .int z3, .ref z4] h n res 14 105 := by
  refine g_metW (cc := cX0_setValue) (nL := 6) (ret := (some .int)) (by decide) (Nat.le_of_ble_eq_true rfl) (fun p e s m below meth c ls X hnm hxt hl hI => ?_)
  have hl : lv_has ls 6 [(0, .ref z0), (1, .int z1), (2, .int z2), (3, .int z3), (4, .ref z4)] := hl
  have hx := X.1
  have hb := X.2.1
  have hcc : 0 + 14 ≤ 14 ∧ 0 + 105 ≤ 105 := ⟨Nat.le_refl _, Nat.le_refl _⟩
  unfold f_X0_setValue at hr
  refine lv_aload hx hb dX0_setValue_0 (lv_at hl 4 rfl) ?_
  refine lv_iconst (v := 0) hx hb dX0_setValue_2 (by decide) ?_
  refine lv_aload_n hx hb dX0_setValue_3 rfl (lv_at hl 0 rfl) ?_
  refine lv_iload_n hx hb dX0_setValue_4 rfl (lv_at hl 1 rfl) ?_
  refine lv_iload_n hx hb dX0_setValue_5 rfl (lv_at hl 2 rfl) ?_
  refine lv_iload_n hx hb dX0_setValue_6 rfl (lv_at hl 3 rfl) ?_
  obtain ⟨_, ho1, hr⟩ := gB_i hr
  rcases gTX_i hr with ⟨v3, h5, n6, hc2, hr⟩ | ⟨q4, h7, n8, hc2, hr⟩
  · refine gXRet_i (g_xrunV X hI (w_X1_setValue hst hc2) ho1 rfl hl (lw_V q1444 q1445 q1446 q96 q1447) rfl rfl hd_X1_setValue ⟨Nat.le_of_ble_eq_true rfl, Nat.le_of_ble_eq_true rfl⟩ (as := [.int z1, .int z2, .int z3]) (rest := [.int (0 : Int32), .ref z4]) rfl rfl (Nat.le_of_ble_eq_true rfl) ⟨(show 0 + 14 ≤ 14 from by omega), (show 0 + 105 ≤ 105 from by omega)⟩ dX0_setValue_7) (fun H locs hI => ?_)
    refine lv_i2l hx hb dX0_setValue_10 rfl ?_
    refine g_last X hI hr dX0_setValue_11 (fun h9 H locs hI hr => ?_)
    refine lv_goto (tgt := 23) hx hb dX0_setValue_12 (by decide) ?_
    refine lv_iconst (v := 0) hx hb dX0_setValue_23 (by decide) ?_
    have hr := gS_i hr
    subst hr
    exact g_xiret X hI rfl (show (0 + 14) ≤ 14 from by omega) (show (0 + 105) ≤ 105 from by omega) dX0_setValue_24
  · refine gXThr (k := q4.1) (q := q4.2) (g_xrunV X hI (w_X1_setValue hst hc2) ho1 rfl hl (lw_V q1444 q1445 q1446 q96 q1447) rfl rfl hd_X1_setValue ⟨Nat.le_of_ble_eq_true rfl, Nat.le_of_ble_eq_true rfl⟩ (as := [.int z1, .int z2, .int z3]) (rest := [.int (0 : Int32), .ref z4]) rfl rfl (Nat.le_of_ble_eq_true rfl) ⟨(show 0 + 14 ≤ 14 from by omega), (show 0 + 105 ≤ 105 from by omega)⟩ dX0_setValue_7) (fun H locs hI hxc => ?_)
    by_cases c10 : q4.1 = 12
    · replace hr := gIf_t c10 hr
      refine g_catch (a := 0) (b := 12) (hp := 15) (ct := 29) X hxc hxt (pre := []) (suf := [(0, 12, 19, 19)]) rfl gPs_0 (by decide) (by decide) (j := 12) c10 q1147 ?_
      refine lv_astore (lv' := [(5, .ref q4.2), (0, .ref z0), (1, .int z1), (2, .int z2), (3, .int z3), (4, .ref z4)]) hx hb dX0_setValue_15 hl (by decide) rfl (fun ls hl => ?_)
      refine lv_iconst (v := 1) hx hb dX0_setValue_17 (by decide) ?_
      have hr := gS_i hr
      subst hr
      exact g_xiret X hI rfl (show (0 + 14) ≤ 14 from by omega) (show (0 + 105) ≤ 105 from by omega) dX0_setValue_18
    replace hr := gIf_f c10 hr
    by_cases c11 : q4.1 = 11
    · replace hr := gIf_t c11 hr
      refine g_catch (a := 0) (b := 12) (hp := 19) (ct := 19) X hxc hxt (pre := [(0, 12, 15, 29)]) (suf := []) rfl (gPs_c (Or.inr ⟨by decide, 12, by decide, c10, q1147⟩) gPs_0) (by decide) (by decide) (j := 11) c11 q1116 ?_
      refine lv_astore (lv' := [(5, .ref q4.2), (0, .ref z0), (1, .int z1), (2, .int z2), (3, .int z3), (4, .ref z4)]) hx hb dX0_setValue_19 hl (by decide) rfl (fun ls hl => ?_)
      refine lv_iconst (v := 2) hx hb dX0_setValue_21 (by decide) ?_
      have hr := gS_i hr
      subst hr
      exact g_xiret X hI rfl (show (0 + 14) ≤ 14 from by omega) (show (0 + 105) ≤ 105 from by omega) dX0_setValue_22
    replace hr := gIf_f c11 hr
    have hr := gS_i hr
    subst hr
    exact g_xout X hI hxc hxt (gPs_c (Or.inr ⟨by decide, 12, by decide, c10, q1147⟩) (gPs_c (Or.inr ⟨by decide, 11, by decide, c11, q1116⟩) gPs_0)) (show (0 + 14) ≤ 14 from by omega) (show (0 + 105) ≤ 105 from by omega)
abbrev rm_X0_divideAndChoose : Room := { frames := 12, cells := 11, slots := 74, locals := 248 }
theorem hd_X0_divideAndChoose : yX0_divideAndChoose.cls ≠ "java/lang/invoke/MethodHandle" ∧ yX0_divideAndChoose.cls ≠ "java/lang/invoke/VarHandle" ∧ (parseMethodDescriptor yX0_divideAndChoose.desc).map (fun d => d.parameters.length) = some 4 := by decide +kernel
set_option maxHeartbeats 2000000 in
theorem w_X0_divideAndChoose {l : Launch} {x : gV} {base : Nat} (hst : l.stackTraces = false) {z0 : Nat} {z1 : Int32} {z2 : Int32} {z3 : Nat} {h : gH} {n : Nat} {res : (Int32 ⊕ gX) × gH × Nat} (hr : f_X0_divideAndChoose z0 z1 z2 z3 h n = some res) : gMX l yX0_divideAndChoose (wsW_ yX0_divideAndChoose cX0_divideAndChoose 5 (some .int) [(0, 10, 13, 29), (0, 10, 17, 13)]) rm_X0_divideAndChoose x base (fun v => some (.int v)) [.ref z0, .int z1, .int z2, .ref z3] h n res 11 74 := by
  refine g_metW (cc := cX0_divideAndChoose) (nL := 5) (ret := (some .int)) (by decide) (Nat.le_of_ble_eq_true rfl) (fun p e s m below meth c ls X hnm hxt hl hI => ?_)
  have hl : lv_has ls 5 [(0, .ref z0), (1, .int z1), (2, .int z2), (3, .ref z3)] := hl
  have hx := X.1
  have hb := X.2.1
  have hcc : 0 + 11 ≤ 11 ∧ 0 + 74 ≤ 74 := ⟨Nat.le_refl _, Nat.le_refl _⟩
  unfold f_X0_divideAndChoose at hr
  refine lv_aload_n hx hb dX0_divideAndChoose_0 rfl (lv_at hl 3 rfl) ?_
  refine lv_iconst (v := 0) hx hb dX0_divideAndChoose_1 (by decide) ?_
  refine lv_aload_n hx hb dX0_divideAndChoose_2 rfl (lv_at hl 0 rfl) ?_
  refine lv_iload_n hx hb dX0_divideAndChoose_3 rfl (lv_at hl 1 rfl) ?_
  refine lv_iload_n hx hb dX0_divideAndChoose_4 rfl (lv_at hl 2 rfl) ?_
  obtain ⟨_, ho1, hr⟩ := gB_i hr
  rcases gTX_i hr with ⟨v3, h5, n6, hc2, hr⟩ | ⟨q4, h7, n8, hc2, hr⟩
  · refine gXRet_i (g_xrunV X hI (w_X1_divideAndChoose hst hc2) ho1 rfl hl (lw_V q1463 q1464 q1465 q96 q1466) rfl rfl hd_X1_divideAndChoose ⟨Nat.le_of_ble_eq_true rfl, Nat.le_of_ble_eq_true rfl⟩ (as := [.int z1, .int z2]) (rest := [.int (0 : Int32), .ref z3]) rfl rfl (Nat.le_of_ble_eq_true rfl) ⟨(show 0 + 11 ≤ 11 from by omega), (show 0 + 74 ≤ 74 from by omega)⟩ dX0_divideAndChoose_5) (fun H locs hI => ?_)
    refine lv_i2l hx hb dX0_divideAndChoose_8 rfl ?_
    refine g_last X hI hr dX0_divideAndChoose_9 (fun h9 H locs hI hr => ?_)
    refine lv_goto (tgt := 21) hx hb dX0_divideAndChoose_10 (by decide) ?_
    refine lv_iconst (v := 0) hx hb dX0_divideAndChoose_21 (by decide) ?_
    have hr := gS_i hr
    subst hr
    exact g_xiret X hI rfl (show (0 + 11) ≤ 11 from by omega) (show (0 + 74) ≤ 74 from by omega) dX0_divideAndChoose_22
  · refine gXThr (k := q4.1) (q := q4.2) (g_xrunV X hI (w_X1_divideAndChoose hst hc2) ho1 rfl hl (lw_V q1463 q1464 q1465 q96 q1466) rfl rfl hd_X1_divideAndChoose ⟨Nat.le_of_ble_eq_true rfl, Nat.le_of_ble_eq_true rfl⟩ (as := [.int z1, .int z2]) (rest := [.int (0 : Int32), .ref z3]) rfl rfl (Nat.le_of_ble_eq_true rfl) ⟨(show 0 + 11 ≤ 11 from by omega), (show 0 + 74 ≤ 74 from by omega)⟩ dX0_divideAndChoose_5) (fun H locs hI hxc => ?_)
    by_cases c10 : q4.1 = 12
    · replace hr := gIf_t c10 hr
      refine g_catch (a := 0) (b := 10) (hp := 13) (ct := 29) X hxc hxt (pre := []) (suf := [(0, 10, 17, 13)]) rfl gPs_0 (by decide) (by decide) (j := 12) c10 q1147 ?_
      refine lv_astore (lv' := [(4, .ref q4.2), (0, .ref z0), (1, .int z1), (2, .int z2), (3, .ref z3)]) hx hb dX0_divideAndChoose_13 hl (by decide) rfl (fun ls hl => ?_)
      refine lv_iconst (v := 1) hx hb dX0_divideAndChoose_15 (by decide) ?_
      have hr := gS_i hr
      subst hr
      exact g_xiret X hI rfl (show (0 + 11) ≤ 11 from by omega) (show (0 + 74) ≤ 74 from by omega) dX0_divideAndChoose_16
    replace hr := gIf_f c10 hr
    by_cases c11 : q4.1 = 10
    · replace hr := gIf_t c11 hr
      refine g_catch (a := 0) (b := 10) (hp := 17) (ct := 13) X hxc hxt (pre := [(0, 10, 13, 29)]) (suf := []) rfl (gPs_c (Or.inr ⟨by decide, 12, by decide, c10, q1147⟩) gPs_0) (by decide) (by decide) (j := 10) c11 q1099 ?_
      refine lv_astore (lv' := [(4, .ref q4.2), (0, .ref z0), (1, .int z1), (2, .int z2), (3, .ref z3)]) hx hb dX0_divideAndChoose_17 hl (by decide) rfl (fun ls hl => ?_)
      refine lv_iconst (v := 2) hx hb dX0_divideAndChoose_19 (by decide) ?_
      have hr := gS_i hr
      subst hr
      exact g_xiret X hI rfl (show (0 + 11) ≤ 11 from by omega) (show (0 + 74) ≤ 74 from by omega) dX0_divideAndChoose_20
    replace hr := gIf_f c11 hr
    have hr := gS_i hr
    subst hr
    exact g_xout X hI hxc hxt (gPs_c (Or.inr ⟨by decide, 12, by decide, c10, q1147⟩) (gPs_c (Or.inr ⟨by decide, 10, by decide, c11, q1099⟩) gPs_0)) (show (0 + 11) ≤ 11 from by omega) (show (0 + 74) ≤ 74 from by omega)
abbrev rm_X0_roundRobin : Room := { frames := 12, cells := 10, slots := 67, locals := 246 }
theorem hd_X0_roundRobin : yX0_roundRobin.cls ≠ "java/lang/invoke/MethodHandle" ∧ yX0_roundRobin.cls ≠ "java/lang/invoke/VarHandle" ∧ (parseMethodDescriptor yX0_roundRobin.desc).map (fun d => d.parameters.length) = some 3 := by decide +kernel
set_option maxHeartbeats 2000000 in
theorem w_X0_roundRobin {l : Launch} {x : gV} {base : Nat} (hst : l.stackTraces = false) {z0 : Nat} {z1 : Int32} {z2 : Nat} {h : gH} {n : Nat} {res : (Int32 ⊕ gX) × gH × Nat} (hr : f_X0_roundRobin z0 z1 z2 h n = some res) : gMX l yX0_roundRobin (wsW_ yX0_roundRobin cX0_roundRobin 4 (some .int) [(0, 9, 12, 29)]) rm_X0_roundRobin x base (fun v => some (.int v)) [.ref z0, .int z1, .ref z2] h n res 10 67 := by
  refine g_metW (cc := cX0_roundRobin) (nL := 4) (ret := (some .int)) (by decide) (Nat.le_of_ble_eq_true rfl) (fun p e s m below meth c ls X hnm hxt hl hI => ?_)
  have hl : lv_has ls 4 [(0, .ref z0), (1, .int z1), (2, .ref z2)] := hl
  have hx := X.1
  have hb := X.2.1
  have hcc : 0 + 10 ≤ 10 ∧ 0 + 67 ≤ 67 := ⟨Nat.le_refl _, Nat.le_refl _⟩
  unfold f_X0_roundRobin at hr
  refine lv_aload_n hx hb dX0_roundRobin_0 rfl (lv_at hl 2 rfl) ?_
  refine lv_iconst (v := 0) hx hb dX0_roundRobin_1 (by decide) ?_
  refine lv_aload_n hx hb dX0_roundRobin_2 rfl (lv_at hl 0 rfl) ?_
  refine lv_iload_n hx hb dX0_roundRobin_3 rfl (lv_at hl 1 rfl) ?_
  obtain ⟨_, ho1, hr⟩ := gB_i hr
  rcases gTX_i hr with ⟨v3, h5, n6, hc2, hr⟩ | ⟨q4, h7, n8, hc2, hr⟩
  · refine gXRet_i (g_xrunV X hI (w_X1_roundRobin hst hc2) ho1 rfl hl (lw_V q1479 q1480 q1481 q96 q1482) rfl rfl hd_X1_roundRobin ⟨Nat.le_of_ble_eq_true rfl, Nat.le_of_ble_eq_true rfl⟩ (as := [.int z1]) (rest := [.int (0 : Int32), .ref z2]) rfl rfl (Nat.le_of_ble_eq_true rfl) ⟨(show 0 + 10 ≤ 10 from by omega), (show 0 + 67 ≤ 67 from by omega)⟩ dX0_roundRobin_4) (fun H locs hI => ?_)
    refine lv_i2l hx hb dX0_roundRobin_7 rfl ?_
    refine g_last X hI hr dX0_roundRobin_8 (fun h9 H locs hI hr => ?_)
    refine lv_goto (tgt := 15) hx hb dX0_roundRobin_9 (by decide) ?_
    refine lv_iconst (v := 0) hx hb dX0_roundRobin_15 (by decide) ?_
    have hr := gS_i hr
    subst hr
    exact g_xiret X hI rfl (show (0 + 10) ≤ 10 from by omega) (show (0 + 67) ≤ 67 from by omega) dX0_roundRobin_16
  · refine gXThr (k := q4.1) (q := q4.2) (g_xrunV X hI (w_X1_roundRobin hst hc2) ho1 rfl hl (lw_V q1479 q1480 q1481 q96 q1482) rfl rfl hd_X1_roundRobin ⟨Nat.le_of_ble_eq_true rfl, Nat.le_of_ble_eq_true rfl⟩ (as := [.int z1]) (rest := [.int (0 : Int32), .ref z2]) rfl rfl (Nat.le_of_ble_eq_true rfl) ⟨(show 0 + 10 ≤ 10 from by omega), (show 0 + 67 ≤ 67 from by omega)⟩ dX0_roundRobin_4) (fun H locs hI hxc => ?_)
    by_cases c10 : q4.1 = 12
    · replace hr := gIf_t c10 hr
      refine g_catch (a := 0) (b := 9) (hp := 12) (ct := 29) X hxc hxt (pre := []) (suf := []) rfl gPs_0 (by decide) (by decide) (j := 12) c10 q1147 ?_
      refine lv_astore_n (lv' := [(3, .ref q4.2), (0, .ref z0), (1, .int z1), (2, .ref z2)]) hx hb dX0_roundRobin_12 rfl hl (by decide) rfl (fun ls hl => ?_)
      refine lv_iconst (v := 1) hx hb dX0_roundRobin_13 (by decide) ?_
      have hr := gS_i hr
      subst hr
      exact g_xiret X hI rfl (show (0 + 10) ≤ 10 from by omega) (show (0 + 67) ≤ 67 from by omega) dX0_roundRobin_14
    replace hr := gIf_f c10 hr
    have hr := gS_i hr
    subst hr
    exact g_xout X hI hxc hxt (gPs_c (Or.inr ⟨by decide, 12, by decide, c10, q1147⟩) gPs_0) (show (0 + 10) ≤ 10 from by omega) (show (0 + 67) ≤ 67 from by omega)
abbrev rm_X0_rotate : Room := { frames := 12, cells := 14, slots := 89, locals := 269 }
theorem hd_X0_rotate : yX0_rotate.cls ≠ "java/lang/invoke/MethodHandle" ∧ yX0_rotate.cls ≠ "java/lang/invoke/VarHandle" ∧ (parseMethodDescriptor yX0_rotate.desc).map (fun d => d.parameters.length) = some 3 := by decide +kernel
set_option maxHeartbeats 2000000 in
theorem w_X0_rotate {l : Launch} {x : gV} {base : Nat} (hst : l.stackTraces = false) {z0 : Nat} {z1 : Int32} {z2 : Nat} {h : gH} {n : Nat} {res : (Int32 ⊕ gX) × gH × Nat} (hr : f_X0_rotate z0 z1 z2 h n = some res) : gMX l yX0_rotate (wsW_ yX0_rotate cX0_rotate 4 (some .int) [(0, 9, 12, 29), (0, 9, 15, 13)]) rm_X0_rotate x base (fun v => some (.int v)) [.ref z0, .int z1, .ref z2] h n res 14 89 := by
  refine g_metW (cc := cX0_rotate) (nL := 4) (ret := (some .int)) (by decide) (Nat.le_of_ble_eq_true rfl) (fun p e s m below meth c ls X hnm hxt hl hI => ?_)
  have hl : lv_has ls 4 [(0, .ref z0), (1, .int z1), (2, .ref z2)] := hl
  have hx := X.1
  have hb := X.2.1
  have hcc : 0 + 14 ≤ 14 ∧ 0 + 89 ≤ 89 := ⟨Nat.le_refl _, Nat.le_refl _⟩
  unfold f_X0_rotate at hr
  refine lv_aload_n hx hb dX0_rotate_0 rfl (lv_at hl 2 rfl) ?_
  refine lv_iconst (v := 0) hx hb dX0_rotate_1 (by decide) ?_
  refine lv_aload_n hx hb dX0_rotate_2 rfl (lv_at hl 0 rfl) ?_
  refine lv_iload_n hx hb dX0_rotate_3 rfl (lv_at hl 1 rfl) ?_
  obtain ⟨_, ho1, hr⟩ := gB_i hr
  rcases gTX_i hr with ⟨v3, h5, n6, hc2, hr⟩ | ⟨q4, h7, n8, hc2, hr⟩
  · refine gXRet_i (g_xrunV X hI (w_X1_rotate hst hc2) ho1 rfl hl (lw_V q1490 q1491 q1492 q96 q1493) rfl rfl hd_X1_rotate ⟨Nat.le_of_ble_eq_true rfl, Nat.le_of_ble_eq_true rfl⟩ (as := [.int z1]) (rest := [.int (0 : Int32), .ref z2]) rfl rfl (Nat.le_of_ble_eq_true rfl) ⟨(show 0 + 14 ≤ 14 from by omega), (show 0 + 89 ≤ 89 from by omega)⟩ dX0_rotate_4) (fun H locs hI => ?_)
    refine lv_i2l hx hb dX0_rotate_7 rfl ?_
    refine g_last X hI hr dX0_rotate_8 (fun h9 H locs hI hr => ?_)
    refine lv_goto (tgt := 18) hx hb dX0_rotate_9 (by decide) ?_
    refine lv_iconst (v := 0) hx hb dX0_rotate_18 (by decide) ?_
    have hr := gS_i hr
    subst hr
    exact g_xiret X hI rfl (show (0 + 14) ≤ 14 from by omega) (show (0 + 89) ≤ 89 from by omega) dX0_rotate_19
  · refine gXThr (k := q4.1) (q := q4.2) (g_xrunV X hI (w_X1_rotate hst hc2) ho1 rfl hl (lw_V q1490 q1491 q1492 q96 q1493) rfl rfl hd_X1_rotate ⟨Nat.le_of_ble_eq_true rfl, Nat.le_of_ble_eq_true rfl⟩ (as := [.int z1]) (rest := [.int (0 : Int32), .ref z2]) rfl rfl (Nat.le_of_ble_eq_true rfl) ⟨(show 0 + 14 ≤ 14 from by omega), (show 0 + 89 ≤ 89 from by omega)⟩ dX0_rotate_4) (fun H locs hI hxc => ?_)
    by_cases c10 : q4.1 = 12
    · replace hr := gIf_t c10 hr
      refine g_catch (a := 0) (b := 9) (hp := 12) (ct := 29) X hxc hxt (pre := []) (suf := [(0, 9, 15, 13)]) rfl gPs_0 (by decide) (by decide) (j := 12) c10 q1147 ?_
      refine lv_astore_n (lv' := [(3, .ref q4.2), (0, .ref z0), (1, .int z1), (2, .ref z2)]) hx hb dX0_rotate_12 rfl hl (by decide) rfl (fun ls hl => ?_)
      refine lv_iconst (v := 1) hx hb dX0_rotate_13 (by decide) ?_
      have hr := gS_i hr
      subst hr
      exact g_xiret X hI rfl (show (0 + 14) ≤ 14 from by omega) (show (0 + 89) ≤ 89 from by omega) dX0_rotate_14
    replace hr := gIf_f c10 hr
    by_cases c11 : q4.1 = 10
    · replace hr := gIf_t c11 hr
      refine g_catch (a := 0) (b := 9) (hp := 15) (ct := 13) X hxc hxt (pre := [(0, 9, 12, 29)]) (suf := []) rfl (gPs_c (Or.inr ⟨by decide, 12, by decide, c10, q1147⟩) gPs_0) (by decide) (by decide) (j := 10) c11 q1099 ?_
      refine lv_astore_n (lv' := [(3, .ref q4.2), (0, .ref z0), (1, .int z1), (2, .ref z2)]) hx hb dX0_rotate_15 rfl hl (by decide) rfl (fun ls hl => ?_)
      refine lv_iconst (v := 2) hx hb dX0_rotate_16 (by decide) ?_
      have hr := gS_i hr
      subst hr
      exact g_xiret X hI rfl (show (0 + 14) ≤ 14 from by omega) (show (0 + 89) ≤ 89 from by omega) dX0_rotate_17
    replace hr := gIf_f c11 hr
    have hr := gS_i hr
    subst hr
    exact g_xout X hI hxc hxt (gPs_c (Or.inr ⟨by decide, 12, by decide, c10, q1147⟩) (gPs_c (Or.inr ⟨by decide, 10, by decide, c11, q1099⟩) gPs_0)) (show (0 + 14) ≤ 14 from by omega) (show (0 + 89) ≤ 89 from by omega)
abbrev rm_X0_runScript : Room := { frames := 18, cells := 492, slots := 3647, locals := 535 }
theorem hd_X0_runScript : yX0_runScript.cls ≠ "java/lang/invoke/MethodHandle" ∧ yX0_runScript.cls ≠ "java/lang/invoke/VarHandle" ∧ (parseMethodDescriptor yX0_runScript.desc).map (fun d => d.parameters.length) = some 2 := by decide +kernel
set_option maxHeartbeats 2000000 in
theorem w_X0_runScript {l : Launch} {x : gV} {base : Nat} (hst : l.stackTraces = false) {z0 : Nat} {z1 : Nat} {h : gH} {n : Nat} {res : (Int32 ⊕ gX) × gH × Nat} (hr : f_X0_runScript x z0 z1 h n = some res) : gMX l yX0_runScript (wsW_ yX0_runScript cX0_runScript 3 (some .int) [(0, 8, 11, 19)]) rm_X0_runScript x base (fun v => some (.int v)) [.ref z0, .ref z1] h n res 492 3647 := by
  refine g_metW (cc := cX0_runScript) (nL := 3) (ret := (some .int)) (by decide) (Nat.le_of_ble_eq_true rfl) (fun p e s m below meth c ls X hnm hxt hl hI => ?_)
  have hl : lv_has ls 3 [(0, .ref z0), (1, .ref z1)] := hl
  have hx := X.1
  have hb := X.2.1
  have hcc : 0 + 492 ≤ 492 ∧ 0 + 3647 ≤ 3647 := ⟨Nat.le_refl _, Nat.le_refl _⟩
  unfold f_X0_runScript at hr
  refine lv_aload_n hx hb dX0_runScript_0 rfl (lv_at hl 1 rfl) ?_
  refine lv_iconst (v := 0) hx hb dX0_runScript_1 (by decide) ?_
  refine lv_aload_n hx hb dX0_runScript_2 rfl (lv_at hl 0 rfl) ?_
  obtain ⟨_, ho1, hr⟩ := gB_i hr
  rcases gTX_i hr with ⟨v3, h5, n6, hc2, hr⟩ | ⟨q4, h7, n8, hc2, hr⟩
  · refine gXRet_i (g_wrunV X hI (w_X1_runScript hst hc2) ho1 rfl hl (lw_VW q1501 q1502 q1503 q96 q1504) rfl rfl hd_X1_runScript ⟨Nat.le_of_ble_eq_true rfl, Nat.le_of_ble_eq_true rfl⟩ (as := []) (rest := [.int (0 : Int32), .ref z1]) rfl rfl (Nat.le_of_ble_eq_true rfl) ⟨(show 0 + 492 ≤ 492 from by omega), (show 0 + 3647 ≤ 3647 from by omega)⟩ dX0_runScript_3) (fun H locs hI => ?_)
    refine lv_i2l hx hb dX0_runScript_6 rfl ?_
    refine g_last X hI hr dX0_runScript_7 (fun h9 H locs hI hr => ?_)
    refine lv_goto (tgt := 14) hx hb dX0_runScript_8 (by decide) ?_
    refine lv_iconst (v := 0) hx hb dX0_runScript_14 (by decide) ?_
    have hr := gS_i hr
    subst hr
    exact g_xiret X hI rfl (show (0 + 492) ≤ 492 from by omega) (show (0 + 3647) ≤ 3647 from by omega) dX0_runScript_15
  · refine gXThr (k := q4.1) (q := q4.2) (g_wrunV X hI (w_X1_runScript hst hc2) ho1 rfl hl (lw_VW q1501 q1502 q1503 q96 q1504) rfl rfl hd_X1_runScript ⟨Nat.le_of_ble_eq_true rfl, Nat.le_of_ble_eq_true rfl⟩ (as := []) (rest := [.int (0 : Int32), .ref z1]) rfl rfl (Nat.le_of_ble_eq_true rfl) ⟨(show 0 + 492 ≤ 492 from by omega), (show 0 + 3647 ≤ 3647 from by omega)⟩ dX0_runScript_3) (fun H locs hI hxc => ?_)
    by_cases c10 : q4.1 = 11
    · replace hr := gIf_t c10 hr
      refine g_catch (a := 0) (b := 8) (hp := 11) (ct := 19) X hxc hxt (pre := []) (suf := []) rfl gPs_0 (by decide) (by decide) (j := 11) c10 q1116 ?_
      refine lv_astore_n (lv' := [(2, .ref q4.2), (0, .ref z0), (1, .ref z1)]) hx hb dX0_runScript_11 rfl hl (by decide) rfl (fun ls hl => ?_)
      refine lv_iconst (v := 1) hx hb dX0_runScript_12 (by decide) ?_
      have hr := gS_i hr
      subst hr
      exact g_xiret X hI rfl (show (0 + 492) ≤ 492 from by omega) (show (0 + 3647) ≤ 3647 from by omega) dX0_runScript_13
    replace hr := gIf_f c10 hr
    have hr := gS_i hr
    subst hr
    exact g_xout X hI hxc hxt (gPs_c (Or.inr ⟨by decide, 11, by decide, c10, q1116⟩) gPs_0) (show (0 + 492) ≤ 492 from by omega) (show (0 + 3647) ≤ 3647 from by omega)
abbrev rm_X0_undo : Room := { frames := 10, cells := 1, slots := 6, locals := 200 }
theorem hd_X0_undo : yX0_undo.cls ≠ "java/lang/invoke/MethodHandle" ∧ yX0_undo.cls ≠ "java/lang/invoke/VarHandle" ∧ (parseMethodDescriptor yX0_undo.desc).map (fun d => d.parameters.length) = some 2 := by decide +kernel
set_option maxHeartbeats 2000000 in
theorem w_X0_undo {l : Launch} {x : gV} {base : Nat} (hst : l.stackTraces = false) {z0 : Nat} {z1 : Nat} {h : gH} {n : Nat} {res : (Int32 ⊕ gX) × gH × Nat} (hr : f_X0_undo z0 z1 h n = some res) : gMX l yX0_undo (wsW_ yX0_undo cX0_undo 3 (some .int) [(0, 8, 11, 13)]) rm_X0_undo x base (fun v => some (.int v)) [.ref z0, .ref z1] h n res 1 6 := by
  refine g_metW (cc := cX0_undo) (nL := 3) (ret := (some .int)) (by decide) (Nat.le_of_ble_eq_true rfl) (fun p e s m below meth c ls X hnm hxt hl hI => ?_)
  have hl : lv_has ls 3 [(0, .ref z0), (1, .ref z1)] := hl
  have hx := X.1
  have hb := X.2.1
  have hcc : 0 + 1 ≤ 1 ∧ 0 + 6 ≤ 6 := ⟨Nat.le_refl _, Nat.le_refl _⟩
  unfold f_X0_undo at hr
  refine lv_aload_n hx hb dX0_undo_0 rfl (lv_at hl 1 rfl) ?_
  refine lv_iconst (v := 0) hx hb dX0_undo_1 (by decide) ?_
  refine lv_aload_n hx hb dX0_undo_2 rfl (lv_at hl 0 rfl) ?_
  obtain ⟨_, ho1, hr⟩ := gB_i hr
  rcases gTX_i hr with ⟨v3, h5, n6, hc2, hr⟩ | ⟨q4, h7, n8, hc2, hr⟩
  · refine gXRet_i (g_xrunV X hI (w_X1_undo hst hc2) ho1 rfl hl (lw_V q1544 q1545 q1546 q96 q1547) rfl rfl hd_X1_undo ⟨Nat.le_of_ble_eq_true rfl, Nat.le_of_ble_eq_true rfl⟩ (as := []) (rest := [.int (0 : Int32), .ref z1]) rfl rfl (Nat.le_of_ble_eq_true rfl) ⟨(show 0 + 1 ≤ 1 from by omega), (show 0 + 6 ≤ 6 from by omega)⟩ dX0_undo_3) (fun H locs hI => ?_)
    refine lv_i2l hx hb dX0_undo_6 rfl ?_
    refine g_last X hI hr dX0_undo_7 (fun h9 H locs hI hr => ?_)
    refine lv_goto (tgt := 14) hx hb dX0_undo_8 (by decide) ?_
    refine lv_iconst (v := 0) hx hb dX0_undo_14 (by decide) ?_
    have hr := gS_i hr
    subst hr
    exact g_xiret X hI rfl (show (0 + 1) ≤ 1 from by omega) (show (0 + 6) ≤ 6 from by omega) dX0_undo_15
  · refine gXThr (k := q4.1) (q := q4.2) (g_xrunV X hI (w_X1_undo hst hc2) ho1 rfl hl (lw_V q1544 q1545 q1546 q96 q1547) rfl rfl hd_X1_undo ⟨Nat.le_of_ble_eq_true rfl, Nat.le_of_ble_eq_true rfl⟩ (as := []) (rest := [.int (0 : Int32), .ref z1]) rfl rfl (Nat.le_of_ble_eq_true rfl) ⟨(show 0 + 1 ≤ 1 from by omega), (show 0 + 6 ≤ 6 from by omega)⟩ dX0_undo_3) (fun H locs hI hxc => ?_)
    by_cases c10 : q4.1 = 10
    · replace hr := gIf_t c10 hr
      refine g_catch (a := 0) (b := 8) (hp := 11) (ct := 13) X hxc hxt (pre := []) (suf := []) rfl gPs_0 (by decide) (by decide) (j := 10) c10 q1099 ?_
      refine lv_astore_n (lv' := [(2, .ref q4.2), (0, .ref z0), (1, .ref z1)]) hx hb dX0_undo_11 rfl hl (by decide) rfl (fun ls hl => ?_)
      refine lv_iconst (v := 1) hx hb dX0_undo_12 (by decide) ?_
      have hr := gS_i hr
      subst hr
      exact g_xiret X hI rfl (show (0 + 1) ≤ 1 from by omega) (show (0 + 6) ≤ 6 from by omega) dX0_undo_13
    replace hr := gIf_f c10 hr
    have hr := gS_i hr
    subst hr
    exact g_xout X hI hxc hxt (gPs_c (Or.inr ⟨by decide, 10, by decide, c10, q1099⟩) gPs_0) (show (0 + 1) ≤ 1 from by omega) (show (0 + 6) ≤ 6 from by omega)
end GENW
