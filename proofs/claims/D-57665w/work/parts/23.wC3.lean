/-! printed: the walks of the class, 3 -/
set_option maxRecDepth 100000
section GENW
variable {p : Program} {l : Launch} {e : Env} {s : State} {m : MethodId} {args : Array Value} {below : List Frame} {meth : Method} {c : Code} {x : gV} {base : Nat}
abbrev rm_X0_save : Room := { frames := 10, cells := 6, slots := 48, locals := 202 }
theorem hd_X0_save : yX0_save.cls ≠ "java/lang/invoke/MethodHandle" ∧ yX0_save.cls ≠ "java/lang/invoke/VarHandle" ∧ (parseMethodDescriptor yX0_save.desc).map (fun d => d.parameters.length) = some 3 := by decide +kernel
set_option maxHeartbeats 2000000 in
theorem w_X0_save {l : Launch} {x : gV} {base : Nat} (hst : l.stackTraces = false) {z0 : Nat} {z1 : Int32} {z2 : Nat} {h : gH} {n : Nat} {res : (Int32 ⊕ gX) × gH × Nat} (hr : f_X0_save z0 z1 z2 h n = some res) : gMX l yX0_save (wsW_ yX0_save cX0_save 4 (some .int) [(0, 9, 12, 29)]) rm_X0_save x base (fun v => some (.int v)) [.ref z0, .int z1, .ref z2] h n res 6 48 := by
  refine g_metW (cc := cX0_save) (nL := 4) (ret := (some .int)) (by decide) (Nat.le_of_ble_eq_true rfl) (fun p e s m below meth c ls X hnm hxt hl hI => ?_)
  have hl : lv_has ls 4 [(0, .ref z0), (1, .int z1), (2, .ref z2)] := hl
  have hx := X.1
  have hb := X.2.1
  have hcc : 0 + 6 ≤ 6 ∧ 0 + 48 ≤ 48 := ⟨Nat.le_refl _, Nat.le_refl _⟩
  unfold f_X0_save at hr
  refine lv_aload_n hx hb dX0_save_0 rfl (lv_at hl 2 rfl) ?_
  refine lv_iconst (v := 0) hx hb dX0_save_1 (by decide) ?_
  refine lv_aload_n hx hb dX0_save_2 rfl (lv_at hl 0 rfl) ?_
  refine lv_iload_n hx hb dX0_save_3 rfl (lv_at hl 1 rfl) ?_
  obtain ⟨_, ho1, hr⟩ := gB_i hr
  rcases gTX_i hr with ⟨v3, h5, n6, hc2, hr⟩ | ⟨q4, h7, n8, hc2, hr⟩
  · refine gXRet_i (g_xrunV X hI (w_X1_save hst hc2) ho1 rfl hl (lw_V q1566 q1567 q1568 q96 q1569) rfl rfl hd_X1_save ⟨Nat.le_of_ble_eq_true rfl, Nat.le_of_ble_eq_true rfl⟩ (as := [.int z1]) (rest := [.int (0 : Int32), .ref z2]) rfl rfl (Nat.le_of_ble_eq_true rfl) ⟨(show 0 + 6 ≤ 6 from by omega), (show 0 + 48 ≤ 48 from by omega)⟩ dX0_save_4) (fun H locs hI => ?_)
    refine lv_i2l hx hb dX0_save_7 rfl ?_
    refine g_last X hI hr dX0_save_8 (fun h9 H locs hI hr => ?_)
    refine lv_goto (tgt := 15) hx hb dX0_save_9 (by decide) ?_
    refine lv_iconst (v := 0) hx hb dX0_save_15 (by decide) ?_
    have hr := gS_i hr
    subst hr
    exact g_xiret X hI rfl (show (0 + 6) ≤ 6 from by omega) (show (0 + 48) ≤ 48 from by omega) dX0_save_16
  · refine gXThr (k := q4.1) (q := q4.2) (g_xrunV X hI (w_X1_save hst hc2) ho1 rfl hl (lw_V q1566 q1567 q1568 q96 q1569) rfl rfl hd_X1_save ⟨Nat.le_of_ble_eq_true rfl, Nat.le_of_ble_eq_true rfl⟩ (as := [.int z1]) (rest := [.int (0 : Int32), .ref z2]) rfl rfl (Nat.le_of_ble_eq_true rfl) ⟨(show 0 + 6 ≤ 6 from by omega), (show 0 + 48 ≤ 48 from by omega)⟩ dX0_save_4) (fun H locs hI hxc => ?_)
    by_cases c10 : q4.1 = 12
    · replace hr := gIf_t c10 hr
      refine g_catch (a := 0) (b := 9) (hp := 12) (ct := 29) X hxc hxt (pre := []) (suf := []) rfl gPs_0 (by decide) (by decide) (j := 12) c10 q1147 ?_
      refine lv_astore_n (lv' := [(3, .ref q4.2), (0, .ref z0), (1, .int z1), (2, .ref z2)]) hx hb dX0_save_12 rfl hl (by decide) rfl (fun ls hl => ?_)
      refine lv_iconst (v := 1) hx hb dX0_save_13 (by decide) ?_
      have hr := gS_i hr
      subst hr
      exact g_xiret X hI rfl (show (0 + 6) ≤ 6 from by omega) (show (0 + 48) ≤ 48 from by omega) dX0_save_14
    replace hr := gIf_f c10 hr
    have hr := gS_i hr
    subst hr
    exact g_xout X hI hxc hxt (gPs_c (Or.inr ⟨by decide, 12, by decide, c10, q1147⟩) gPs_0) (show (0 + 6) ≤ 6 from by omega) (show (0 + 48) ≤ 48 from by omega)
abbrev rm_X0_restore : Room := { frames := 10, cells := 7, slots := 54, locals := 202 }
theorem hd_X0_restore : yX0_restore.cls ≠ "java/lang/invoke/MethodHandle" ∧ yX0_restore.cls ≠ "java/lang/invoke/VarHandle" ∧ (parseMethodDescriptor yX0_restore.desc).map (fun d => d.parameters.length) = some 3 := by decide +kernel
set_option maxHeartbeats 2000000 in
theorem w_X0_restore {l : Launch} {x : gV} {base : Nat} (hst : l.stackTraces = false) {z0 : Nat} {z1 : Int32} {z2 : Nat} {h : gH} {n : Nat} {res : (Int32 ⊕ gX) × gH × Nat} (hr : f_X0_restore z0 z1 z2 h n = some res) : gMX l yX0_restore (wsW_ yX0_restore cX0_restore 4 (some .int) [(0, 9, 12, 29), (0, 9, 15, 13)]) rm_X0_restore x base (fun v => some (.int v)) [.ref z0, .int z1, .ref z2] h n res 7 54 := by
  refine g_metW (cc := cX0_restore) (nL := 4) (ret := (some .int)) (by decide) (Nat.le_of_ble_eq_true rfl) (fun p e s m below meth c ls X hnm hxt hl hI => ?_)
  have hl : lv_has ls 4 [(0, .ref z0), (1, .int z1), (2, .ref z2)] := hl
  have hx := X.1
  have hb := X.2.1
  have hcc : 0 + 7 ≤ 7 ∧ 0 + 54 ≤ 54 := ⟨Nat.le_refl _, Nat.le_refl _⟩
  unfold f_X0_restore at hr
  refine lv_aload_n hx hb dX0_restore_0 rfl (lv_at hl 2 rfl) ?_
  refine lv_iconst (v := 0) hx hb dX0_restore_1 (by decide) ?_
  refine lv_aload_n hx hb dX0_restore_2 rfl (lv_at hl 0 rfl) ?_
  refine lv_iload_n hx hb dX0_restore_3 rfl (lv_at hl 1 rfl) ?_
  obtain ⟨_, ho1, hr⟩ := gB_i hr
  rcases gTX_i hr with ⟨v3, h5, n6, hc2, hr⟩ | ⟨q4, h7, n8, hc2, hr⟩
  · refine gXRet_i (g_xrunV X hI (w_X1_restore hst hc2) ho1 rfl hl (lw_V q1573 q1574 q1575 q96 q1576) rfl rfl hd_X1_restore ⟨Nat.le_of_ble_eq_true rfl, Nat.le_of_ble_eq_true rfl⟩ (as := [.int z1]) (rest := [.int (0 : Int32), .ref z2]) rfl rfl (Nat.le_of_ble_eq_true rfl) ⟨(show 0 + 7 ≤ 7 from by omega), (show 0 + 54 ≤ 54 from by omega)⟩ dX0_restore_4) (fun H locs hI => ?_)
    refine lv_i2l hx hb dX0_restore_7 rfl ?_
    refine g_last X hI hr dX0_restore_8 (fun h9 H locs hI hr => ?_)
    refine lv_goto (tgt := 18) hx hb dX0_restore_9 (by decide) ?_
    refine lv_iconst (v := 0) hx hb dX0_restore_18 (by decide) ?_
    have hr := gS_i hr
    subst hr
    exact g_xiret X hI rfl (show (0 + 7) ≤ 7 from by omega) (show (0 + 54) ≤ 54 from by omega) dX0_restore_19
  · refine gXThr (k := q4.1) (q := q4.2) (g_xrunV X hI (w_X1_restore hst hc2) ho1 rfl hl (lw_V q1573 q1574 q1575 q96 q1576) rfl rfl hd_X1_restore ⟨Nat.le_of_ble_eq_true rfl, Nat.le_of_ble_eq_true rfl⟩ (as := [.int z1]) (rest := [.int (0 : Int32), .ref z2]) rfl rfl (Nat.le_of_ble_eq_true rfl) ⟨(show 0 + 7 ≤ 7 from by omega), (show 0 + 54 ≤ 54 from by omega)⟩ dX0_restore_4) (fun H locs hI hxc => ?_)
    by_cases c10 : q4.1 = 12
    · replace hr := gIf_t c10 hr
      refine g_catch (a := 0) (b := 9) (hp := 12) (ct := 29) X hxc hxt (pre := []) (suf := [(0, 9, 15, 13)]) rfl gPs_0 (by decide) (by decide) (j := 12) c10 q1147 ?_
      refine lv_astore_n (lv' := [(3, .ref q4.2), (0, .ref z0), (1, .int z1), (2, .ref z2)]) hx hb dX0_restore_12 rfl hl (by decide) rfl (fun ls hl => ?_)
      refine lv_iconst (v := 1) hx hb dX0_restore_13 (by decide) ?_
      have hr := gS_i hr
      subst hr
      exact g_xiret X hI rfl (show (0 + 7) ≤ 7 from by omega) (show (0 + 54) ≤ 54 from by omega) dX0_restore_14
    replace hr := gIf_f c10 hr
    by_cases c11 : q4.1 = 10
    · replace hr := gIf_t c11 hr
      refine g_catch (a := 0) (b := 9) (hp := 15) (ct := 13) X hxc hxt (pre := [(0, 9, 12, 29)]) (suf := []) rfl (gPs_c (Or.inr ⟨by decide, 12, by decide, c10, q1147⟩) gPs_0) (by decide) (by decide) (j := 10) c11 q1099 ?_
      refine lv_astore_n (lv' := [(3, .ref q4.2), (0, .ref z0), (1, .int z1), (2, .ref z2)]) hx hb dX0_restore_15 rfl hl (by decide) rfl (fun ls hl => ?_)
      refine lv_iconst (v := 2) hx hb dX0_restore_16 (by decide) ?_
      have hr := gS_i hr
      subst hr
      exact g_xiret X hI rfl (show (0 + 7) ≤ 7 from by omega) (show (0 + 54) ≤ 54 from by omega) dX0_restore_17
    replace hr := gIf_f c11 hr
    have hr := gS_i hr
    subst hr
    exact g_xout X hI hxc hxt (gPs_c (Or.inr ⟨by decide, 12, by decide, c10, q1147⟩) (gPs_c (Or.inr ⟨by decide, 10, by decide, c11, q1099⟩) gPs_0)) (show (0 + 7) ≤ 7 from by omega) (show (0 + 54) ≤ 54 from by omega)
abbrev rm_X0_outputByte : Room := { frames := 10, cells := 1, slots := 6, locals := 202 }
theorem hd_X0_outputByte : yX0_outputByte.cls ≠ "java/lang/invoke/MethodHandle" ∧ yX0_outputByte.cls ≠ "java/lang/invoke/VarHandle" ∧ (parseMethodDescriptor yX0_outputByte.desc).map (fun d => d.parameters.length) = some 3 := by decide +kernel
set_option maxHeartbeats 2000000 in
theorem w_X0_outputByte {l : Launch} {x : gV} {base : Nat} (hst : l.stackTraces = false) {z0 : Nat} {z1 : Int32} {z2 : Nat} {h : gH} {n : Nat} {res : (Int32 ⊕ gX) × gH × Nat} (hr : f_X0_outputByte z0 z1 z2 h n = some res) : gMX l yX0_outputByte (wsW_ yX0_outputByte cX0_outputByte 4 (some .int) [(0, 9, 12, 29)]) rm_X0_outputByte x base (fun v => some (.int v)) [.ref z0, .int z1, .ref z2] h n res 1 6 := by
  refine g_metW (cc := cX0_outputByte) (nL := 4) (ret := (some .int)) (by decide) (Nat.le_of_ble_eq_true rfl) (fun p e s m below meth c ls X hnm hxt hl hI => ?_)
  have hl : lv_has ls 4 [(0, .ref z0), (1, .int z1), (2, .ref z2)] := hl
  have hx := X.1
  have hb := X.2.1
  have hcc : 0 + 1 ≤ 1 ∧ 0 + 6 ≤ 6 := ⟨Nat.le_refl _, Nat.le_refl _⟩
  unfold f_X0_outputByte at hr
  refine lv_aload_n hx hb dX0_outputByte_0 rfl (lv_at hl 2 rfl) ?_
  refine lv_iconst (v := 0) hx hb dX0_outputByte_1 (by decide) ?_
  refine lv_aload_n hx hb dX0_outputByte_2 rfl (lv_at hl 0 rfl) ?_
  refine lv_iload_n hx hb dX0_outputByte_3 rfl (lv_at hl 1 rfl) ?_
  obtain ⟨_, ho1, hr⟩ := gB_i hr
  rcases gTX_i hr with ⟨v3, h5, n6, hc2, hr⟩ | ⟨q4, h7, n8, hc2, hr⟩
  · refine gXRet_i (g_xrunV X hI (w_X1_outputByte hst hc2) ho1 rfl hl (lw_V q1580 q1581 q1582 q96 q1583) rfl rfl hd_X1_outputByte ⟨Nat.le_of_ble_eq_true rfl, Nat.le_of_ble_eq_true rfl⟩ (as := [.int z1]) (rest := [.int (0 : Int32), .ref z2]) rfl rfl (Nat.le_of_ble_eq_true rfl) ⟨(show 0 + 1 ≤ 1 from by omega), (show 0 + 6 ≤ 6 from by omega)⟩ dX0_outputByte_4) (fun H locs hI => ?_)
    refine lv_i2l hx hb dX0_outputByte_7 rfl ?_
    refine g_last X hI hr dX0_outputByte_8 (fun h9 H locs hI hr => ?_)
    refine lv_goto (tgt := 15) hx hb dX0_outputByte_9 (by decide) ?_
    refine lv_iconst (v := 0) hx hb dX0_outputByte_15 (by decide) ?_
    have hr := gS_i hr
    subst hr
    exact g_xiret X hI rfl (show (0 + 1) ≤ 1 from by omega) (show (0 + 6) ≤ 6 from by omega) dX0_outputByte_16
  · refine gXThr (k := q4.1) (q := q4.2) (g_xrunV X hI (w_X1_outputByte hst hc2) ho1 rfl hl (lw_V q1580 q1581 q1582 q96 q1583) rfl rfl hd_X1_outputByte ⟨Nat.le_of_ble_eq_true rfl, Nat.le_of_ble_eq_true rfl⟩ (as := [.int z1]) (rest := [.int (0 : Int32), .ref z2]) rfl rfl (Nat.le_of_ble_eq_true rfl) ⟨(show 0 + 1 ≤ 1 from by omega), (show 0 + 6 ≤ 6 from by omega)⟩ dX0_outputByte_4) (fun H locs hI hxc => ?_)
    by_cases c10 : q4.1 = 12
    · replace hr := gIf_t c10 hr
      refine g_catch (a := 0) (b := 9) (hp := 12) (ct := 29) X hxc hxt (pre := []) (suf := []) rfl gPs_0 (by decide) (by decide) (j := 12) c10 q1147 ?_
      refine lv_astore_n (lv' := [(3, .ref q4.2), (0, .ref z0), (1, .int z1), (2, .ref z2)]) hx hb dX0_outputByte_12 rfl hl (by decide) rfl (fun ls hl => ?_)
      refine lv_iconst (v := 1) hx hb dX0_outputByte_13 (by decide) ?_
      have hr := gS_i hr
      subst hr
      exact g_xiret X hI rfl (show (0 + 1) ≤ 1 from by omega) (show (0 + 6) ≤ 6 from by omega) dX0_outputByte_14
    replace hr := gIf_f c10 hr
    have hr := gS_i hr
    subst hr
    exact g_xout X hI hxc hxt (gPs_c (Or.inr ⟨by decide, 12, by decide, c10, q1147⟩) gPs_0) (show (0 + 1) ≤ 1 from by omega) (show (0 + 6) ≤ 6 from by omega)
end GENW
