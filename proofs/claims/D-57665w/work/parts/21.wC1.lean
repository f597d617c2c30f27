/-! printed: the walks of the class, 1 -/
set_option maxRecDepth 100000
section GENW
variable {p : Program} {l : Launch} {e : Env} {s : State} {m : MethodId} {args : Array Value} {below : List Frame} {meth : Method} {c : Code} {x : gV} {base : Nat}
abbrev rm_J0_init : Room := { frames := 1, cells := 0, slots := 0, locals := 24 }
theorem hd_J0_init : yJ0_init.cls ≠ "java/lang/invoke/MethodHandle" ∧ yJ0_init.cls ≠ "java/lang/invoke/VarHandle" ∧ (parseMethodDescriptor yJ0_init.desc).map (fun d => d.parameters.length) = some 0 := by decide +kernel
set_option maxHeartbeats 2000000 in
theorem w_J0_init {l : Launch} {x : gV} {base : Nat} {z0 : Nat} {h : gH} {n : Nat} {res : Unit} (hr : f_J0_init z0 h = some res) : gM l yJ0_init (ws_ yJ0_init cJ0_init 1 none) rm_J0_init x base [.ref z0] h n none h n 0 0 := by
  refine g_met (cc := cJ0_init) (nL := 1) (ret := none) (by decide) (Nat.le_of_ble_eq_true rfl) (fun p e s m below meth c ls X hnm hl hI => ?_)
  have hl : lv_has ls 1 [(0, .ref z0)] := hl
  have hx := X.1
  have hb := X.2.1
  unfold f_J0_init at hr
  refine lv_aload_n hx hb dJ0_init_0 rfl (lv_at hl 0 rfl) ?_
  refine W.objInit hx hb X.2.2.2.2.1 (X.w q159) (X.w q140) (X.w q141) rfl (by rw [X.2.2.1]; exact hl.1) rfl dJ0_init_1 (Nat.le_of_ble_eq_true rfl) (Nat.le_of_ble_eq_true rfl) ?_
  refine W.eq (g2 := F0 m 4 ls []) rfl ?_
  have hr := gS_i hr
  subst hr
  exact g_vret X hI (Nat.le_refl _) (Nat.le_refl _) dJ0_init_4
abbrev rm_J1_init : Room := { frames := 2, cells := 0, slots := 0, locals := 44 }
theorem hd_J1_init : yJ1_init.cls ≠ "java/lang/invoke/MethodHandle" ∧ yJ1_init.cls ≠ "java/lang/invoke/VarHandle" ∧ (parseMethodDescriptor yJ1_init.desc).map (fun d => d.parameters.length) = some 0 := by decide +kernel
set_option maxHeartbeats 2000000 in
theorem w_J1_init {l : Launch} {x : gV} {base : Nat} {z0 : Nat} {h : gH} {n : Nat} {res : gH} (hr : f_J1_init z0 h = some res) : gM l yJ1_init (ws_ yJ1_init cJ1_init 1 none) rm_J1_init x base [.ref z0] h n none res n 0 0 := by
  refine g_met (cc := cJ1_init) (nL := 1) (ret := none) (by decide) (Nat.le_of_ble_eq_true rfl) (fun p e s m below meth c ls X hnm hl hI => ?_)
  have hl : lv_has ls 1 [(0, .ref z0)] := hl
  have hx := X.1
  have hb := X.2.1
  unfold f_J1_init at hr
  refine lv_aload_n hx hb dJ1_init_0 rfl (lv_at hl 0 rfl) ?_
  obtain ⟨u9, hc1, hr⟩ := gB_i hr
  refine gRun_v (g_runI X hI (w_J0_init hc1) hl q158 q156 q157 q98 rfl rfl rfl hd_J0_init ⟨Nat.le_of_ble_eq_true rfl, Nat.le_of_ble_eq_true rfl⟩ (as := []) (rest := []) rfl rfl (Nat.le_of_ble_eq_true rfl) ⟨(Nat.le_refl _), (Nat.le_refl _)⟩ dJ1_init_1) (fun H locs hI => ?_)
  refine lv_aload_n hx hb dJ1_init_4 rfl (lv_at hl 0 rfl) ?_
  refine lv_iconst (v := 0) hx hb dJ1_init_5 (by decide) ?_
  refine g_put (C := RJ2) (T := TJ2) (N := 3) (v := .int (0 : Int32)) (ty := .int) X hI in_J2 tyJ2 tyJ2_ok nmJ2 rfl 0 (by decide) q481 (fun _ h9 => h9) rfl (by decide +kernel) rfl rfl hr dJ1_init_6 (fun h2 H locs hI hr => ?_)
  have hr := gS_i hr
  subst hr
  exact g_vret X hI (Nat.le_refl _) (Nat.le_refl _) dJ1_init_9
abbrev rm_J17_init : Room := { frames := 2, cells := 1, slots := 17, locals := 44 }
theorem hd_J17_init : yJ17_init.cls ≠ "java/lang/invoke/MethodHandle" ∧ yJ17_init.cls ≠ "java/lang/invoke/VarHandle" ∧ (parseMethodDescriptor yJ17_init.desc).map (fun d => d.parameters.length) = some 0 := by decide +kernel
set_option maxHeartbeats 2000000 in
theorem w_J17_init {l : Launch} {x : gV} {base : Nat} (hst : l.stackTraces = false) {z0 : Nat} {h : gH} {n : Nat} {res : gH × Nat} (hr : f_J17_init z0 h n = some res) : gM l yJ17_init (ws_ yJ17_init cJ17_init 1 none) rm_J17_init x base [.ref z0] h n none res.1 res.2 1 17 := by
  refine g_met (cc := cJ17_init) (nL := 1) (ret := none) (by decide) (Nat.le_of_ble_eq_true rfl) (fun p e s m below meth c ls X hnm hl hI => ?_)
  have hl : lv_has ls 1 [(0, .ref z0)] := hl
  have hx := X.1
  have hb := X.2.1
  have hcc : 0 + 1 ≤ 1 ∧ 0 + 17 ≤ 17 := ⟨Nat.le_refl _, Nat.le_refl _⟩
  unfold f_J17_init at hr
  refine lv_aload_n hx hb dJ17_init_0 rfl (lv_at hl 0 rfl) ?_
  obtain ⟨u9, hc1, hr⟩ := gB_i hr
  refine gRun_v (g_runI X hI (w_J0_init hc1) hl q158 q518 q157 q98 rfl rfl rfl hd_J0_init ⟨Nat.le_of_ble_eq_true rfl, Nat.le_of_ble_eq_true rfl⟩ (as := []) (rest := []) rfl rfl (Nat.le_of_ble_eq_true rfl) ⟨(show 0 + 0 ≤ 1 from by omega), (show 0 + 0 ≤ 17 from by omega)⟩ dJ17_init_1) (fun H locs hI => ?_)
  refine lv_aload_n hx hb dJ17_init_4 rfl (lv_at hl 0 rfl) ?_
  refine lv_bipush (v := 17) hx hb dJ17_init_5 (by decide) ?_
  refine g_newQ (t := 3) (b := 17) (C := "java/lang/Object") X hI q519 (by decide) rfl (by decide) (show (0 + 0) + 1 ≤ 1 from by omega) (show (0 + 0) + 17 ≤ 17 from by omega) hr dJ17_init_7 (fun q2 h3 n4 H locs hI hr => ?_)
  refine g_put (C := RJ17) (T := TJ17) (N := 3) (v := .ref q2) (ty := (.array (.object "java/lang/Object"))) X hI in_J17 tyJ17 tyJ17_ok nmJ17 rfl 0 (by decide) q520 (fun _ h9 => h9) rfl (by decide +kernel) rfl rfl hr dJ17_init_10 (fun h5 H locs hI hr => ?_)
  have hr := gS_i hr
  subst hr
  exact g_vret X hI (show ((0 + 0) + 1) ≤ 1 from by omega) (show ((0 + 0) + 17) ≤ 17 from by omega) dJ17_init_13
abbrev rm_J17_sub : Room := { frames := 0, cells := 0, slots := 0, locals := 0 }
theorem hd_J17_sub : yJ17_sub.cls ≠ "java/lang/invoke/MethodHandle" ∧ yJ17_sub.cls ≠ "java/lang/invoke/VarHandle" ∧ (parseMethodDescriptor yJ17_sub.desc).map (fun d => d.parameters.length) = some 3 := by decide +kernel
set_option maxHeartbeats 2000000 in
theorem w_J17_sub {l : Launch} {x : gV} {base : Nat} {z0 : Int32} {z1 : Int32} {z2 : Int32} {h : gH} {n : Nat} {res : Int32} (hr : f_J17_sub z0 z1 z2 h = some res) : gM l yJ17_sub (ws_ yJ17_sub cJ17_sub 3 (some .int)) rm_J17_sub x base [.int z0, .int z1, .int z2] h n (some (.int res)) h n 0 0 := by
  refine g_met (cc := cJ17_sub) (nL := 3) (ret := (some .int)) (by decide) (Nat.le_of_ble_eq_true rfl) (fun p e s m below meth c ls X hnm hl hI => ?_)
  have hl : lv_has ls 3 [(0, .int z0), (1, .int z1), (2, .int z2)] := hl
  have hx := X.1
  have hb := X.2.1
  unfold f_J17_sub at hr
  refine lv_iload_n hx hb dJ17_sub_0 rfl (lv_at hl 0 rfl) ?_
  refine lv_iload_n hx hb dJ17_sub_1 rfl (lv_at hl 1 rfl) ?_
  refine lv_isub hx hb dJ17_sub_2 ?_
  refine lv_dup hx hb dJ17_sub_3 rfl ?_
  refine lv_istore_n (lv' := [(0, .int (z0 - z1)), (1, .int z1), (2, .int z2)]) hx hb dJ17_sub_4 rfl hl (by decide) rfl (fun ls hl => ?_)
  refine lv_if_ge (tgt := 12) hx hb dJ17_sub_5 (by decide) (fun c9 => ?_) (fun c9 => ?_)
  · replace hr := gIf_t c9 hr
    refine lv_iload_n hx hb dJ17_sub_12 rfl (lv_at hl 0 rfl) ?_
    have hr := gS_i hr
    subst hr
    exact g_iret X hI rfl (Nat.le_refl _) (Nat.le_refl _) dJ17_sub_13
  · replace hr := gIf_f c9 hr
    refine lv_iload_n hx hb dJ17_sub_8 rfl (lv_at hl 0 rfl) ?_
    refine lv_iload_n hx hb dJ17_sub_9 rfl (lv_at hl 2 rfl) ?_
    refine lv_iadd hx hb dJ17_sub_10 ?_
    refine lv_istore_n (lv' := [(0, .int ((z0 - z1) + z2)), (1, .int z1), (2, .int z2)]) hx hb dJ17_sub_11 rfl hl (by decide) rfl (fun ls hl => ?_)
    refine lv_iload_n hx hb dJ17_sub_12 rfl (lv_at hl 0 rfl) ?_
    have hr := gS_i hr
    subst hr
    exact g_iret X hI rfl (Nat.le_refl _) (Nat.le_refl _) dJ17_sub_13
abbrev rm_J17_size : Room := { frames := 1, cells := 0, slots := 0, locals := 22 }
theorem hd_J17_size : yJ17_size.cls = RJ17 ∧ yJ17_size.cls ≠ "java/lang/invoke/MethodHandle" ∧ yJ17_size.cls ≠ "java/lang/invoke/VarHandle" ∧ (parseMethodDescriptor yJ17_size.desc).map (fun d => d.parameters.length) = some 0 := by decide +kernel
set_option maxHeartbeats 2000000 in
theorem w_J17_size {l : Launch} {x : gV} {base : Nat} {z0 : Nat} {h : gH} {n : Nat} {res : Int32} (hr : f_J17_size z0 h = some res) : gM l yJ17_size (ws_ yJ17_size cJ17_size 1 (some .int)) rm_J17_size x base [.ref z0] h n (some (.int res)) h n 0 0 := by
  refine g_met (cc := cJ17_size) (nL := 1) (ret := (some .int)) (by decide) (Nat.le_of_ble_eq_true rfl) (fun p e s m below meth c ls X hnm hl hI => ?_)
  have hl : lv_has ls 1 [(0, .ref z0)] := hl
  have hx := X.1
  have hb := X.2.1
  unfold f_J17_size at hr
  refine lv_aload_n hx hb dJ17_size_0 rfl (lv_at hl 0 rfl) ?_
  refine g_getI (C := RJ17) (T := TJ17) (N := 3) X hI in_J17 rfl 2 (by decide) q522 (fun _ h9 => h9) hr dJ17_size_1 (fun v1 hr => ?_)
  refine lv_aload_n hx hb dJ17_size_4 rfl (lv_at hl 0 rfl) ?_
  refine g_getI (C := RJ17) (T := TJ17) (N := 3) X hI in_J17 rfl 1 (by decide) q521 (fun _ h9 => h9) hr dJ17_size_5 (fun v2 hr => ?_)
  refine lv_aload_n hx hb dJ17_size_8 rfl (lv_at hl 0 rfl) ?_
  refine g_getA (C := RJ17) (T := TJ17) (N := 3) X hI in_J17 rfl 0 (by decide) q520 (fun _ h9 => h9) hr dJ17_size_9 (fun v3 hr => ?_)
  refine g_alen X hI (t := 3) rfl hr dJ17_size_12 (fun v4 hr => ?_)
  obtain ⟨v6, hc5, hr⟩ := gB_i hr
  refine gRun_i (g_runS X hI (w_J17_sub hc5) hl (lw_S q1017 q1018 q117 q1019) rfl rfl hd_J17_sub ⟨Nat.le_of_ble_eq_true rfl, Nat.le_of_ble_eq_true rfl⟩ (as := [.int v1, .int v2, .int v4]) (rest := []) rfl rfl (Nat.le_of_ble_eq_true rfl) ⟨(Nat.le_refl _), (Nat.le_refl _)⟩ dJ17_size_13) (fun H locs hI => ?_)
  have hr := gS_i hr
  subst hr
  exact g_iret X hI rfl (Nat.le_refl _) (Nat.le_refl _) dJ17_size_16
abbrev rm_J17_elementAt : Room := { frames := 0, cells := 0, slots := 0, locals := 0 }
theorem hd_J17_elementAt : yJ17_elementAt.cls ≠ "java/lang/invoke/MethodHandle" ∧ yJ17_elementAt.cls ≠ "java/lang/invoke/VarHandle" ∧ (parseMethodDescriptor yJ17_elementAt.desc).map (fun d => d.parameters.length) = some 2 := by decide +kernel
set_option maxHeartbeats 2000000 in
theorem w_J17_elementAt {l : Launch} {x : gV} {base : Nat} {z0 : Nat} {z1 : Int32} {h : gH} {n : Nat} {res : Option Nat} (hr : f_J17_elementAt z0 z1 h = some res) : gM l yJ17_elementAt (ws_ yJ17_elementAt cJ17_elementAt 2 (some (.object "java/lang/Object"))) rm_J17_elementAt x base [.ref z0, .int z1] h n (some (va_rf res)) h n 0 0 := by
  refine g_met (cc := cJ17_elementAt) (nL := 2) (ret := (some (.object "java/lang/Object"))) (by decide) (Nat.le_of_ble_eq_true rfl) (fun p e s m below meth c ls X hnm hl hI => ?_)
  have hl : lv_has ls 2 [(0, .ref z0), (1, .int z1)] := hl
  have hx := X.1
  have hb := X.2.1
  unfold f_J17_elementAt at hr
  refine lv_aload_n hx hb dJ17_elementAt_0 rfl (lv_at hl 0 rfl) ?_
  refine lv_iload_n hx hb dJ17_elementAt_1 rfl (lv_at hl 1 rfl) ?_
  refine g_aaldQ X hI (t := 3) rfl hr dJ17_elementAt_2 (fun v1 hr => ?_)
  rcases v1 with _ | v2
  · replace hr := gO_n hr
    show W _ _ _ _ _ _ _ _ _ _ _ _ _ _ _ (F0 m 3 ls (.null :: []))
    have hr := gS_i hr
    subst hr
    exact g_qret (v := none) X hI (Or.inl ⟨_, rfl⟩) (Nat.le_refl _) (Nat.le_refl _) dJ17_elementAt_3
  · replace hr := gO_s hr
    show W _ _ _ _ _ _ _ _ _ _ _ _ _ _ _ (F0 m 3 ls (.ref v2 :: []))
    have hr := gS_i hr
    subst hr
    exact g_qret (v := (some v2)) X hI (Or.inl ⟨_, rfl⟩) (Nat.le_refl _) (Nat.le_refl _) dJ17_elementAt_3
abbrev rm_J17_inc : Room := { frames := 0, cells := 0, slots := 0, locals := 0 }
theorem hd_J17_inc : yJ17_inc.cls ≠ "java/lang/invoke/MethodHandle" ∧ yJ17_inc.cls ≠ "java/lang/invoke/VarHandle" ∧ (parseMethodDescriptor yJ17_inc.desc).map (fun d => d.parameters.length) = some 2 := by decide +kernel
set_option maxHeartbeats 2000000 in
theorem w_J17_inc {l : Launch} {x : gV} {base : Nat} {z0 : Int32} {z1 : Int32} {h : gH} {n : Nat} {res : Int32} (hr : f_J17_inc z0 z1 h = some res) : gM l yJ17_inc (ws_ yJ17_inc cJ17_inc 2 (some .int)) rm_J17_inc x base [.int z0, .int z1] h n (some (.int res)) h n 0 0 := by
  refine g_met (cc := cJ17_inc) (nL := 2) (ret := (some .int)) (by decide) (Nat.le_of_ble_eq_true rfl) (fun p e s m below meth c ls X hnm hl hI => ?_)
  have hl : lv_has ls 2 [(0, .int z0), (1, .int z1)] := hl
  have hx := X.1
  have hb := X.2.1
  unfold f_J17_inc at hr
  refine lv_iinc (v := (z0 + (1 : Int32))) (lv' := [(0, .int (z0 + (1 : Int32))), (1, .int z1)]) hx hb dJ17_inc_0 hl (k := 0) rfl (g_inc (by decide)) (by decide) rfl (fun ls hl => ?_)
  refine lv_iload_n hx hb dJ17_inc_3 rfl (lv_at hl 0 rfl) ?_
  refine lv_iload_n hx hb dJ17_inc_4 rfl (lv_at hl 1 rfl) ?_
  refine lv_icmp_lt (tgt := 10) hx hb dJ17_inc_5 (by decide) (fun c9 => ?_) (fun c9 => ?_)
  · replace hr := gIf_t c9 hr
    refine lv_iload_n hx hb dJ17_inc_10 rfl (lv_at hl 0 rfl) ?_
    have hr := gS_i hr
    subst hr
    exact g_iret X hI rfl (Nat.le_refl _) (Nat.le_refl _) dJ17_inc_11
  · replace hr := gIf_f c9 hr
    refine lv_iconst (v := 0) hx hb dJ17_inc_8 (by decide) ?_
    refine lv_istore_n (lv' := [(0, .int (0 : Int32)), (1, .int z1)]) hx hb dJ17_inc_9 rfl hl (by decide) rfl (fun ls hl => ?_)
    refine lv_iload_n hx hb dJ17_inc_10 rfl (lv_at hl 0 rfl) ?_
    have hr := gS_i hr
    subst hr
    exact g_iret X hI rfl (Nat.le_refl _) (Nat.le_refl _) dJ17_inc_11
abbrev rm_J17_pollFirst : Room := { frames := 1, cells := 0, slots := 0, locals := 21 }
theorem hd_J17_pollFirst : yJ17_pollFirst.cls = RJ17 ∧ yJ17_pollFirst.cls ≠ "java/lang/invoke/MethodHandle" ∧ yJ17_pollFirst.cls ≠ "java/lang/invoke/VarHandle" ∧ (parseMethodDescriptor yJ17_pollFirst.desc).map (fun d => d.parameters.length) = some 0 := by decide +kernel
set_option maxHeartbeats 2000000 in
theorem w_J17_pollFirst {l : Launch} {x : gV} {base : Nat} {z0 : Nat} {h : gH} {n : Nat} {res : Option Nat × gH} (hr : f_J17_pollFirst z0 h = some res) : gM l yJ17_pollFirst (ws_ yJ17_pollFirst cJ17_pollFirst 4 (some (.object "java/lang/Object"))) rm_J17_pollFirst x base [.ref z0] h n (some (va_rf res.1)) res.2 n 0 0 := by
  refine g_met (cc := cJ17_pollFirst) (nL := 4) (ret := (some (.object "java/lang/Object"))) (by decide) (Nat.le_of_ble_eq_true rfl) (fun p e s m below meth c ls X hnm hl hI => ?_)
  have hl : lv_has ls 4 [(0, .ref z0)] := hl
  have hx := X.1
  have hb := X.2.1
  unfold f_J17_pollFirst at hr
  refine lv_aload_n hx hb dJ17_pollFirst_0 rfl (lv_at hl 0 rfl) ?_
  refine g_getA (C := RJ17) (T := TJ17) (N := 3) X hI in_J17 rfl 0 (by decide) q520 (fun _ h9 => h9) hr dJ17_pollFirst_1 (fun v1 hr => ?_)
  refine lv_dup hx hb dJ17_pollFirst_4 rfl ?_
  refine lv_astore_n (lv' := [(1, .ref v1), (0, .ref z0)]) hx hb dJ17_pollFirst_5 rfl hl (by decide) rfl (fun ls hl => ?_)
  refine lv_aload_n hx hb dJ17_pollFirst_6 rfl (lv_at hl 1 rfl) ?_
  refine g_getI (C := RJ17) (T := TJ17) (N := 3) X hI in_J17 rfl 1 (by decide) q521 (fun _ h9 => h9) hr dJ17_pollFirst_7 (fun v2 hr => ?_)
  refine lv_dup hx hb dJ17_pollFirst_10 rfl ?_
  refine lv_istore_n (lv' := [(2, .int v2), (1, .ref v1), (0, .ref z0)]) hx hb dJ17_pollFirst_11 rfl hl (by decide) rfl (fun ls hl => ?_)
  obtain ⟨v4, hc3, hr⟩ := gB_i hr
  refine gRun_q (g_runS X hI (w_J17_elementAt hc3) hl (lw_S q1028 q1029 q117 q1030) rfl rfl hd_J17_elementAt ⟨Nat.le_of_ble_eq_true rfl, Nat.le_of_ble_eq_true rfl⟩ (as := [.ref v1, .int v2]) (rest := []) rfl rfl (Nat.le_of_ble_eq_true rfl) ⟨(Nat.le_refl _), (Nat.le_refl _)⟩ dJ17_pollFirst_12) (fun H locs hI => ?_)
  rcases v4 with _ | v5
  · replace hr := gO_n hr
    show W _ _ _ _ _ _ _ _ _ _ _ _ _ _ _ (F0 m 15 ls (.null :: []))
    refine lv_astore_nN (lv' := [(3, .null), (2, .int v2), (1, .ref v1), (0, .ref z0)]) hx hb dJ17_pollFirst_15 rfl hl (by decide) rfl (fun ls hl => ?_)
    refine lv_aload_nN hx hb dJ17_pollFirst_16 rfl (lv_at hl 0 rfl) ?_
    refine lv_ifnullN (tgt := 34) hx hb dJ17_pollFirst_17 (by decide) ?_
    refine lv_aload_nN hx hb dJ17_pollFirst_34 rfl (lv_at hl 0 rfl) ?_
    have hr := gS_i hr
    subst hr
    exact g_qret (v := none) X hI (Or.inl ⟨_, rfl⟩) (Nat.le_refl _) (Nat.le_refl _) dJ17_pollFirst_35
  · replace hr := gO_s hr
    show W _ _ _ _ _ _ _ _ _ _ _ _ _ _ _ (F0 m 15 ls (.ref v5 :: []))
    refine lv_astore_n (lv' := [(3, .ref v5), (2, .int v2), (1, .ref v1), (0, .ref z0)]) hx hb dJ17_pollFirst_15 rfl hl (by decide) rfl (fun ls hl => ?_)
    refine lv_aload_n hx hb dJ17_pollFirst_16 rfl (lv_at hl 0 rfl) ?_
    refine lv_ifnull hx hb dJ17_pollFirst_17 ?_
    refine lv_aload_n hx hb dJ17_pollFirst_20 rfl (lv_at hl 2 rfl) ?_
    refine lv_iload_n hx hb dJ17_pollFirst_21 rfl (lv_at hl 1 rfl) ?_
    refine lv_null hx hb dJ17_pollFirst_22 ?_
    refine g_aastN X hI (t := 3) rfl hr dJ17_pollFirst_23 (fun h6 H locs hI hr => ?_)
    refine lv_aload_n hx hb dJ17_pollFirst_24 rfl (lv_at hl 3 rfl) ?_
    refine lv_iload_n hx hb dJ17_pollFirst_25 rfl (lv_at hl 1 rfl) ?_
    refine lv_aload_n hx hb dJ17_pollFirst_26 rfl (lv_at hl 2 rfl) ?_
    refine g_alen X hI (t := 3) rfl hr dJ17_pollFirst_27 (fun v7 hr => ?_)
    obtain ⟨v9, hc8, hr⟩ := gB_i hr
    refine gRun_i (g_runS X hI (w_J17_inc hc8) hl (lw_S q1031 q1032 q117 q1033) rfl rfl hd_J17_inc ⟨Nat.le_of_ble_eq_true rfl, Nat.le_of_ble_eq_true rfl⟩ (as := [.int v2, .int v7]) (rest := [.ref z0]) rfl rfl (Nat.le_of_ble_eq_true rfl) ⟨(Nat.le_refl _), (Nat.le_refl _)⟩ dJ17_pollFirst_28) (fun H locs hI => ?_)
    refine g_put (C := RJ17) (T := TJ17) (N := 3) (v := .int v9) (ty := .int) X hI in_J17 tyJ17 tyJ17_ok nmJ17 rfl 1 (by decide) q521 (fun _ h9 => h9) rfl (by decide +kernel) rfl rfl hr dJ17_pollFirst_31 (fun h10 H locs hI hr => ?_)
    refine lv_aload_n hx hb dJ17_pollFirst_34 rfl (lv_at hl 0 rfl) ?_
    have hr := gS_i hr
    subst hr
    exact g_qret (v := (some v5)) X hI (Or.inl ⟨_, rfl⟩) (Nat.le_refl _) (Nat.le_refl _) dJ17_pollFirst_35
abbrev rm_J17_removeFirst : Room := { frames := 2, cells := 0, slots := 0, locals := 44 }
theorem hd_J17_removeFirst : yJ17_removeFirst.cls = RJ17 ∧ yJ17_removeFirst.cls ≠ "java/lang/invoke/MethodHandle" ∧ yJ17_removeFirst.cls ≠ "java/lang/invoke/VarHandle" ∧ (parseMethodDescriptor yJ17_removeFirst.desc).map (fun d => d.parameters.length) = some 0 := by decide +kernel
set_option maxHeartbeats 2000000 in
theorem w_J17_removeFirst {l : Launch} {x : gV} {base : Nat} {z0 : Nat} {h : gH} {n : Nat} {res : Nat × gH} (hr : f_J17_removeFirst z0 h = some res) : gM l yJ17_removeFirst (ws_ yJ17_removeFirst cJ17_removeFirst 2 (some (.object "java/lang/Object"))) rm_J17_removeFirst x base [.ref z0] h n (some (.ref res.1)) res.2 n 0 0 := by
  refine g_met (cc := cJ17_removeFirst) (nL := 2) (ret := (some (.object "java/lang/Object"))) (by decide) (Nat.le_of_ble_eq_true rfl) (fun p e s m below meth c ls X hnm hl hI => ?_)
  have hl : lv_has ls 2 [(0, .ref z0)] := hl
  have hx := X.1
  have hb := X.2.1
  unfold f_J17_removeFirst at hr
  refine lv_aload_n hx hb dJ17_removeFirst_0 rfl (lv_at hl 0 rfl) ?_
  obtain ⟨_, ho1, hr⟩ := gB_i hr
  obtain ⟨v3, h4, hc2, hr⟩ := gT2_i hr
  refine gRun_q (g_runV X hI (w_J17_pollFirst hc2) ho1 rfl hl (lw_V q1024 q1025 q1026 q117 q1027) rfl rfl hd_J17_pollFirst ⟨Nat.le_of_ble_eq_true rfl, Nat.le_of_ble_eq_true rfl⟩ (as := []) (rest := []) rfl rfl (Nat.le_of_ble_eq_true rfl) ⟨(Nat.le_refl _), (Nat.le_refl _)⟩ dJ17_removeFirst_1) (fun H locs hI => ?_)
  rcases v3 with _ | v5
  · replace hr := gO_n hr
    show W _ _ _ _ _ _ _ _ _ _ _ _ _ _ _ (F0 m 4 ls (.null :: []))
    refine lv_astore_nN (lv' := [(1, .null), (0, .ref z0)]) hx hb dJ17_removeFirst_4 rfl hl (by decide) rfl (fun ls hl => ?_)
    refine lv_aload_nN hx hb dJ17_removeFirst_5 rfl (lv_at hl 0 rfl) ?_
    refine lv_ifnonnullN hx hb dJ17_removeFirst_6 ?_
    exact nomatch hr
  · replace hr := gO_s hr
    show W _ _ _ _ _ _ _ _ _ _ _ _ _ _ _ (F0 m 4 ls (.ref v5 :: []))
    refine lv_astore_n (lv' := [(1, .ref v5), (0, .ref z0)]) hx hb dJ17_removeFirst_4 rfl hl (by decide) rfl (fun ls hl => ?_)
    refine lv_aload_n hx hb dJ17_removeFirst_5 rfl (lv_at hl 0 rfl) ?_
    refine lv_ifnonnull (tgt := 17) hx hb dJ17_removeFirst_6 (by decide) ?_
    refine lv_aload_n hx hb dJ17_removeFirst_17 rfl (lv_at hl 0 rfl) ?_
    have hr := gS_i hr
    subst hr
    exact g_aret X hI (Or.inl ⟨_, rfl⟩) (Nat.le_refl _) (Nat.le_refl _) dJ17_removeFirst_18
abbrev rm_J17_addLast : Room := { frames := 1, cells := 0, slots := 0, locals := 21 }
theorem hd_J17_addLast : yJ17_addLast.cls = RJ17 ∧ yJ17_addLast.cls ≠ "java/lang/invoke/MethodHandle" ∧ yJ17_addLast.cls ≠ "java/lang/invoke/VarHandle" ∧ (parseMethodDescriptor yJ17_addLast.desc).map (fun d => d.parameters.length) = some 1 := by decide +kernel
set_option maxHeartbeats 2000000 in
theorem w_J17_addLast {l : Launch} {x : gV} {base : Nat} {z0 : Nat} {z1 : Nat} {h : gH} {n : Nat} {res : gH} (hr : f_J17_addLast z0 z1 h = some res) : gM l yJ17_addLast (ws_ yJ17_addLast cJ17_addLast 3 none) rm_J17_addLast x base [.ref z0, .ref z1] h n none res n 0 0 := by
  refine g_met (cc := cJ17_addLast) (nL := 3) (ret := none) (by decide) (Nat.le_of_ble_eq_true rfl) (fun p e s m below meth c ls X hnm hl hI => ?_)
  have hl : lv_has ls 3 [(0, .ref z0), (1, .ref z1)] := hl
  have hx := X.1
  have hb := X.2.1
  unfold f_J17_addLast at hr
  refine lv_aload_n hx hb dJ17_addLast_0 rfl (lv_at hl 1 rfl) ?_
  refine lv_ifnonnull (tgt := 12) hx hb dJ17_addLast_1 (by decide) ?_
  refine lv_aload_n hx hb dJ17_addLast_12 rfl (lv_at hl 0 rfl) ?_
  refine g_getA (C := RJ17) (T := TJ17) (N := 3) X hI in_J17 rfl 0 (by decide) q520 (fun _ h9 => h9) hr dJ17_addLast_13 (fun v1 hr => ?_)
  refine lv_astore_n (lv' := [(2, .ref v1), (0, .ref z0), (1, .ref z1)]) hx hb dJ17_addLast_16 rfl hl (by decide) rfl (fun ls hl => ?_)
  refine lv_aload_n hx hb dJ17_addLast_17 rfl (lv_at hl 0 rfl) ?_
  refine lv_aload_n hx hb dJ17_addLast_18 rfl (lv_at hl 1 rfl) ?_
  refine g_getI (C := RJ17) (T := TJ17) (N := 3) X hI in_J17 rfl 2 (by decide) q522 (fun _ h9 => h9) hr dJ17_addLast_19 (fun v2 hr => ?_)
  refine lv_aload_n hx hb dJ17_addLast_22 rfl (lv_at hl 2 rfl) ?_
  obtain ⟨_, ho4, hr⟩ := gB_i hr
  refine g_aast X hI (t := 3) rfl (g_any X hI ho4 rfl (by decide)) hr dJ17_addLast_23 (fun h3 H locs hI hr => ?_)
  refine lv_aload_n hx hb dJ17_addLast_24 rfl (lv_at hl 1 rfl) ?_
  refine g_getI (C := RJ17) (T := TJ17) (N := 3) X hI in_J17 rfl 1 (by decide) q521 (fun _ h9 => h9) hr dJ17_addLast_25 (fun v5 hr => ?_)
  refine lv_aload_n hx hb dJ17_addLast_28 rfl (lv_at hl 1 rfl) ?_
  refine lv_aload_n hx hb dJ17_addLast_29 rfl (lv_at hl 1 rfl) ?_
  refine g_getI (C := RJ17) (T := TJ17) (N := 3) X hI in_J17 rfl 2 (by decide) q522 (fun _ h9 => h9) hr dJ17_addLast_30 (fun v6 hr => ?_)
  refine lv_aload_n hx hb dJ17_addLast_33 rfl (lv_at hl 0 rfl) ?_
  refine g_alen X hI (t := 3) rfl hr dJ17_addLast_34 (fun v7 hr => ?_)
  obtain ⟨v9, hc8, hr⟩ := gB_i hr
  refine gRun_i (g_runS X hI (w_J17_inc hc8) hl (lw_S q1031 q1032 q117 q1033) rfl rfl hd_J17_inc ⟨Nat.le_of_ble_eq_true rfl, Nat.le_of_ble_eq_true rfl⟩ (as := [.int v6, .int v7]) (rest := [.ref z0, .int v5]) rfl rfl (Nat.le_of_ble_eq_true rfl) ⟨(Nat.le_refl _), (Nat.le_refl _)⟩ dJ17_addLast_35) (fun H locs hI => ?_)
  refine lv_dup_x1 hx hb dJ17_addLast_38 rfl rfl ?_
  refine g_put (C := RJ17) (T := TJ17) (N := 3) (v := .int v9) (ty := .int) X hI in_J17 tyJ17 tyJ17_ok nmJ17 rfl 2 (by decide) q522 (fun _ h9 => h9) rfl (by decide +kernel) rfl rfl hr dJ17_addLast_39 (fun h10 H locs hI hr => ?_)
  refine lv_icmp_ne (tgt := 50) hx hb dJ17_addLast_42 (by decide) (fun c9 => ?_) (fun c9 => ?_)
  · replace hr := gIf_f c9 hr
    have hr := gS_i hr
    subst hr
    exact g_vret X hI (Nat.le_refl _) (Nat.le_refl _) dJ17_addLast_50
  · replace hr := gIf_t c9 hr
    refine lv_aload_n hx hb dJ17_addLast_45 rfl (lv_at hl 1 rfl) ?_
    refine lv_iconst (v := 1) hx hb dJ17_addLast_46 (by decide) ?_
    exact nomatch hr
abbrev rm_J17_circularClear : Room := { frames := 0, cells := 0, slots := 0, locals := 0 }
theorem hd_J17_circularClear : yJ17_circularClear.cls ≠ "java/lang/invoke/MethodHandle" ∧ yJ17_circularClear.cls ≠ "java/lang/invoke/VarHandle" ∧ (parseMethodDescriptor yJ17_circularClear.desc).map (fun d => d.parameters.length) = some 3 := by decide +kernel
set_option maxHeartbeats 2000000 in
theorem w_J17_circularClear_L12 {n : Nat} {z0 : Nat} {z2 : Int32} {res : gH} (X : gXX x base RJ17 cJ17_circularClear 4 none p l s m args meth c) : ∀ (k : Nat) {z1 : Int32} {z3 : Int32} {h : gH} {H : Heap} {locs : List Loc} {ls : Array Slot}, gL3 (f_J17_circularClear_L12 z0 z2) k z1 z3 h = some res → gI x base s.heap h n H locs → lv_has ls 4 [(0, .ref z0), (1, .int z1), (2, .int z2), (3, .int z3)] → W p l e rm_J17_circularClear s m args below meth c H locs 0 0 (MQ below (gQ x base none res n) args s 0 0 (fun q => base ≤ q)) (F0 m 12 ls []) := by
  have hx := X.1
  have hb := X.2.1
  intro k
  induction k with
  | zero =>
    intros
    rename_i hr _ _
    exact nomatch (show (none : Option _) = some _ from hr)
  | succ k ih =>
    intro z1 z3 h H locs ls hr hI hl
    replace hr : f_J17_circularClear_L12 z0 z2 (gL3 (f_J17_circularClear_L12 z0 z2) k) z1 z3 h = some res := hr
    unfold f_J17_circularClear_L12 at hr
    refine lv_iload_n hx hb dJ17_circularClear_12 rfl (lv_at hl 1 rfl) ?_
    refine lv_iload_n hx hb dJ17_circularClear_13 rfl (lv_at hl 3 rfl) ?_
    refine lv_icmp_ge (tgt := 27) hx hb dJ17_circularClear_14 (by decide) (fun c9 => ?_) (fun c9 => ?_)
    · replace hr := gIf_t c9 hr
      refine lv_iload_n hx hb dJ17_circularClear_27 rfl (lv_at hl 3 rfl) ?_
      refine lv_iload_n hx hb dJ17_circularClear_28 rfl (lv_at hl 2 rfl) ?_
      refine lv_icmp_ne (tgt := 35) hx hb dJ17_circularClear_29 (by decide) (fun c9 => ?_) (fun c9 => ?_)
      · replace hr := gIf_f c9 hr
        refine lv_iconst (v := 0) hx hb dJ17_circularClear_35 (by decide) ?_
        refine lv_istore_n (lv' := [(1, .int (0 : Int32)), (0, .ref z0), (2, .int z2), (3, .int z3)]) hx hb dJ17_circularClear_36 rfl hl (by decide) rfl (fun ls hl => ?_)
        refine lv_iload_n hx hb dJ17_circularClear_37 rfl (lv_at hl 2 rfl) ?_
        refine lv_istore_n (lv' := [(3, .int z2), (1, .int (0 : Int32)), (0, .ref z0), (2, .int z2)]) hx hb dJ17_circularClear_38 rfl hl (by decide) rfl (fun ls hl => ?_)
        refine lv_goto (tgt := 12) hx hb dJ17_circularClear_39 (by decide) ?_
        exact ih hr hI (lv_sub hl [2, 1, 3, 0] rfl)
      · replace hr := gIf_t c9 hr
        refine lv_goto (tgt := 42) hx hb dJ17_circularClear_32 (by decide) ?_
        have hr := gS_i hr
        subst hr
        exact g_vret X hI (Nat.le_refl _) (Nat.le_refl _) dJ17_circularClear_42
    · replace hr := gIf_f c9 hr
      refine lv_aload_n hx hb dJ17_circularClear_17 rfl (lv_at hl 0 rfl) ?_
      refine lv_iload_n hx hb dJ17_circularClear_18 rfl (lv_at hl 1 rfl) ?_
      refine lv_null hx hb dJ17_circularClear_19 ?_
      refine g_aastN X hI (t := 3) rfl hr dJ17_circularClear_20 (fun h2 H locs hI hr => ?_)
      refine lv_iinc (v := (z1 + (1 : Int32))) (lv' := [(1, .int (z1 + (1 : Int32))), (0, .ref z0), (2, .int z2), (3, .int z3)]) hx hb dJ17_circularClear_21 hl (k := 1) rfl (g_inc (by decide)) (by decide) rfl (fun ls hl => ?_)
      refine lv_goto (tgt := 12) hx hb dJ17_circularClear_24 (by decide) ?_
      exact ih hr hI (lv_sub hl [1, 0, 2, 3] rfl)
set_option maxHeartbeats 2000000 in
theorem w_J17_circularClear_J11 {h : gH} {n : Nat} {z0 : Nat} {z1 : Int32} {z2 : Int32} {s0 : Int32} {res : gH} (X : gXX x base RJ17 cJ17_circularClear 4 none p l s m args meth c) {H : Heap} {locs : List Loc} {ls : Array Slot} (hr : f_J17_circularClear_J11 z0 z1 z2 s0 h = some res) (hI : gI x base s.heap h n H locs) (hl : lv_has ls 4 [(0, .ref z0), (1, .int z1), (2, .int z2)]) : W p l e rm_J17_circularClear s m args below meth c H locs 0 0 (MQ below (gQ x base none res n) args s 0 0 (fun q => base ≤ q)) (F0 m 11 ls [.int s0]) := by
  have hx := X.1
  have hb := X.2.1
  unfold f_J17_circularClear_J11 at hr
  refine lv_istore_n (lv' := [(3, .int s0), (0, .ref z0), (1, .int z1), (2, .int z2)]) hx hb dJ17_circularClear_11 rfl hl (by decide) rfl (fun ls hl => ?_)
  exact w_J17_circularClear_L12 X gN hr hI (lv_sub hl [1, 2, 3, 0] rfl)
set_option maxHeartbeats 2000000 in
theorem w_J17_circularClear {l : Launch} {x : gV} {base : Nat} {z0 : Nat} {z1 : Int32} {z2 : Int32} {h : gH} {n : Nat} {res : gH} (hr : f_J17_circularClear z0 z1 z2 h = some res) : gM l yJ17_circularClear (ws_ yJ17_circularClear cJ17_circularClear 4 none) rm_J17_circularClear x base [.ref z0, .int z1, .int z2] h n none res n 0 0 := by
  refine g_met (cc := cJ17_circularClear) (nL := 4) (ret := none) (by decide) (Nat.le_of_ble_eq_true rfl) (fun p e s m below meth c ls X hnm hl hI => ?_)
  have hl : lv_has ls 4 [(0, .ref z0), (1, .int z1), (2, .int z2)] := hl
  have hx := X.1
  have hb := X.2.1
  unfold f_J17_circularClear at hr
  refine lv_iload_n hx hb dJ17_circularClear_0 rfl (lv_at hl 1 rfl) ?_
  refine lv_iload_n hx hb dJ17_circularClear_1 rfl (lv_at hl 2 rfl) ?_
  refine lv_icmp_gt (tgt := 9) hx hb dJ17_circularClear_2 (by decide) (fun c9 => ?_) (fun c9 => ?_)
  · replace hr := gIf_t c9 hr
    refine lv_aload_n hx hb dJ17_circularClear_9 rfl (lv_at hl 0 rfl) ?_
    refine g_alen X hI (t := 3) rfl hr dJ17_circularClear_10 (fun v1 hr => ?_)
    exact w_J17_circularClear_J11 X hr hI (lv_sub hl [0, 1, 2] rfl)
  · replace hr := gIf_f c9 hr
    refine lv_iload_n hx hb dJ17_circularClear_5 rfl (lv_at hl 2 rfl) ?_
    refine lv_goto (tgt := 11) hx hb dJ17_circularClear_6 (by decide) ?_
    exact w_J17_circularClear_J11 X hr hI (lv_sub hl [0, 1, 2] rfl)
abbrev rm_J17_clear : Room := { frames := 1, cells := 0, slots := 0, locals := 23 }
theorem hd_J17_clear : yJ17_clear.cls = RJ17 ∧ yJ17_clear.cls ≠ "java/lang/invoke/MethodHandle" ∧ yJ17_clear.cls ≠ "java/lang/invoke/VarHandle" ∧ (parseMethodDescriptor yJ17_clear.desc).map (fun d => d.parameters.length) = some 0 := by decide +kernel
set_option maxHeartbeats 2000000 in
theorem w_J17_clear {l : Launch} {x : gV} {base : Nat} {z0 : Nat} {h : gH} {n : Nat} {res : gH} (hr : f_J17_clear z0 h = some res) : gM l yJ17_clear (ws_ yJ17_clear cJ17_clear 1 none) rm_J17_clear x base [.ref z0] h n none res n 0 0 := by
  refine g_met (cc := cJ17_clear) (nL := 1) (ret := none) (by decide) (Nat.le_of_ble_eq_true rfl) (fun p e s m below meth c ls X hnm hl hI => ?_)
  have hl : lv_has ls 1 [(0, .ref z0)] := hl
  have hx := X.1
  have hb := X.2.1
  unfold f_J17_clear at hr
  refine lv_aload_n hx hb dJ17_clear_0 rfl (lv_at hl 0 rfl) ?_
  refine g_getA (C := RJ17) (T := TJ17) (N := 3) X hI in_J17 rfl 0 (by decide) q520 (fun _ h9 => h9) hr dJ17_clear_1 (fun v1 hr => ?_)
  refine lv_aload_n hx hb dJ17_clear_4 rfl (lv_at hl 0 rfl) ?_
  refine g_getI (C := RJ17) (T := TJ17) (N := 3) X hI in_J17 rfl 1 (by decide) q521 (fun _ h9 => h9) hr dJ17_clear_5 (fun v2 hr => ?_)
  refine lv_aload_n hx hb dJ17_clear_8 rfl (lv_at hl 0 rfl) ?_
  refine g_getI (C := RJ17) (T := TJ17) (N := 3) X hI in_J17 rfl 2 (by decide) q522 (fun _ h9 => h9) hr dJ17_clear_9 (fun v3 hr => ?_)
  obtain ⟨h5, hc4, hr⟩ := gB_i hr
  refine gRun_v (g_runS X hI (w_J17_circularClear hc4) hl (lw_S q1141 q1142 q117 q1143) rfl rfl hd_J17_circularClear ⟨Nat.le_of_ble_eq_true rfl, Nat.le_of_ble_eq_true rfl⟩ (as := [.ref v1, .int v2, .int v3]) (rest := []) rfl rfl (Nat.le_of_ble_eq_true rfl) ⟨(Nat.le_refl _), (Nat.le_refl _)⟩ dJ17_clear_12) (fun H locs hI => ?_)
  refine lv_aload_n hx hb dJ17_clear_15 rfl (lv_at hl 0 rfl) ?_
  refine lv_aload_n hx hb dJ17_clear_16 rfl (lv_at hl 0 rfl) ?_
  refine lv_iconst (v := 0) hx hb dJ17_clear_17 (by decide) ?_
  refine lv_dup_x1 hx hb dJ17_clear_18 rfl rfl ?_
  refine g_put (C := RJ17) (T := TJ17) (N := 3) (v := .int (0 : Int32)) (ty := .int) X hI in_J17 tyJ17 tyJ17_ok nmJ17 rfl 2 (by decide) q522 (fun _ h9 => h9) rfl (by decide +kernel) rfl rfl hr dJ17_clear_19 (fun h6 H locs hI hr => ?_)
  refine g_put (C := RJ17) (T := TJ17) (N := 3) (v := .int (0 : Int32)) (ty := .int) X hI in_J17 tyJ17 tyJ17_ok nmJ17 rfl 1 (by decide) q521 (fun _ h9 => h9) rfl (by decide +kernel) rfl rfl hr dJ17_clear_22 (fun h7 H locs hI hr => ?_)
  have hr := gS_i hr
  subst hr
  exact g_vret X hI (Nat.le_refl _) (Nat.le_refl _) dJ17_clear_25
abbrev rm_J17_isEmpty : Room := { frames := 0, cells := 0, slots := 0, locals := 0 }
theorem hd_J17_isEmpty : yJ17_isEmpty.cls = RJ17 ∧ yJ17_isEmpty.cls ≠ "java/lang/invoke/MethodHandle" ∧ yJ17_isEmpty.cls ≠ "java/lang/invoke/VarHandle" ∧ (parseMethodDescriptor yJ17_isEmpty.desc).map (fun d => d.parameters.length) = some 0 := by decide +kernel
set_option maxHeartbeats 2000000 in
theorem w_J17_isEmpty {l : Launch} {x : gV} {base : Nat} {z0 : Nat} {h : gH} {n : Nat} {res : Int32} (hr : f_J17_isEmpty z0 h = some res) : gM l yJ17_isEmpty (ws_ yJ17_isEmpty cJ17_isEmpty 1 (some .boolean)) rm_J17_isEmpty x base [.ref z0] h n (some (.int res)) h n 0 0 := by
  refine g_met (cc := cJ17_isEmpty) (nL := 1) (ret := (some .boolean)) (by decide) (Nat.le_of_ble_eq_true rfl) (fun p e s m below meth c ls X hnm hl hI => ?_)
  have hl : lv_has ls 1 [(0, .ref z0)] := hl
  have hx := X.1
  have hb := X.2.1
  unfold f_J17_isEmpty at hr
  refine lv_aload_n hx hb dJ17_isEmpty_0 rfl (lv_at hl 0 rfl) ?_
  refine g_getI (C := RJ17) (T := TJ17) (N := 3) X hI in_J17 rfl 1 (by decide) q521 (fun _ h9 => h9) hr dJ17_isEmpty_1 (fun v1 hr => ?_)
  refine lv_aload_n hx hb dJ17_isEmpty_4 rfl (lv_at hl 0 rfl) ?_
  refine g_getI (C := RJ17) (T := TJ17) (N := 3) X hI in_J17 rfl 2 (by decide) q522 (fun _ h9 => h9) hr dJ17_isEmpty_5 (fun v2 hr => ?_)
  refine lv_icmp_ne (tgt := 15) hx hb dJ17_isEmpty_8 (by decide) (fun c9 => ?_) (fun c9 => ?_)
  · replace hr := gIf_f c9 hr
    refine lv_iconst (v := 0) hx hb dJ17_isEmpty_15 (by decide) ?_
    have hr := gS_i hr
    subst hr
    exact g_iret X hI (g_narZ (Or.inl rfl)) (Nat.le_refl _) (Nat.le_refl _) dJ17_isEmpty_16
  · replace hr := gIf_t c9 hr
    refine lv_iconst (v := 1) hx hb dJ17_isEmpty_11 (by decide) ?_
    refine lv_goto (tgt := 16) hx hb dJ17_isEmpty_12 (by decide) ?_
    have hr := gS_i hr
    subst hr
    exact g_iret X hI (g_narZ (Or.inr rfl)) (Nat.le_refl _) (Nat.le_refl _) dJ17_isEmpty_16
abbrev rm_J17_dec : Room := { frames := 0, cells := 0, slots := 0, locals := 0 }
theorem hd_J17_dec : yJ17_dec.cls ≠ "java/lang/invoke/MethodHandle" ∧ yJ17_dec.cls ≠ "java/lang/invoke/VarHandle" ∧ (parseMethodDescriptor yJ17_dec.desc).map (fun d => d.parameters.length) = some 2 := by decide +kernel
set_option maxHeartbeats 2000000 in
theorem w_J17_dec {l : Launch} {x : gV} {base : Nat} {z0 : Int32} {z1 : Int32} {h : gH} {n : Nat} {res : Int32} (hr : f_J17_dec z0 z1 h = some res) : gM l yJ17_dec (ws_ yJ17_dec cJ17_dec 2 (some .int)) rm_J17_dec x base [.int z0, .int z1] h n (some (.int res)) h n 0 0 := by
  refine g_met (cc := cJ17_dec) (nL := 2) (ret := (some .int)) (by decide) (Nat.le_of_ble_eq_true rfl) (fun p e s m below meth c ls X hnm hl hI => ?_)
  have hl : lv_has ls 2 [(0, .int z0), (1, .int z1)] := hl
  have hx := X.1
  have hb := X.2.1
  unfold f_J17_dec at hr
  refine lv_iinc (v := (z0 + (-1 : Int32))) (lv' := [(0, .int (z0 + (-1 : Int32))), (1, .int z1)]) hx hb dJ17_dec_0 hl (k := 0) rfl (g_inc (by decide)) (by decide) rfl (fun ls hl => ?_)
  refine lv_iload_n hx hb dJ17_dec_3 rfl (lv_at hl 0 rfl) ?_
  refine lv_if_ge (tgt := 11) hx hb dJ17_dec_4 (by decide) (fun c9 => ?_) (fun c9 => ?_)
  · replace hr := gIf_t c9 hr
    refine lv_iload_n hx hb dJ17_dec_11 rfl (lv_at hl 0 rfl) ?_
    have hr := gS_i hr
    subst hr
    exact g_iret X hI rfl (Nat.le_refl _) (Nat.le_refl _) dJ17_dec_12
  · replace hr := gIf_f c9 hr
    refine lv_iload_n hx hb dJ17_dec_7 rfl (lv_at hl 1 rfl) ?_
    refine lv_iconst (v := 1) hx hb dJ17_dec_8 (by decide) ?_
    refine lv_isub hx hb dJ17_dec_9 ?_
    refine lv_istore_n (lv' := [(0, .int (z1 - (1 : Int32))), (1, .int z1)]) hx hb dJ17_dec_10 rfl hl (by decide) rfl (fun ls hl => ?_)
    refine lv_iload_n hx hb dJ17_dec_11 rfl (lv_at hl 0 rfl) ?_
    have hr := gS_i hr
    subst hr
    exact g_iret X hI rfl (Nat.le_refl _) (Nat.le_refl _) dJ17_dec_12
abbrev rm_J17_pollLast : Room := { frames := 1, cells := 0, slots := 0, locals := 21 }
theorem hd_J17_pollLast : yJ17_pollLast.cls = RJ17 ∧ yJ17_pollLast.cls ≠ "java/lang/invoke/MethodHandle" ∧ yJ17_pollLast.cls ≠ "java/lang/invoke/VarHandle" ∧ (parseMethodDescriptor yJ17_pollLast.desc).map (fun d => d.parameters.length) = some 0 := by decide +kernel
set_option maxHeartbeats 2000000 in
theorem w_J17_pollLast {l : Launch} {x : gV} {base : Nat} {z0 : Nat} {h : gH} {n : Nat} {res : Option Nat × gH} (hr : f_J17_pollLast z0 h = some res) : gM l yJ17_pollLast (ws_ yJ17_pollLast cJ17_pollLast 4 (some (.object "java/lang/Object"))) rm_J17_pollLast x base [.ref z0] h n (some (va_rf res.1)) res.2 n 0 0 := by
  refine g_met (cc := cJ17_pollLast) (nL := 4) (ret := (some (.object "java/lang/Object"))) (by decide) (Nat.le_of_ble_eq_true rfl) (fun p e s m below meth c ls X hnm hl hI => ?_)
  have hl : lv_has ls 4 [(0, .ref z0)] := hl
  have hx := X.1
  have hb := X.2.1
  unfold f_J17_pollLast at hr
  refine lv_aload_n hx hb dJ17_pollLast_0 rfl (lv_at hl 0 rfl) ?_
  refine g_getA (C := RJ17) (T := TJ17) (N := 3) X hI in_J17 rfl 0 (by decide) q520 (fun _ h9 => h9) hr dJ17_pollLast_1 (fun v1 hr => ?_)
  refine lv_dup hx hb dJ17_pollLast_4 rfl ?_
  refine lv_astore_n (lv' := [(1, .ref v1), (0, .ref z0)]) hx hb dJ17_pollLast_5 rfl hl (by decide) rfl (fun ls hl => ?_)
  refine lv_aload_n hx hb dJ17_pollLast_6 rfl (lv_at hl 1 rfl) ?_
  refine g_getI (C := RJ17) (T := TJ17) (N := 3) X hI in_J17 rfl 2 (by decide) q522 (fun _ h9 => h9) hr dJ17_pollLast_7 (fun v2 hr => ?_)
  refine lv_aload_n hx hb dJ17_pollLast_10 rfl (lv_at hl 0 rfl) ?_
  refine g_alen X hI (t := 3) rfl hr dJ17_pollLast_11 (fun v3 hr => ?_)
  obtain ⟨v5, hc4, hr⟩ := gB_i hr
  refine gRun_i (g_runS X hI (w_J17_dec hc4) hl (lw_S q1560 q1561 q117 q1562) rfl rfl hd_J17_dec ⟨Nat.le_of_ble_eq_true rfl, Nat.le_of_ble_eq_true rfl⟩ (as := [.int v2, .int v3]) (rest := [.ref v1]) rfl rfl (Nat.le_of_ble_eq_true rfl) ⟨(Nat.le_refl _), (Nat.le_refl _)⟩ dJ17_pollLast_12) (fun H locs hI => ?_)
  refine lv_dup hx hb dJ17_pollLast_15 rfl ?_
  refine lv_istore_n (lv' := [(2, .int v5), (1, .ref v1), (0, .ref z0)]) hx hb dJ17_pollLast_16 rfl hl (by decide) rfl (fun ls hl => ?_)
  obtain ⟨v7, hc6, hr⟩ := gB_i hr
  refine gRun_q (g_runS X hI (w_J17_elementAt hc6) hl (lw_S q1028 q1029 q117 q1030) rfl rfl hd_J17_elementAt ⟨Nat.le_of_ble_eq_true rfl, Nat.le_of_ble_eq_true rfl⟩ (as := [.ref v1, .int v5]) (rest := []) rfl rfl (Nat.le_of_ble_eq_true rfl) ⟨(Nat.le_refl _), (Nat.le_refl _)⟩ dJ17_pollLast_17) (fun H locs hI => ?_)
  rcases v7 with _ | v8
  · replace hr := gO_n hr
    show W _ _ _ _ _ _ _ _ _ _ _ _ _ _ _ (F0 m 20 ls (.null :: []))
    refine lv_astore_nN (lv' := [(3, .null), (2, .int v5), (1, .ref v1), (0, .ref z0)]) hx hb dJ17_pollLast_20 rfl hl (by decide) rfl (fun ls hl => ?_)
    refine lv_aload_nN hx hb dJ17_pollLast_21 rfl (lv_at hl 0 rfl) ?_
    refine lv_ifnullN (tgt := 34) hx hb dJ17_pollLast_22 (by decide) ?_
    refine lv_aload_nN hx hb dJ17_pollLast_34 rfl (lv_at hl 0 rfl) ?_
    have hr := gS_i hr
    subst hr
    exact g_qret (v := none) X hI (Or.inl ⟨_, rfl⟩) (Nat.le_refl _) (Nat.le_refl _) dJ17_pollLast_35
  · replace hr := gO_s hr
    show W _ _ _ _ _ _ _ _ _ _ _ _ _ _ _ (F0 m 20 ls (.ref v8 :: []))
    refine lv_astore_n (lv' := [(3, .ref v8), (2, .int v5), (1, .ref v1), (0, .ref z0)]) hx hb dJ17_pollLast_20 rfl hl (by decide) rfl (fun ls hl => ?_)
    refine lv_aload_n hx hb dJ17_pollLast_21 rfl (lv_at hl 0 rfl) ?_
    refine lv_ifnull hx hb dJ17_pollLast_22 ?_
    refine lv_aload_n hx hb dJ17_pollLast_25 rfl (lv_at hl 2 rfl) ?_
    refine lv_aload_n hx hb dJ17_pollLast_26 rfl (lv_at hl 3 rfl) ?_
    refine lv_iload_n hx hb dJ17_pollLast_27 rfl (lv_at hl 1 rfl) ?_
    refine lv_dup_x1 hx hb dJ17_pollLast_28 rfl rfl ?_
    refine g_put (C := RJ17) (T := TJ17) (N := 3) (v := .int v5) (ty := .int) X hI in_J17 tyJ17 tyJ17_ok nmJ17 rfl 2 (by decide) q522 (fun _ h9 => h9) rfl (by decide +kernel) rfl rfl hr dJ17_pollLast_29 (fun h9 H locs hI hr => ?_)
    refine lv_null hx hb dJ17_pollLast_32 ?_
    refine g_aastN X hI (t := 3) rfl hr dJ17_pollLast_33 (fun h10 H locs hI hr => ?_)
    refine lv_aload_n hx hb dJ17_pollLast_34 rfl (lv_at hl 0 rfl) ?_
    have hr := gS_i hr
    subst hr
    exact g_qret (v := (some v8)) X hI (Or.inl ⟨_, rfl⟩) (Nat.le_refl _) (Nat.le_refl _) dJ17_pollLast_35
abbrev rm_J17_removeLast : Room := { frames := 2, cells := 0, slots := 0, locals := 44 }
theorem hd_J17_removeLast : yJ17_removeLast.cls = RJ17 ∧ yJ17_removeLast.cls ≠ "java/lang/invoke/MethodHandle" ∧ yJ17_removeLast.cls ≠ "java/lang/invoke/VarHandle" ∧ (parseMethodDescriptor yJ17_removeLast.desc).map (fun d => d.parameters.length) = some 0 := by decide +kernel
set_option maxHeartbeats 2000000 in
theorem w_J17_removeLast {l : Launch} {x : gV} {base : Nat} {z0 : Nat} {h : gH} {n : Nat} {res : Nat × gH} (hr : f_J17_removeLast z0 h = some res) : gM l yJ17_removeLast (ws_ yJ17_removeLast cJ17_removeLast 2 (some (.object "java/lang/Object"))) rm_J17_removeLast x base [.ref z0] h n (some (.ref res.1)) res.2 n 0 0 := by
  refine g_met (cc := cJ17_removeLast) (nL := 2) (ret := (some (.object "java/lang/Object"))) (by decide) (Nat.le_of_ble_eq_true rfl) (fun p e s m below meth c ls X hnm hl hI => ?_)
  have hl : lv_has ls 2 [(0, .ref z0)] := hl
  have hx := X.1
  have hb := X.2.1
  unfold f_J17_removeLast at hr
  refine lv_aload_n hx hb dJ17_removeLast_0 rfl (lv_at hl 0 rfl) ?_
  obtain ⟨_, ho1, hr⟩ := gB_i hr
  obtain ⟨v3, h4, hc2, hr⟩ := gT2_i hr
  refine gRun_q (g_runV X hI (w_J17_pollLast hc2) ho1 rfl hl (lw_V q1556 q1557 q1558 q117 q1559) rfl rfl hd_J17_pollLast ⟨Nat.le_of_ble_eq_true rfl, Nat.le_of_ble_eq_true rfl⟩ (as := []) (rest := []) rfl rfl (Nat.le_of_ble_eq_true rfl) ⟨(Nat.le_refl _), (Nat.le_refl _)⟩ dJ17_removeLast_1) (fun H locs hI => ?_)
  rcases v3 with _ | v5
  · replace hr := gO_n hr
    show W _ _ _ _ _ _ _ _ _ _ _ _ _ _ _ (F0 m 4 ls (.null :: []))
    refine lv_astore_nN (lv' := [(1, .null), (0, .ref z0)]) hx hb dJ17_removeLast_4 rfl hl (by decide) rfl (fun ls hl => ?_)
    refine lv_aload_nN hx hb dJ17_removeLast_5 rfl (lv_at hl 0 rfl) ?_
    refine lv_ifnonnullN hx hb dJ17_removeLast_6 ?_
    exact nomatch hr
  · replace hr := gO_s hr
    show W _ _ _ _ _ _ _ _ _ _ _ _ _ _ _ (F0 m 4 ls (.ref v5 :: []))
    refine lv_astore_n (lv' := [(1, .ref v5), (0, .ref z0)]) hx hb dJ17_removeLast_4 rfl hl (by decide) rfl (fun ls hl => ?_)
    refine lv_aload_n hx hb dJ17_removeLast_5 rfl (lv_at hl 0 rfl) ?_
    refine lv_ifnonnull (tgt := 17) hx hb dJ17_removeLast_6 (by decide) ?_
    refine lv_aload_n hx hb dJ17_removeLast_17 rfl (lv_at hl 0 rfl) ?_
    have hr := gS_i hr
    subst hr
    exact g_aret X hI (Or.inl ⟨_, rfl⟩) (Nat.le_refl _) (Nat.le_refl _) dJ17_removeLast_18
abbrev rm_J18_checkIndex : Room := { frames := 1, cells := 0, slots := 0, locals := 22 }
theorem hd_J18_checkIndex : yJ18_checkIndex.cls ≠ "java/lang/invoke/MethodHandle" ∧ yJ18_checkIndex.cls ≠ "java/lang/invoke/VarHandle" ∧ (parseMethodDescriptor yJ18_checkIndex.desc).map (fun d => d.parameters.length) = some 2 := by decide +kernel
set_option maxHeartbeats 2000000 in
theorem w_J18_checkIndex {l : Launch} {x : gV} {base : Nat} {z0 : Int32} {z1 : Int32} {h : gH} {n : Nat} {res : Int32} (hr : f_J18_checkIndex z0 z1 h = some res) : gM l yJ18_checkIndex (ws_ yJ18_checkIndex cJ18_checkIndex 2 (some .int)) rm_J18_checkIndex x base [.int z0, .int z1] h n (some (.int res)) h n 0 0 := by
  refine g_met (cc := cJ18_checkIndex) (nL := 2) (ret := (some .int)) (by decide) (Nat.le_of_ble_eq_true rfl) (fun p e s m below meth c ls X hnm hl hI => ?_)
  have hl : lv_has ls 2 [(0, .int z0), (1, .int z1)] := hl
  have hx := X.1
  have hb := X.2.1
  unfold f_J18_checkIndex at hr
  refine lv_iload_n hx hb dJ18_checkIndex_0 rfl (lv_at hl 0 rfl) ?_
  refine lv_iload_n hx hb dJ18_checkIndex_1 rfl (lv_at hl 1 rfl) ?_
  refine lv_null hx hb dJ18_checkIndex_2 ?_
  obtain ⟨v2, hc1, hr⟩ := gB_i hr
  refine gRun_i (g_runS X hI (w_J14_checkIndex hc1) hl (lw_S q676 q547 q113 q548) rfl rfl hd_J14_checkIndex ⟨Nat.le_of_ble_eq_true rfl, Nat.le_of_ble_eq_true rfl⟩ (as := [.int z0, .int z1, va_rf none]) (rest := []) rfl rfl (Nat.le_of_ble_eq_true rfl) ⟨(Nat.le_refl _), (Nat.le_refl _)⟩ dJ18_checkIndex_3) (fun H locs hI => ?_)
  have hr := gS_i hr
  subst hr
  exact g_iret X hI rfl (Nat.le_refl _) (Nat.le_refl _) dJ18_checkIndex_6
abbrev rm_J2_init : Room := { frames := 3, cells := 1, slots := 6, locals := 64 }
theorem hd_J2_init : yJ2_init.cls ≠ "java/lang/invoke/MethodHandle" ∧ yJ2_init.cls ≠ "java/lang/invoke/VarHandle" ∧ (parseMethodDescriptor yJ2_init.desc).map (fun d => d.parameters.length) = some 1 := by decide +kernel
set_option maxHeartbeats 2000000 in
theorem w_J2_init {l : Launch} {x : gV} {base : Nat} (hst : l.stackTraces = false) {z0 : Nat} {z1 : Int32} {h : gH} {n : Nat} {res : gH × Nat} (hr : f_J2_init z0 z1 h n = some res) : gM l yJ2_init (ws_ yJ2_init cJ2_init 2 none) rm_J2_init x base [.ref z0, .int z1] h n none res.1 res.2 1 6 := by
  refine g_met (cc := cJ2_init) (nL := 2) (ret := none) (by decide) (Nat.le_of_ble_eq_true rfl) (fun p e s m below meth c ls X hnm hl hI => ?_)
  have hl : lv_has ls 2 [(0, .ref z0), (1, .int z1)] := hl
  have hx := X.1
  have hb := X.2.1
  have hcc : 0 + 1 ≤ 1 ∧ 0 + 6 ≤ 6 := ⟨Nat.le_refl _, Nat.le_refl _⟩
  unfold f_J2_init at hr
  refine lv_aload_n hx hb dJ2_init_0 rfl (lv_at hl 0 rfl) ?_
  obtain ⟨h2, hc1, hr⟩ := gB_i hr
  refine gRun_v (g_runI X hI (w_J1_init hc1) hl q155 q153 q154 q99 rfl rfl rfl hd_J1_init ⟨Nat.le_of_ble_eq_true rfl, Nat.le_of_ble_eq_true rfl⟩ (as := []) (rest := []) rfl rfl (Nat.le_of_ble_eq_true rfl) ⟨(show 0 + 0 ≤ 1 from by omega), (show 0 + 0 ≤ 6 from by omega)⟩ dJ2_init_1) (fun H locs hI => ?_)
  refine lv_iload_n hx hb dJ2_init_4 rfl (lv_at hl 1 rfl) ?_
  refine lv_if_le (tgt := 19) hx hb dJ2_init_5 (by decide) (fun c9 => ?_) (fun c9 => ?_)
  · replace hr := gIf_t c9 hr
    refine lv_iload_n hx hb dJ2_init_19 rfl (lv_at hl 1 rfl) ?_
    refine lv_if_ne (tgt := 33) hx hb dJ2_init_20 (by decide) (fun c9 => ?_) (fun c9 => ?_)
    · replace hr := gIf_f c9 hr
      exact nomatch hr
    · replace hr := gIf_t c9 hr
      refine lv_aload_n hx hb dJ2_init_23 rfl (lv_at hl 0 rfl) ?_
      exact nomatch hr
  · replace hr := gIf_f c9 hr
    refine lv_aload_n hx hb dJ2_init_8 rfl (lv_at hl 0 rfl) ?_
    refine lv_iload_n hx hb dJ2_init_9 rfl (lv_at hl 1 rfl) ?_
    refine g_newQ (t := 3) (b := 6) (C := "java/lang/Object") X hI q160 (by decide) rfl (by decide) (show (0 + 0) + 1 ≤ 1 from by omega) (show (0 + 0) + 6 ≤ 6 from by omega) hr dJ2_init_10 (fun q3 h4 n5 H locs hI hr => ?_)
    refine g_put (C := RJ2) (T := TJ2) (N := 3) (v := .ref q3) (ty := (.array (.object "java/lang/Object"))) X hI in_J2 tyJ2 tyJ2_ok nmJ2 rfl 1 (by decide) q479 (fun _ h9 => h9) rfl (by decide +kernel) rfl rfl hr dJ2_init_13 (fun h6 H locs hI hr => ?_)
    refine lv_goto (tgt := 60) hx hb dJ2_init_16 (by decide) ?_
    have hr := gS_i hr
    subst hr
    exact g_vret X hI (show ((0 + 0) + 1) ≤ 1 from by omega) (show ((0 + 0) + 6) ≤ 6 from by omega) dJ2_init_60
abbrev rm_J2_size : Room := { frames := 0, cells := 0, slots := 0, locals := 0 }
theorem hd_J2_size : yJ2_size.cls = RJ2 ∧ yJ2_size.cls ≠ "java/lang/invoke/MethodHandle" ∧ yJ2_size.cls ≠ "java/lang/invoke/VarHandle" ∧ (parseMethodDescriptor yJ2_size.desc).map (fun d => d.parameters.length) = some 0 := by decide +kernel
set_option maxHeartbeats 2000000 in
theorem w_J2_size {l : Launch} {x : gV} {base : Nat} {z0 : Nat} {h : gH} {n : Nat} {res : Int32} (hr : f_J2_size z0 h = some res) : gM l yJ2_size (ws_ yJ2_size cJ2_size 1 (some .int)) rm_J2_size x base [.ref z0] h n (some (.int res)) h n 0 0 := by
  refine g_met (cc := cJ2_size) (nL := 1) (ret := (some .int)) (by decide) (Nat.le_of_ble_eq_true rfl) (fun p e s m below meth c ls X hnm hl hI => ?_)
  have hl : lv_has ls 1 [(0, .ref z0)] := hl
  have hx := X.1
  have hb := X.2.1
  unfold f_J2_size at hr
  refine lv_aload_n hx hb dJ2_size_0 rfl (lv_at hl 0 rfl) ?_
  refine g_getI (C := RJ2) (T := TJ2) (N := 3) X hI in_J2 rfl 2 (by decide) q480 (fun _ h9 => h9) hr dJ2_size_1 (fun v1 hr => ?_)
  have hr := gS_i hr
  subst hr
  exact g_iret X hI rfl (Nat.le_refl _) (Nat.le_refl _) dJ2_size_4
abbrev rm_J2_elementData : Room := { frames := 0, cells := 0, slots := 0, locals := 0 }
theorem hd_J2_elementData : yJ2_elementData.cls = RJ2 ∧ yJ2_elementData.cls ≠ "java/lang/invoke/MethodHandle" ∧ yJ2_elementData.cls ≠ "java/lang/invoke/VarHandle" ∧ (parseMethodDescriptor yJ2_elementData.desc).map (fun d => d.parameters.length) = some 1 := by decide +kernel
set_option maxHeartbeats 2000000 in
theorem w_J2_elementData {l : Launch} {x : gV} {base : Nat} {z0 : Nat} {z1 : Int32} {h : gH} {n : Nat} {res : Nat} (hr : f_J2_elementData z0 z1 h = some res) : gM l yJ2_elementData (ws_ yJ2_elementData cJ2_elementData 2 (some (.object "java/lang/Object"))) rm_J2_elementData x base [.ref z0, .int z1] h n (some (.ref res)) h n 0 0 := by
  refine g_met (cc := cJ2_elementData) (nL := 2) (ret := (some (.object "java/lang/Object"))) (by decide) (Nat.le_of_ble_eq_true rfl) (fun p e s m below meth c ls X hnm hl hI => ?_)
  have hl : lv_has ls 2 [(0, .ref z0), (1, .int z1)] := hl
  have hx := X.1
  have hb := X.2.1
  unfold f_J2_elementData at hr
  refine lv_aload_n hx hb dJ2_elementData_0 rfl (lv_at hl 0 rfl) ?_
  refine g_getA (C := RJ2) (T := TJ2) (N := 3) X hI in_J2 rfl 1 (by decide) q479 (fun _ h9 => h9) hr dJ2_elementData_1 (fun v1 hr => ?_)
  refine lv_iload_n hx hb dJ2_elementData_4 rfl (lv_at hl 1 rfl) ?_
  refine g_aaldA X hI (t := 3) rfl hr dJ2_elementData_5 (fun v2 hr => ?_)
  have hr := gS_i hr
  subst hr
  exact g_aret X hI (Or.inl ⟨_, rfl⟩) (Nat.le_refl _) (Nat.le_refl _) dJ2_elementData_6
abbrev rm_J2_get : Room := { frames := 2, cells := 0, slots := 0, locals := 43 }
theorem hd_J2_get : yJ2_get.cls = RJ2 ∧ yJ2_get.cls ≠ "java/lang/invoke/MethodHandle" ∧ yJ2_get.cls ≠ "java/lang/invoke/VarHandle" ∧ (parseMethodDescriptor yJ2_get.desc).map (fun d => d.parameters.length) = some 1 := by decide +kernel
set_option maxHeartbeats 2000000 in
theorem w_J2_get {l : Launch} {x : gV} {base : Nat} {z0 : Nat} {z1 : Int32} {h : gH} {n : Nat} {res : Nat} (hr : f_J2_get z0 z1 h = some res) : gM l yJ2_get (ws_ yJ2_get cJ2_get 2 (some (.object "java/lang/Object"))) rm_J2_get x base [.ref z0, .int z1] h n (some (.ref res)) h n 0 0 := by
  refine g_met (cc := cJ2_get) (nL := 2) (ret := (some (.object "java/lang/Object"))) (by decide) (Nat.le_of_ble_eq_true rfl) (fun p e s m below meth c ls X hnm hl hI => ?_)
  have hl : lv_has ls 2 [(0, .ref z0), (1, .int z1)] := hl
  have hx := X.1
  have hb := X.2.1
  unfold f_J2_get at hr
  refine lv_iload_n hx hb dJ2_get_0 rfl (lv_at hl 1 rfl) ?_
  refine lv_aload_n hx hb dJ2_get_1 rfl (lv_at hl 0 rfl) ?_
  refine g_getI (C := RJ2) (T := TJ2) (N := 3) X hI in_J2 rfl 2 (by decide) q480 (fun _ h9 => h9) hr dJ2_get_2 (fun v1 hr => ?_)
  obtain ⟨v3, hc2, hr⟩ := gB_i hr
  refine gRun_i (g_runS X hI (w_J18_checkIndex hc2) hl (lw_S q673 q674 q120 q675) rfl rfl hd_J18_checkIndex ⟨Nat.le_of_ble_eq_true rfl, Nat.le_of_ble_eq_true rfl⟩ (as := [.int z1, .int v1]) (rest := []) rfl rfl (Nat.le_of_ble_eq_true rfl) ⟨(Nat.le_refl _), (Nat.le_refl _)⟩ dJ2_get_5) (fun H locs hI => ?_)
  refine lv_pop hx hb dJ2_get_8 rfl ?_
  refine lv_aload_n hx hb dJ2_get_9 rfl (lv_at hl 0 rfl) ?_
  refine lv_iload_n hx hb dJ2_get_10 rfl (lv_at hl 1 rfl) ?_
  obtain ⟨_, ho4, hr⟩ := gB_i hr
  obtain ⟨v6, hc5, hr⟩ := gB_i hr
  refine gRun_a (g_runV X hI (w_J2_elementData hc5) ho4 rfl hl (lw_V q677 q678 q679 q100 q680) rfl rfl hd_J2_elementData ⟨Nat.le_of_ble_eq_true rfl, Nat.le_of_ble_eq_true rfl⟩ (as := [.int z1]) (rest := []) rfl rfl (Nat.le_of_ble_eq_true rfl) ⟨(Nat.le_refl _), (Nat.le_refl _)⟩ dJ2_get_11) (fun H locs hI => ?_)
  have hr := gS_i hr
  subst hr
  exact g_aret X hI (Or.inl ⟨_, rfl⟩) (Nat.le_refl _) (Nat.le_refl _) dJ2_get_14
abbrev rm_J2_add_2 : Room := { frames := 0, cells := 0, slots := 0, locals := 0 }
theorem hd_J2_add_2 : yJ2_add_2.cls = RJ2 ∧ yJ2_add_2.cls ≠ "java/lang/invoke/MethodHandle" ∧ yJ2_add_2.cls ≠ "java/lang/invoke/VarHandle" ∧ (parseMethodDescriptor yJ2_add_2.desc).map (fun d => d.parameters.length) = some 3 := by decide +kernel
set_option maxHeartbeats 2000000 in
theorem w_J2_add_2 {l : Launch} {x : gV} {base : Nat} {z0 : Nat} {z1 : Nat} {z2 : Nat} {z3 : Int32} {h : gH} {n : Nat} {res : gH} (hr : f_J2_add_2 z0 z1 z2 z3 h = some res) : gM l yJ2_add_2 (ws_ yJ2_add_2 cJ2_add_2 4 none) rm_J2_add_2 x base [.ref z0, .ref z1, .ref z2, .int z3] h n none res n 0 0 := by
  refine g_met (cc := cJ2_add_2) (nL := 4) (ret := none) (by decide) (Nat.le_of_ble_eq_true rfl) (fun p e s m below meth c ls X hnm hl hI => ?_)
  have hl : lv_has ls 4 [(0, .ref z0), (1, .ref z1), (2, .ref z2), (3, .int z3)] := hl
  have hx := X.1
  have hb := X.2.1
  unfold f_J2_add_2 at hr
  refine lv_iload_n hx hb dJ2_add_2_0 rfl (lv_at hl 3 rfl) ?_
  refine lv_aload_n hx hb dJ2_add_2_1 rfl (lv_at hl 2 rfl) ?_
  refine g_alen X hI (t := 3) rfl hr dJ2_add_2_2 (fun v1 hr => ?_)
  refine lv_icmp_ne (tgt := 11) hx hb dJ2_add_2_3 (by decide) (fun c9 => ?_) (fun c9 => ?_)
  · replace hr := gIf_f c9 hr
    refine lv_aload_n hx hb dJ2_add_2_11 rfl (lv_at hl 2 rfl) ?_
    refine lv_iload_n hx hb dJ2_add_2_12 rfl (lv_at hl 3 rfl) ?_
    refine lv_aload_n hx hb dJ2_add_2_13 rfl (lv_at hl 1 rfl) ?_
    obtain ⟨_, ho3, hr⟩ := gB_i hr
    refine g_aast X hI (t := 3) rfl (g_any X hI ho3 rfl (by decide)) hr dJ2_add_2_14 (fun h2 H locs hI hr => ?_)
    refine lv_aload_n hx hb dJ2_add_2_15 rfl (lv_at hl 0 rfl) ?_
    refine lv_iload_n hx hb dJ2_add_2_16 rfl (lv_at hl 3 rfl) ?_
    refine lv_iconst (v := 1) hx hb dJ2_add_2_17 (by decide) ?_
    refine lv_iadd hx hb dJ2_add_2_18 ?_
    refine g_put (C := RJ2) (T := TJ2) (N := 3) (v := .int (z3 + (1 : Int32))) (ty := .int) X hI in_J2 tyJ2 tyJ2_ok nmJ2 rfl 2 (by decide) q480 (fun _ h9 => h9) rfl (by decide +kernel) rfl rfl hr dJ2_add_2_19 (fun h4 H locs hI hr => ?_)
    have hr := gS_i hr
    subst hr
    exact g_vret X hI (Nat.le_refl _) (Nat.le_refl _) dJ2_add_2_22
  · replace hr := gIf_t c9 hr
    refine lv_aload_n hx hb dJ2_add_2_6 rfl (lv_at hl 0 rfl) ?_
    exact nomatch hr
abbrev rm_J2_add : Room := { frames := 1, cells := 0, slots := 0, locals := 23 }
theorem hd_J2_add : yJ2_add.cls = RJ2 ∧ yJ2_add.cls ≠ "java/lang/invoke/MethodHandle" ∧ yJ2_add.cls ≠ "java/lang/invoke/VarHandle" ∧ (parseMethodDescriptor yJ2_add.desc).map (fun d => d.parameters.length) = some 1 := by decide +kernel
set_option maxHeartbeats 2000000 in
theorem w_J2_add {l : Launch} {x : gV} {base : Nat} {z0 : Nat} {z1 : Nat} {h : gH} {n : Nat} {res : Int32 × gH} (hr : f_J2_add z0 z1 h = some res) : gM l yJ2_add (ws_ yJ2_add cJ2_add 2 (some .boolean)) rm_J2_add x base [.ref z0, .ref z1] h n (some (.int res.1)) res.2 n 0 0 := by
  refine g_met (cc := cJ2_add) (nL := 2) (ret := (some .boolean)) (by decide) (Nat.le_of_ble_eq_true rfl) (fun p e s m below meth c ls X hnm hl hI => ?_)
  have hl : lv_has ls 2 [(0, .ref z0), (1, .ref z1)] := hl
  have hx := X.1
  have hb := X.2.1
  unfold f_J2_add at hr
  refine lv_aload_n hx hb dJ2_add_0 rfl (lv_at hl 0 rfl) ?_
  refine lv_dup hx hb dJ2_add_1 rfl ?_
  refine g_getI (C := RJ2) (T := TJ2) (N := 3) X hI in_J2 rfl 0 (by decide) q482 (fun x9 h9 => u_same (X.w q483) x9 h9) hr dJ2_add_2 (fun v1 hr => ?_)
  refine lv_iconst (v := 1) hx hb dJ2_add_5 (by decide) ?_
  refine lv_iadd hx hb dJ2_add_6 ?_
  refine g_put (C := RJ2) (T := TJ2) (N := 3) (v := .int (v1 + (1 : Int32))) (ty := .int) X hI in_J2 tyJ2 tyJ2_ok nmJ2 rfl 0 (by decide) q482 (fun x9 h9 => u_same (X.w q483) x9 h9) rfl (by decide +kernel) rfl rfl hr dJ2_add_7 (fun h2 H locs hI hr => ?_)
  refine lv_aload_n hx hb dJ2_add_10 rfl (lv_at hl 0 rfl) ?_
  refine lv_aload_n hx hb dJ2_add_11 rfl (lv_at hl 1 rfl) ?_
  refine lv_aload_n hx hb dJ2_add_12 rfl (lv_at hl 0 rfl) ?_
  refine g_getA (C := RJ2) (T := TJ2) (N := 3) X hI in_J2 rfl 1 (by decide) q479 (fun _ h9 => h9) hr dJ2_add_13 (fun v3 hr => ?_)
  refine lv_aload_n hx hb dJ2_add_16 rfl (lv_at hl 0 rfl) ?_
  refine g_getI (C := RJ2) (T := TJ2) (N := 3) X hI in_J2 rfl 2 (by decide) q480 (fun _ h9 => h9) hr dJ2_add_17 (fun v4 hr => ?_)
  obtain ⟨_, ho5, hr⟩ := gB_i hr
  obtain ⟨h7, hc6, hr⟩ := gB_i hr
  refine gRun_v (g_runV X hI (w_J2_add_2 hc6) ho5 rfl hl (lw_V q709 q711 qs3 q100 q712) rfl rfl hd_J2_add_2 ⟨Nat.le_of_ble_eq_true rfl, Nat.le_of_ble_eq_true rfl⟩ (as := [.ref z1, .ref v3, .int v4]) (rest := []) rfl rfl (Nat.le_of_ble_eq_true rfl) ⟨(Nat.le_refl _), (Nat.le_refl _)⟩ dJ2_add_20) (fun H locs hI => ?_)
  refine lv_iconst (v := 1) hx hb dJ2_add_23 (by decide) ?_
  have hr := gS_i hr
  subst hr
  exact g_iret X hI (g_narZ (Or.inr rfl)) (Nat.le_refl _) (Nat.le_refl _) dJ2_add_24
abbrev rm_J2_set : Room := { frames := 2, cells := 0, slots := 0, locals := 43 }
theorem hd_J2_set : yJ2_set.cls = RJ2 ∧ yJ2_set.cls ≠ "java/lang/invoke/MethodHandle" ∧ yJ2_set.cls ≠ "java/lang/invoke/VarHandle" ∧ (parseMethodDescriptor yJ2_set.desc).map (fun d => d.parameters.length) = some 2 := by decide +kernel
set_option maxHeartbeats 2000000 in
theorem w_J2_set {l : Launch} {x : gV} {base : Nat} {z0 : Nat} {z1 : Int32} {z2 : Nat} {h : gH} {n : Nat} {res : Nat × gH} (hr : f_J2_set z0 z1 z2 h = some res) : gM l yJ2_set (ws_ yJ2_set cJ2_set 4 (some (.object "java/lang/Object"))) rm_J2_set x base [.ref z0, .int z1, .ref z2] h n (some (.ref res.1)) res.2 n 0 0 := by
  refine g_met (cc := cJ2_set) (nL := 4) (ret := (some (.object "java/lang/Object"))) (by decide) (Nat.le_of_ble_eq_true rfl) (fun p e s m below meth c ls X hnm hl hI => ?_)
  have hl : lv_has ls 4 [(0, .ref z0), (1, .int z1), (2, .ref z2)] := hl
  have hx := X.1
  have hb := X.2.1
  unfold f_J2_set at hr
  refine lv_iload_n hx hb dJ2_set_0 rfl (lv_at hl 1 rfl) ?_
  refine lv_aload_n hx hb dJ2_set_1 rfl (lv_at hl 0 rfl) ?_
  refine g_getI (C := RJ2) (T := TJ2) (N := 3) X hI in_J2 rfl 2 (by decide) q480 (fun _ h9 => h9) hr dJ2_set_2 (fun v1 hr => ?_)
  obtain ⟨v3, hc2, hr⟩ := gB_i hr
  refine gRun_i (g_runS X hI (w_J18_checkIndex hc2) hl (lw_S q673 q674 q120 q675) rfl rfl hd_J18_checkIndex ⟨Nat.le_of_ble_eq_true rfl, Nat.le_of_ble_eq_true rfl⟩ (as := [.int z1, .int v1]) (rest := []) rfl rfl (Nat.le_of_ble_eq_true rfl) ⟨(Nat.le_refl _), (Nat.le_refl _)⟩ dJ2_set_5) (fun H locs hI => ?_)
  refine lv_pop hx hb dJ2_set_8 rfl ?_
  refine lv_aload_n hx hb dJ2_set_9 rfl (lv_at hl 0 rfl) ?_
  refine lv_iload_n hx hb dJ2_set_10 rfl (lv_at hl 1 rfl) ?_
  obtain ⟨_, ho4, hr⟩ := gB_i hr
  obtain ⟨v6, hc5, hr⟩ := gB_i hr
  refine gRun_a (g_runV X hI (w_J2_elementData hc5) ho4 rfl hl (lw_V q677 q678 q679 q100 q680) rfl rfl hd_J2_elementData ⟨Nat.le_of_ble_eq_true rfl, Nat.le_of_ble_eq_true rfl⟩ (as := [.int z1]) (rest := []) rfl rfl (Nat.le_of_ble_eq_true rfl) ⟨(Nat.le_refl _), (Nat.le_refl _)⟩ dJ2_set_11) (fun H locs hI => ?_)
  refine lv_astore_n (lv' := [(3, .ref v6), (0, .ref z0), (1, .int z1), (2, .ref z2)]) hx hb dJ2_set_14 rfl hl (by decide) rfl (fun ls hl => ?_)
  refine lv_aload_n hx hb dJ2_set_15 rfl (lv_at hl 1 rfl) ?_
  refine g_getA (C := RJ2) (T := TJ2) (N := 3) X hI in_J2 rfl 1 (by decide) q479 (fun _ h9 => h9) hr dJ2_set_16 (fun v7 hr => ?_)
  refine lv_iload_n hx hb dJ2_set_19 rfl (lv_at hl 2 rfl) ?_
  refine lv_aload_n hx hb dJ2_set_20 rfl (lv_at hl 3 rfl) ?_
  obtain ⟨_, ho9, hr⟩ := gB_i hr
  refine g_aast X hI (t := 3) rfl (g_any X hI ho9 rfl (by decide)) hr dJ2_set_21 (fun h8 H locs hI hr => ?_)
  refine lv_aload_n hx hb dJ2_set_22 rfl (lv_at hl 0 rfl) ?_
  have hr := gS_i hr
  subst hr
  exact g_aret X hI (Or.inl ⟨_, rfl⟩) (Nat.le_refl _) (Nat.le_refl _) dJ2_set_23
abbrev rm_X2_give : Room := { frames := 0, cells := 0, slots := 0, locals := 0 }
theorem hd_X2_give : yX2_give.cls = RX2 ∧ yX2_give.cls ≠ "java/lang/invoke/MethodHandle" ∧ yX2_give.cls ≠ "java/lang/invoke/VarHandle" ∧ (parseMethodDescriptor yX2_give.desc).map (fun d => d.parameters.length) = some 3 := by decide +kernel
set_option maxHeartbeats 2000000 in
theorem w_X2_give_L3 {n : Nat} {z0 : Nat} {z1 : Int32} {z3 : Int32} {res : gH} (X : gXX x base RX2 cX2_give 5 none p l s m args meth c) : ∀ (k : Nat) {z4 : Int32} {h : gH} {H : Heap} {locs : List Loc} {ls : Array Slot}, gL2 (f_X2_give_L3 z0 z1 z3) k z4 h = some res → gI x base s.heap h n H locs → lv_has ls 5 [(0, .ref z0), (1, .int z1), (3, .int z3), (4, .int z4)] → W p l e rm_X2_give s m args below meth c H locs 0 0 (MQ below (gQ x base none res n) args s 0 0 (fun q => base ≤ q)) (F0 m 3 ls []) := by
  have hx := X.1
  have hb := X.2.1
  intro k
  induction k with
  | zero =>
    intros
    rename_i hr _ _
    exact nomatch (show (none : Option _) = some _ from hr)
  | succ k ih =>
    intro z4 h H locs ls hr hI hl
    replace hr : f_X2_give_L3 z0 z1 z3 (gL2 (f_X2_give_L3 z0 z1 z3) k) z4 h = some res := hr
    unfold f_X2_give_L3 at hr
    refine lv_iload hx hb dX2_give_3 (lv_at hl 3 rfl) ?_
    refine lv_iload_n hx hb dX2_give_5 rfl (lv_at hl 2 rfl) ?_
    refine lv_icmp_gt (tgt := 23) hx hb dX2_give_6 (by decide) (fun c9 => ?_) (fun c9 => ?_)
    · replace hr := gIf_t c9 hr
      have hr := gS_i hr
      subst hr
      exact g_vret X hI (Nat.le_refl _) (Nat.le_refl _) dX2_give_23
    · replace hr := gIf_f c9 hr
      refine lv_aload_n hx hb dX2_give_9 rfl (lv_at hl 0 rfl) ?_
      refine g_getA (C := RX2) (T := TX2) (N := 3) X hI in_X2 rfl 1 (by decide) q501 (fun _ h9 => h9) hr dX2_give_10 (fun v1 hr => ?_)
      refine lv_iload hx hb dX2_give_13 (lv_at hl 3 rfl) ?_
      refine lv_iload_n hx hb dX2_give_15 rfl (lv_at hl 1 rfl) ?_
      refine g_iast X hI hr dX2_give_16 (fun h2 H locs hI hr => ?_)
      refine lv_iinc (v := (z4 + (1 : Int32))) (lv' := [(4, .int (z4 + (1 : Int32))), (0, .ref z0), (1, .int z1), (3, .int z3)]) hx hb dX2_give_17 hl (k := 3) rfl (g_inc (by decide)) (by decide) rfl (fun ls hl => ?_)
      refine lv_goto (tgt := 3) hx hb dX2_give_20 (by decide) ?_
      exact ih hr hI (lv_sub hl [1, 2, 3, 0] rfl)
set_option maxHeartbeats 2000000 in
theorem w_X2_give {l : Launch} {x : gV} {base : Nat} {z0 : Nat} {z1 : Int32} {z2 : Int32} {z3 : Int32} {h : gH} {n : Nat} {res : gH} (hr : f_X2_give z0 z1 z2 z3 h = some res) : gM l yX2_give (ws_ yX2_give cX2_give 5 none) rm_X2_give x base [.ref z0, .int z1, .int z2, .int z3] h n none res n 0 0 := by
  refine g_met (cc := cX2_give) (nL := 5) (ret := none) (by decide) (Nat.le_of_ble_eq_true rfl) (fun p e s m below meth c ls X hnm hl hI => ?_)
  have hl : lv_has ls 5 [(0, .ref z0), (1, .int z1), (2, .int z2), (3, .int z3)] := hl
  have hx := X.1
  have hb := X.2.1
  unfold f_X2_give at hr
  refine lv_iload_n hx hb dX2_give_0 rfl (lv_at hl 2 rfl) ?_
  refine lv_istore (lv' := [(4, .int z2), (0, .ref z0), (1, .int z1), (2, .int z2), (3, .int z3)]) hx hb dX2_give_1 hl (by decide) rfl (fun ls hl => ?_)
  exact w_X2_give_L3 X gN hr hI (lv_sub hl [1, 2, 4, 0] rfl)
abbrev rm_X2_release : Room := { frames := 1, cells := 0, slots := 0, locals := 24 }
theorem hd_X2_release : yX2_release.cls = RX2 ∧ yX2_release.cls ≠ "java/lang/invoke/MethodHandle" ∧ yX2_release.cls ≠ "java/lang/invoke/VarHandle" ∧ (parseMethodDescriptor yX2_release.desc).map (fun d => d.parameters.length) = some 2 := by decide +kernel
set_option maxHeartbeats 2000000 in
theorem w_X2_release {l : Launch} {x : gV} {base : Nat} {z0 : Nat} {z1 : Int32} {z2 : Int32} {h : gH} {n : Nat} {res : gH} (hr : f_X2_release z0 z1 z2 h = some res) : gM l yX2_release (ws_ yX2_release cX2_release 3 none) rm_X2_release x base [.ref z0, .int z1, .int z2] h n none res n 0 0 := by
  refine g_met (cc := cX2_release) (nL := 3) (ret := none) (by decide) (Nat.le_of_ble_eq_true rfl) (fun p e s m below meth c ls X hnm hl hI => ?_)
  have hl : lv_has ls 3 [(0, .ref z0), (1, .int z1), (2, .int z2)] := hl
  have hx := X.1
  have hb := X.2.1
  unfold f_X2_release at hr
  refine lv_aload_n hx hb dX2_release_0 rfl (lv_at hl 0 rfl) ?_
  refine lv_iconst (v := (-1)) hx hb dX2_release_1 (by decide) ?_
  refine lv_iload_n hx hb dX2_release_2 rfl (lv_at hl 1 rfl) ?_
  refine lv_iload_n hx hb dX2_release_3 rfl (lv_at hl 2 rfl) ?_
  obtain ⟨_, ho1, hr⟩ := gB_i hr
  obtain ⟨h3, hc2, hr⟩ := gB_i hr
  refine gRun_v (g_runV X hI (w_X2_give hc2) ho1 rfl hl (lw_V q495 q496 q497 q97 q498) rfl rfl hd_X2_give ⟨Nat.le_of_ble_eq_true rfl, Nat.le_of_ble_eq_true rfl⟩ (as := [.int (-1 : Int32), .int z1, .int z2]) (rest := []) rfl rfl (Nat.le_of_ble_eq_true rfl) ⟨(Nat.le_refl _), (Nat.le_refl _)⟩ dX2_release_4) (fun H locs hI => ?_)
  have hr := gS_i hr
  subst hr
  exact g_vret X hI (Nat.le_refl _) (Nat.le_refl _) dX2_release_7
abbrev rm_X2_init : Room := { frames := 4, cells := 4, slots := 39, locals := 85 }
theorem hd_X2_init : yX2_init.cls ≠ "java/lang/invoke/MethodHandle" ∧ yX2_init.cls ≠ "java/lang/invoke/VarHandle" ∧ (parseMethodDescriptor yX2_init.desc).map (fun d => d.parameters.length) = some 1 := by decide +kernel
set_option maxHeartbeats 2000000 in
theorem w_X2_init {l : Launch} {x : gV} {base : Nat} (hst : l.stackTraces = false) {z0 : Nat} {z1 : Int32} {h : gH} {n : Nat} {res : gH × Nat} (hr : f_X2_init z0 z1 h n = some res) : gM l yX2_init (ws_ yX2_init cX2_init 2 none) rm_X2_init x base [.ref z0, .int z1] h n none res.1 res.2 4 39 := by
  refine g_met (cc := cX2_init) (nL := 2) (ret := none) (by decide) (Nat.le_of_ble_eq_true rfl) (fun p e s m below meth c ls X hnm hl hI => ?_)
  have hl : lv_has ls 2 [(0, .ref z0), (1, .int z1)] := hl
  have hx := X.1
  have hb := X.2.1
  have hcc : 0 + 4 ≤ 4 ∧ 0 + 39 ≤ 39 := ⟨Nat.le_refl _, Nat.le_refl _⟩
  unfold f_X2_init at hr
  refine lv_aload_n hx hb dX2_init_0 rfl (lv_at hl 0 rfl) ?_
  refine W.objInit hx hb X.2.2.2.2.1 (X.w q147) (X.w q140) (X.w q141) rfl (by rw [X.2.2.1]; exact hl.1) rfl dX2_init_1 (Nat.le_of_ble_eq_true rfl) (Nat.le_of_ble_eq_true rfl) ?_
  refine W.eq (g2 := F0 m 4 ls []) rfl ?_
  refine lv_aload_n hx hb dX2_init_4 rfl (lv_at hl 0 rfl) ?_
  refine g_newO (C := RJ2) (T := TJ2) (N := 3) (ci := 7) (fs := [.int 0, .null, .int 0]) X hI in_J2 tyJ2 tyJ2_ok q148 q149 q100 rfl (g_dflt3 rfl rfl rfl) (show 0 + 1 ≤ 4 from by omega) (show 0 + 3 ≤ 39 from by omega) hr dX2_init_5 (fun q1 h2 n3 H locs hI hr => ?_)
  refine lv_dup hx hb dX2_init_8 rfl ?_
  refine lv_bipush (v := 6) hx hb dX2_init_9 (by decide) ?_
  obtain ⟨h5, n6, hc4, hr⟩ := gT2_i hr
  refine gRun_v (g_runI X hI (w_J2_init hst hc4) hl q152 q150 q151 q100 rfl rfl rfl hd_J2_init ⟨Nat.le_of_ble_eq_true rfl, Nat.le_of_ble_eq_true rfl⟩ (as := [.int (6 : Int32)]) (rest := [.ref q1, .ref z0]) rfl rfl (Nat.le_of_ble_eq_true rfl) ⟨(show (0 + 1) + 1 ≤ 4 from by omega), (show (0 + 3) + 6 ≤ 39 from by omega)⟩ dX2_init_11) (fun H locs hI => ?_)
  refine g_putF (C := RX2) (T := TX2) (N := 3) (v := .ref q1) (ty := (.object "java/util/ArrayList")) X hI in_X2 tyX2 tyX2_ok nmX2 rfl 0 (by decide) q499 (fun _ h9 => h9) rfl hnm rfl (by decide +kernel) rfl rfl hr dX2_init_14 (fun h7 H locs hI hr => ?_)
  refine lv_aload_n hx hb dX2_init_17 rfl (lv_at hl 0 rfl) ?_
  refine lv_bipush (v := 6) hx hb dX2_init_18 (by decide) ?_
  refine g_newI (t := 2) (b := 6) (atype := .boolean) X hI q511 rfl rfl (by decide) (show ((0 + 1) + 1) + 1 ≤ 4 from by omega) (show ((0 + 3) + 6) + 6 ≤ 39 from by omega) hr dX2_init_20 (fun q8 h9 n10 H locs hI hr => ?_)
  refine g_putF (C := RX2) (T := TX2) (N := 3) (v := .ref q8) (ty := (.array .boolean)) X hI in_X2 tyX2 tyX2_ok nmX2 rfl 2 (by decide) q503 (fun _ h9 => h9) rfl hnm rfl (by decide +kernel) rfl rfl hr dX2_init_22 (fun h11 H locs hI hr => ?_)
  refine lv_aload_n hx hb dX2_init_25 rfl (lv_at hl 0 rfl) ?_
  refine lv_iload_n hx hb dX2_init_26 rfl (lv_at hl 1 rfl) ?_
  refine g_newI (t := 0) (b := 24) (atype := .int) X hI q512 rfl rfl (by decide) (show (((0 + 1) + 1) + 1) + 1 ≤ 4 from by omega) (show (((0 + 3) + 6) + 6) + 24 ≤ 39 from by omega) hr dX2_init_27 (fun q12 h13 n14 H locs hI hr => ?_)
  refine g_putF (C := RX2) (T := TX2) (N := 3) (v := .ref q12) (ty := (.array .int)) X hI in_X2 tyX2 tyX2_ok nmX2 rfl 1 (by decide) q501 (fun _ h9 => h9) rfl hnm rfl (by decide +kernel) rfl rfl hr dX2_init_29 (fun h15 H locs hI hr => ?_)
  refine lv_aload_n hx hb dX2_init_32 rfl (lv_at hl 0 rfl) ?_
  refine lv_iconst (v := 0) hx hb dX2_init_33 (by decide) ?_
  refine lv_iload_n hx hb dX2_init_34 rfl (lv_at hl 1 rfl) ?_
  refine lv_iconst (v := 1) hx hb dX2_init_35 (by decide) ?_
  refine lv_isub hx hb dX2_init_36 ?_
  obtain ⟨_, ho16, hr⟩ := gB_i hr
  obtain ⟨h18, hc17, hr⟩ := gB_i hr
  refine gRun_v (g_runV X hI (w_X2_release hc17) ho16 rfl hl (lw_V q491 q492 q493 q97 q494) rfl rfl hd_X2_release ⟨Nat.le_of_ble_eq_true rfl, Nat.le_of_ble_eq_true rfl⟩ (as := [.int (0 : Int32), .int (z1 - (1 : Int32))]) (rest := []) rfl rfl (Nat.le_of_ble_eq_true rfl) ⟨(show ((((0 + 1) + 1) + 1) + 1) + 0 ≤ 4 from by omega), (show ((((0 + 3) + 6) + 6) + 24) + 0 ≤ 39 from by omega)⟩ dX2_init_37) (fun H locs hI => ?_)
  have hr := gS_i hr
  subst hr
  exact g_vret X hI (show (((((0 + 1) + 1) + 1) + 1) + 0) ≤ 4 from by omega) (show (((((0 + 3) + 6) + 6) + 24) + 0) ≤ 39 from by omega) dX2_init_40
abbrev rm_X3_advance : Room := { frames := 0, cells := 0, slots := 0, locals := 0 }
theorem hd_X3_advance : yX3_advance.cls = RX3 ∧ yX3_advance.cls ≠ "java/lang/invoke/MethodHandle" ∧ yX3_advance.cls ≠ "java/lang/invoke/VarHandle" ∧ (parseMethodDescriptor yX3_advance.desc).map (fun d => d.parameters.length) = some 0 := by decide +kernel
set_option maxHeartbeats 2000000 in
theorem w_X3_advance_J299 {h : gH} {n : Nat} {z0 : Nat} {res : gH} (X : gXX x base RX3 cX3_advance 1 none p l s m args meth c) {H : Heap} {locs : List Loc} {ls : Array Slot} (hr : f_X3_advance_J299 z0 h = some res) (hI : gI x base s.heap h n H locs) (hl : lv_has ls 1 [(0, .ref z0)]) : W p l e rm_X3_advance s m args below meth c H locs 0 0 (MQ below (gQ x base none res n) args s 0 0 (fun q => base ≤ q)) (F0 m 299 ls []) := by
  have hx := X.1
  have hb := X.2.1
  unfold f_X3_advance_J299 at hr
  refine lv_aload_n hx hb dX3_advance_299 rfl (lv_at hl 0 rfl) ?_
  refine g_getI (C := RX3) (T := TX3) (N := 5) X hI in_X3 rfl 2 (by decide) q569 (fun _ h9 => h9) hr dX3_advance_300 (fun v20 hr => ?_)
  refine lv_aload_n hx hb dX3_advance_303 rfl (lv_at hl 0 rfl) ?_
  refine g_getI (C := RX3) (T := TX3) (N := 5) X hI in_X3 rfl 1 (by decide) q568 (fun _ h9 => h9) hr dX3_advance_304 (fun v21 hr => ?_)
  refine lv_icmp_le (tgt := 333) hx hb dX3_advance_307 (by decide) (fun c9 => ?_) (fun c9 => ?_)
  · replace hr := gIf_t c9 hr
    refine lv_aload_n hx hb dX3_advance_333 rfl (lv_at hl 0 rfl) ?_
    refine lv_aload_n hx hb dX3_advance_334 rfl (lv_at hl 0 rfl) ?_
    refine g_getI (C := RX3) (T := TX3) (N := 5) X hI in_X3 rfl 1 (by decide) q568 (fun _ h9 => h9) hr dX3_advance_335 (fun v22 hr => ?_)
    refine lv_iconst (v := 1) hx hb dX3_advance_338 (by decide) ?_
    refine lv_iadd hx hb dX3_advance_339 ?_
    refine g_put (C := RX3) (T := TX3) (N := 5) (v := .int (v22 + (1 : Int32))) (ty := .int) X hI in_X3 tyX3 tyX3_ok nmX3 rfl 2 (by decide) q569 (fun _ h9 => h9) rfl (by decide +kernel) rfl rfl hr dX3_advance_340 (fun h23 H locs hI hr => ?_)
    refine lv_aload_n hx hb dX3_advance_343 rfl (lv_at hl 0 rfl) ?_
    refine lv_iconst (v := 3) hx hb dX3_advance_344 (by decide) ?_
    refine g_put (C := RX3) (T := TX3) (N := 5) (v := .int (3 : Int32)) (ty := .int) X hI in_X3 tyX3 tyX3_ok nmX3 rfl 0 (by decide) q566 (fun _ h9 => h9) rfl (by decide +kernel) rfl rfl hr dX3_advance_345 (fun h24 H locs hI hr => ?_)
    have hr := gS_i hr
    subst hr
    exact g_vret X hI (Nat.le_refl _) (Nat.le_refl _) dX3_advance_348
  · replace hr := gIf_f c9 hr
    refine lv_aload_n hx hb dX3_advance_310 rfl (lv_at hl 0 rfl) ?_
    refine lv_aload_n hx hb dX3_advance_311 rfl (lv_at hl 0 rfl) ?_
    refine g_getI (C := RX3) (T := TX3) (N := 5) X hI in_X3 rfl 2 (by decide) q569 (fun _ h9 => h9) hr dX3_advance_312 (fun v25 hr => ?_)
    refine lv_aload_n hx hb dX3_advance_315 rfl (lv_at hl 0 rfl) ?_
    refine g_getI (C := RX3) (T := TX3) (N := 5) X hI in_X3 rfl 1 (by decide) q568 (fun _ h9 => h9) hr dX3_advance_316 (fun v26 hr => ?_)
    refine lv_isub hx hb dX3_advance_319 ?_
    refine lv_iconst (v := 2) hx hb dX3_advance_320 (by decide) ?_
    refine lv_icmp_le (tgt := 328) hx hb dX3_advance_321 (by decide) (fun c9 => ?_) (fun c9 => ?_)
    · replace hr := gIf_t c9 hr
      refine lv_iconst (v := 2) hx hb dX3_advance_328 (by decide) ?_
      refine g_put (C := RX3) (T := TX3) (N := 5) (v := .int (2 : Int32)) (ty := .int) X hI in_X3 tyX3 tyX3_ok nmX3 rfl 0 (by decide) q566 (fun _ h9 => h9) rfl (by decide +kernel) rfl rfl hr dX3_advance_329 (fun h27 H locs hI hr => ?_)
      have hr := gS_i hr
      subst hr
      exact g_vret X hI (Nat.le_refl _) (Nat.le_refl _) dX3_advance_332
    · replace hr := gIf_f c9 hr
      refine lv_iconst (v := 4) hx hb dX3_advance_324 (by decide) ?_
      refine lv_goto (tgt := 329) hx hb dX3_advance_325 (by decide) ?_
      refine g_put (C := RX3) (T := TX3) (N := 5) (v := .int (4 : Int32)) (ty := .int) X hI in_X3 tyX3 tyX3_ok nmX3 rfl 0 (by decide) q566 (fun _ h9 => h9) rfl (by decide +kernel) rfl rfl hr dX3_advance_329 (fun h28 H locs hI hr => ?_)
      have hr := gS_i hr
      subst hr
      exact g_vret X hI (Nat.le_refl _) (Nat.le_refl _) dX3_advance_332
set_option maxHeartbeats 2000000 in
theorem w_X3_advance_L198 {n : Nat} {z0 : Nat} {res : gH} (X : gXX x base RX3 cX3_advance 1 none p l s m args meth c) : ∀ (k : Nat) {h : gH} {H : Heap} {locs : List Loc} {ls : Array Slot}, gL1 (f_X3_advance_L198 z0) k h = some res → gI x base s.heap h n H locs → lv_has ls 1 [(0, .ref z0)] → W p l e rm_X3_advance s m args below meth c H locs 0 0 (MQ below (gQ x base none res n) args s 0 0 (fun q => base ≤ q)) (F0 m 198 ls []) := by
  have hx := X.1
  have hb := X.2.1
  intro k
  induction k with
  | zero =>
    intros
    rename_i hr _ _
    exact nomatch (show (none : Option _) = some _ from hr)
  | succ k ih =>
    intro h H locs ls hr hI hl
    replace hr : f_X3_advance_L198 z0 (gL1 (f_X3_advance_L198 z0) k) h = some res := hr
    unfold f_X3_advance_L198 at hr
    refine lv_aload_n hx hb dX3_advance_198 rfl (lv_at hl 0 rfl) ?_
    refine g_getI (C := RX3) (T := TX3) (N := 5) X hI in_X3 rfl 2 (by decide) q569 (fun _ h9 => h9) hr dX3_advance_199 (fun v17 hr => ?_)
    refine lv_aload_n hx hb dX3_advance_202 rfl (lv_at hl 0 rfl) ?_
    refine g_getA (C := RX3) (T := TX3) (N := 5) X hI in_X3 rfl 4 (by decide) q571 (fun _ h9 => h9) hr dX3_advance_203 (fun v18 hr => ?_)
    refine g_getNI (C := RX1) (T := TX1) (N := 10) (host := "CakeDivision") X hI in_X1 rfl 1 (by decide) (by decide +kernel) (fun _ h9 => h9) hr dX3_advance_206 (fun v19 hr => ?_)
    refine lv_icmp_ge (tgt := 299) hx hb dX3_advance_209 (by decide) (fun c9 => ?_) (fun c9 => ?_)
    · replace hr := gIf_t c9 hr
      exact w_X3_advance_J299 X hr hI (lv_sub hl [0] rfl)
    · replace hr := gIf_f c9 hr
      refine lv_aload_n hx hb dX3_advance_212 rfl (lv_at hl 0 rfl) ?_
      refine g_getA (C := RX3) (T := TX3) (N := 5) X hI in_X3 rfl 4 (by decide) q571 (fun _ h9 => h9) hr dX3_advance_213 (fun v29 hr => ?_)
      refine g_getNA (C := RX1) (T := TX1) (N := 10) (host := "CakeDivision") X hI in_X1 rfl 0 (by decide) (by decide +kernel) (fun _ h9 => h9) hr dX3_advance_216 (fun v30 hr => ?_)
      refine lv_aload_n hx hb dX3_advance_219 rfl (lv_at hl 0 rfl) ?_
      refine g_getI (C := RX3) (T := TX3) (N := 5) X hI in_X3 rfl 2 (by decide) q569 (fun _ h9 => h9) hr dX3_advance_220 (fun v31 hr => ?_)
      refine g_bald X hI hr dX3_advance_223 (fun v32 hr => ?_)
      refine lv_bipush (v := 48) hx hb dX3_advance_224 (by decide) ?_
      refine lv_icmp_lt (tgt := 299) hx hb dX3_advance_226 (by decide) (fun c9 => ?_) (fun c9 => ?_)
      · replace hr := gIf_t c9 hr
        exact w_X3_advance_J299 X hr hI (lv_sub hl [0] rfl)
      · replace hr := gIf_f c9 hr
        refine lv_aload_n hx hb dX3_advance_229 rfl (lv_at hl 0 rfl) ?_
        refine g_getA (C := RX3) (T := TX3) (N := 5) X hI in_X3 rfl 4 (by decide) q571 (fun _ h9 => h9) hr dX3_advance_230 (fun v33 hr => ?_)
        refine g_getNA (C := RX1) (T := TX1) (N := 10) (host := "CakeDivision") X hI in_X1 rfl 0 (by decide) (by decide +kernel) (fun _ h9 => h9) hr dX3_advance_233 (fun v34 hr => ?_)
        refine lv_aload_n hx hb dX3_advance_236 rfl (lv_at hl 0 rfl) ?_
        refine g_getI (C := RX3) (T := TX3) (N := 5) X hI in_X3 rfl 2 (by decide) q569 (fun _ h9 => h9) hr dX3_advance_237 (fun v35 hr => ?_)
        refine g_bald X hI hr dX3_advance_240 (fun v36 hr => ?_)
        refine lv_bipush (v := 57) hx hb dX3_advance_241 (by decide) ?_
        refine lv_icmp_gt (tgt := 299) hx hb dX3_advance_243 (by decide) (fun c9 => ?_) (fun c9 => ?_)
        · replace hr := gIf_t c9 hr
          exact w_X3_advance_J299 X hr hI (lv_sub hl [0] rfl)
        · replace hr := gIf_f c9 hr
          refine lv_aload_n hx hb dX3_advance_246 rfl (lv_at hl 0 rfl) ?_
          refine g_getI (C := RX3) (T := TX3) (N := 5) X hI in_X3 rfl 2 (by decide) q569 (fun _ h9 => h9) hr dX3_advance_247 (fun v37 hr => ?_)
          refine lv_aload_n hx hb dX3_advance_250 rfl (lv_at hl 0 rfl) ?_
          refine g_getI (C := RX3) (T := TX3) (N := 5) X hI in_X3 rfl 1 (by decide) q568 (fun _ h9 => h9) hr dX3_advance_251 (fun v38 hr => ?_)
          refine lv_isub hx hb dX3_advance_254 ?_
          refine lv_iconst (v := 2) hx hb dX3_advance_255 (by decide) ?_
          refine lv_icmp_ge (tgt := 286) hx hb dX3_advance_256 (by decide) (fun c9 => ?_) (fun c9 => ?_)
          · replace hr := gIf_t c9 hr
            refine lv_aload_n hx hb dX3_advance_286 rfl (lv_at hl 0 rfl) ?_
            refine lv_dup hx hb dX3_advance_287 rfl ?_
            refine g_getI (C := RX3) (T := TX3) (N := 5) X hI in_X3 rfl 2 (by decide) q569 (fun _ h9 => h9) hr dX3_advance_288 (fun v39 hr => ?_)
            refine lv_iconst (v := 1) hx hb dX3_advance_291 (by decide) ?_
            refine lv_iadd hx hb dX3_advance_292 ?_
            refine g_put (C := RX3) (T := TX3) (N := 5) (v := .int (v39 + (1 : Int32))) (ty := .int) X hI in_X3 tyX3 tyX3_ok nmX3 rfl 2 (by decide) q569 (fun _ h9 => h9) rfl (by decide +kernel) rfl rfl hr dX3_advance_293 (fun h40 H locs hI hr => ?_)
            refine lv_goto (tgt := 198) hx hb dX3_advance_296 (by decide) ?_
            exact ih hr hI (lv_sub hl [0] rfl)
          · replace hr := gIf_f c9 hr
            refine lv_aload_n hx hb dX3_advance_259 rfl (lv_at hl 0 rfl) ?_
            refine lv_bipush (v := 10) hx hb dX3_advance_260 (by decide) ?_
            refine lv_aload_n hx hb dX3_advance_262 rfl (lv_at hl 0 rfl) ?_
            refine g_getI (C := RX3) (T := TX3) (N := 5) X hI in_X3 rfl 3 (by decide) q570 (fun _ h9 => h9) hr dX3_advance_263 (fun v41 hr => ?_)
            refine lv_imul hx hb dX3_advance_266 ?_
            refine lv_aload_n hx hb dX3_advance_267 rfl (lv_at hl 0 rfl) ?_
            refine g_getA (C := RX3) (T := TX3) (N := 5) X hI in_X3 rfl 4 (by decide) q571 (fun _ h9 => h9) hr dX3_advance_268 (fun v42 hr => ?_)
            refine g_getNA (C := RX1) (T := TX1) (N := 10) (host := "CakeDivision") X hI in_X1 rfl 0 (by decide) (by decide +kernel) (fun _ h9 => h9) hr dX3_advance_271 (fun v43 hr => ?_)
            refine lv_aload_n hx hb dX3_advance_274 rfl (lv_at hl 0 rfl) ?_
            refine g_getI (C := RX3) (T := TX3) (N := 5) X hI in_X3 rfl 2 (by decide) q569 (fun _ h9 => h9) hr dX3_advance_275 (fun v44 hr => ?_)
            refine g_bald X hI hr dX3_advance_278 (fun v45 hr => ?_)
            refine lv_iadd hx hb dX3_advance_279 ?_
            refine lv_bipush (v := 48) hx hb dX3_advance_280 (by decide) ?_
            refine lv_isub hx hb dX3_advance_282 ?_
            refine g_put (C := RX3) (T := TX3) (N := 5) (v := .int ((((10 : Int32) * v41) + v45) - (48 : Int32))) (ty := .int) X hI in_X3 tyX3 tyX3_ok nmX3 rfl 3 (by decide) q570 (fun _ h9 => h9) rfl (by decide +kernel) rfl rfl hr dX3_advance_283 (fun h46 H locs hI hr => ?_)
            refine lv_aload_n hx hb dX3_advance_286 rfl (lv_at hl 0 rfl) ?_
            refine lv_dup hx hb dX3_advance_287 rfl ?_
            refine g_getI (C := RX3) (T := TX3) (N := 5) X hI in_X3 rfl 2 (by decide) q569 (fun _ h9 => h9) hr dX3_advance_288 (fun v47 hr => ?_)
            refine lv_iconst (v := 1) hx hb dX3_advance_291 (by decide) ?_
            refine lv_iadd hx hb dX3_advance_292 ?_
            refine g_put (C := RX3) (T := TX3) (N := 5) (v := .int (v47 + (1 : Int32))) (ty := .int) X hI in_X3 tyX3 tyX3_ok nmX3 rfl 2 (by decide) q569 (fun _ h9 => h9) rfl (by decide +kernel) rfl rfl hr dX3_advance_293 (fun h48 H locs hI hr => ?_)
            refine lv_goto (tgt := 198) hx hb dX3_advance_296 (by decide) ?_
            exact ih hr hI (lv_sub hl [0] rfl)
set_option maxHeartbeats 2000000 in
theorem w_X3_advance_J158 {h : gH} {n : Nat} {z0 : Nat} {res : gH} (X : gXX x base RX3 cX3_advance 1 none p l s m args meth c) {H : Heap} {locs : List Loc} {ls : Array Slot} (hr : f_X3_advance_J158 z0 h = some res) (hI : gI x base s.heap h n H locs) (hl : lv_has ls 1 [(0, .ref z0)]) : W p l e rm_X3_advance s m args below meth c H locs 0 0 (MQ below (gQ x base none res n) args s 0 0 (fun q => base ≤ q)) (F0 m 158 ls []) := by
  have hx := X.1
  have hb := X.2.1
  unfold f_X3_advance_J158 at hr
  refine lv_aload_n hx hb dX3_advance_158 rfl (lv_at hl 0 rfl) ?_
  refine g_getI (C := RX3) (T := TX3) (N := 5) X hI in_X3 rfl 2 (by decide) q569 (fun _ h9 => h9) hr dX3_advance_159 (fun v14 hr => ?_)
  refine lv_aload_n hx hb dX3_advance_162 rfl (lv_at hl 0 rfl) ?_
  refine g_getI (C := RX3) (T := TX3) (N := 5) X hI in_X3 rfl 1 (by decide) q568 (fun _ h9 => h9) hr dX3_advance_163 (fun v15 hr => ?_)
  refine lv_icmp_le (tgt := 193) hx hb dX3_advance_166 (by decide) (fun c9 => ?_) (fun c9 => ?_)
  · replace hr := gIf_t c9 hr
    refine lv_aload_n hx hb dX3_advance_193 rfl (lv_at hl 0 rfl) ?_
    refine lv_iconst (v := 0) hx hb dX3_advance_194 (by decide) ?_
    refine g_put (C := RX3) (T := TX3) (N := 5) (v := .int (0 : Int32)) (ty := .int) X hI in_X3 tyX3 tyX3_ok nmX3 rfl 3 (by decide) q570 (fun _ h9 => h9) rfl (by decide +kernel) rfl rfl hr dX3_advance_195 (fun h16 H locs hI hr => ?_)
    exact w_X3_advance_L198 X gN hr hI (lv_sub hl [0] rfl)
  · replace hr := gIf_f c9 hr
    refine lv_aload_n hx hb dX3_advance_169 rfl (lv_at hl 0 rfl) ?_
    refine lv_aload_n hx hb dX3_advance_170 rfl (lv_at hl 0 rfl) ?_
    refine g_getI (C := RX3) (T := TX3) (N := 5) X hI in_X3 rfl 2 (by decide) q569 (fun _ h9 => h9) hr dX3_advance_171 (fun v49 hr => ?_)
    refine lv_aload_n hx hb dX3_advance_174 rfl (lv_at hl 0 rfl) ?_
    refine g_getI (C := RX3) (T := TX3) (N := 5) X hI in_X3 rfl 1 (by decide) q568 (fun _ h9 => h9) hr dX3_advance_175 (fun v50 hr => ?_)
    refine lv_isub hx hb dX3_advance_178 ?_
    refine lv_bipush (v := 8) hx hb dX3_advance_179 (by decide) ?_
    refine lv_icmp_le (tgt := 188) hx hb dX3_advance_181 (by decide) (fun c9 => ?_) (fun c9 => ?_)
    · replace hr := gIf_t c9 hr
      refine lv_iconst (v := 1) hx hb dX3_advance_188 (by decide) ?_
      refine g_put (C := RX3) (T := TX3) (N := 5) (v := .int (1 : Int32)) (ty := .int) X hI in_X3 tyX3 tyX3_ok nmX3 rfl 0 (by decide) q566 (fun _ h9 => h9) rfl (by decide +kernel) rfl rfl hr dX3_advance_189 (fun h51 H locs hI hr => ?_)
      have hr := gS_i hr
      subst hr
      exact g_vret X hI (Nat.le_refl _) (Nat.le_refl _) dX3_advance_192
    · replace hr := gIf_f c9 hr
      refine lv_iconst (v := 4) hx hb dX3_advance_184 (by decide) ?_
      refine lv_goto (tgt := 189) hx hb dX3_advance_185 (by decide) ?_
      refine g_put (C := RX3) (T := TX3) (N := 5) (v := .int (4 : Int32)) (ty := .int) X hI in_X3 tyX3 tyX3_ok nmX3 rfl 0 (by decide) q566 (fun _ h9 => h9) rfl (by decide +kernel) rfl rfl hr dX3_advance_189 (fun h52 H locs hI hr => ?_)
      have hr := gS_i hr
      subst hr
      exact g_vret X hI (Nat.le_refl _) (Nat.le_refl _) dX3_advance_192
set_option maxHeartbeats 2000000 in
theorem w_X3_advance_L97 {n : Nat} {z0 : Nat} {res : gH} (X : gXX x base RX3 cX3_advance 1 none p l s m args meth c) : ∀ (k : Nat) {h : gH} {H : Heap} {locs : List Loc} {ls : Array Slot}, gL1 (f_X3_advance_L97 z0) k h = some res → gI x base s.heap h n H locs → lv_has ls 1 [(0, .ref z0)] → W p l e rm_X3_advance s m args below meth c H locs 0 0 (MQ below (gQ x base none res n) args s 0 0 (fun q => base ≤ q)) (F0 m 97 ls []) := by
  have hx := X.1
  have hb := X.2.1
  intro k
  induction k with
  | zero =>
    intros
    rename_i hr _ _
    exact nomatch (show (none : Option _) = some _ from hr)
  | succ k ih =>
    intro h H locs ls hr hI hl
    replace hr : f_X3_advance_L97 z0 (gL1 (f_X3_advance_L97 z0) k) h = some res := hr
    unfold f_X3_advance_L97 at hr
    refine lv_aload_n hx hb dX3_advance_97 rfl (lv_at hl 0 rfl) ?_
    refine g_getI (C := RX3) (T := TX3) (N := 5) X hI in_X3 rfl 2 (by decide) q569 (fun _ h9 => h9) hr dX3_advance_98 (fun v11 hr => ?_)
    refine lv_aload_n hx hb dX3_advance_101 rfl (lv_at hl 0 rfl) ?_
    refine g_getA (C := RX3) (T := TX3) (N := 5) X hI in_X3 rfl 4 (by decide) q571 (fun _ h9 => h9) hr dX3_advance_102 (fun v12 hr => ?_)
    refine g_getNI (C := RX1) (T := TX1) (N := 10) (host := "CakeDivision") X hI in_X1 rfl 1 (by decide) (by decide +kernel) (fun _ h9 => h9) hr dX3_advance_105 (fun v13 hr => ?_)
    refine lv_icmp_ge (tgt := 158) hx hb dX3_advance_108 (by decide) (fun c9 => ?_) (fun c9 => ?_)
    · replace hr := gIf_t c9 hr
      exact w_X3_advance_J158 X hr hI (lv_sub hl [0] rfl)
    · replace hr := gIf_f c9 hr
      refine lv_aload_n hx hb dX3_advance_111 rfl (lv_at hl 0 rfl) ?_
      refine g_getA (C := RX3) (T := TX3) (N := 5) X hI in_X3 rfl 4 (by decide) q571 (fun _ h9 => h9) hr dX3_advance_112 (fun v53 hr => ?_)
      refine g_getNA (C := RX1) (T := TX1) (N := 10) (host := "CakeDivision") X hI in_X1 rfl 0 (by decide) (by decide +kernel) (fun _ h9 => h9) hr dX3_advance_115 (fun v54 hr => ?_)
      refine lv_aload_n hx hb dX3_advance_118 rfl (lv_at hl 0 rfl) ?_
      refine g_getI (C := RX3) (T := TX3) (N := 5) X hI in_X3 rfl 2 (by decide) q569 (fun _ h9 => h9) hr dX3_advance_119 (fun v55 hr => ?_)
      refine g_bald X hI hr dX3_advance_122 (fun v56 hr => ?_)
      refine lv_bipush (v := 97) hx hb dX3_advance_123 (by decide) ?_
      refine lv_icmp_lt (tgt := 158) hx hb dX3_advance_125 (by decide) (fun c9 => ?_) (fun c9 => ?_)
      · replace hr := gIf_t c9 hr
        exact w_X3_advance_J158 X hr hI (lv_sub hl [0] rfl)
      · replace hr := gIf_f c9 hr
        refine lv_aload_n hx hb dX3_advance_128 rfl (lv_at hl 0 rfl) ?_
        refine g_getA (C := RX3) (T := TX3) (N := 5) X hI in_X3 rfl 4 (by decide) q571 (fun _ h9 => h9) hr dX3_advance_129 (fun v57 hr => ?_)
        refine g_getNA (C := RX1) (T := TX1) (N := 10) (host := "CakeDivision") X hI in_X1 rfl 0 (by decide) (by decide +kernel) (fun _ h9 => h9) hr dX3_advance_132 (fun v58 hr => ?_)
        refine lv_aload_n hx hb dX3_advance_135 rfl (lv_at hl 0 rfl) ?_
        refine g_getI (C := RX3) (T := TX3) (N := 5) X hI in_X3 rfl 2 (by decide) q569 (fun _ h9 => h9) hr dX3_advance_136 (fun v59 hr => ?_)
        refine g_bald X hI hr dX3_advance_139 (fun v60 hr => ?_)
        refine lv_bipush (v := 122) hx hb dX3_advance_140 (by decide) ?_
        refine lv_icmp_gt (tgt := 158) hx hb dX3_advance_142 (by decide) (fun c9 => ?_) (fun c9 => ?_)
        · replace hr := gIf_t c9 hr
          exact w_X3_advance_J158 X hr hI (lv_sub hl [0] rfl)
        · replace hr := gIf_f c9 hr
          refine lv_aload_n hx hb dX3_advance_145 rfl (lv_at hl 0 rfl) ?_
          refine lv_dup hx hb dX3_advance_146 rfl ?_
          refine g_getI (C := RX3) (T := TX3) (N := 5) X hI in_X3 rfl 2 (by decide) q569 (fun _ h9 => h9) hr dX3_advance_147 (fun v61 hr => ?_)
          refine lv_iconst (v := 1) hx hb dX3_advance_150 (by decide) ?_
          refine lv_iadd hx hb dX3_advance_151 ?_
          refine g_put (C := RX3) (T := TX3) (N := 5) (v := .int (v61 + (1 : Int32))) (ty := .int) X hI in_X3 tyX3 tyX3_ok nmX3 rfl 2 (by decide) q569 (fun _ h9 => h9) rfl (by decide +kernel) rfl rfl hr dX3_advance_152 (fun h62 H locs hI hr => ?_)
          refine lv_goto (tgt := 97) hx hb dX3_advance_155 (by decide) ?_
          exact ih hr hI (lv_sub hl [0] rfl)
set_option maxHeartbeats 2000000 in
theorem w_X3_advance_J69 {h : gH} {n : Nat} {z0 : Nat} {res : gH} (X : gXX x base RX3 cX3_advance 1 none p l s m args meth c) {H : Heap} {locs : List Loc} {ls : Array Slot} (hr : f_X3_advance_J69 z0 h = some res) (hI : gI x base s.heap h n H locs) (hl : lv_has ls 1 [(0, .ref z0)]) : W p l e rm_X3_advance s m args below meth c H locs 0 0 (MQ below (gQ x base none res n) args s 0 0 (fun q => base ≤ q)) (F0 m 69 ls []) := by
  have hx := X.1
  have hb := X.2.1
  unfold f_X3_advance_J69 at hr
  refine lv_aload_n hx hb dX3_advance_69 rfl (lv_at hl 0 rfl) ?_
  refine lv_aload_n hx hb dX3_advance_70 rfl (lv_at hl 0 rfl) ?_
  refine g_getI (C := RX3) (T := TX3) (N := 5) X hI in_X3 rfl 1 (by decide) q568 (fun _ h9 => h9) hr dX3_advance_71 (fun v6 hr => ?_)
  refine g_put (C := RX3) (T := TX3) (N := 5) (v := .int v6) (ty := .int) X hI in_X3 tyX3 tyX3_ok nmX3 rfl 2 (by decide) q569 (fun _ h9 => h9) rfl (by decide +kernel) rfl rfl hr dX3_advance_74 (fun h7 H locs hI hr => ?_)
  refine lv_aload_n hx hb dX3_advance_77 rfl (lv_at hl 0 rfl) ?_
  refine g_getI (C := RX3) (T := TX3) (N := 5) X hI in_X3 rfl 1 (by decide) q568 (fun _ h9 => h9) hr dX3_advance_78 (fun v8 hr => ?_)
  refine lv_aload_n hx hb dX3_advance_81 rfl (lv_at hl 0 rfl) ?_
  refine g_getA (C := RX3) (T := TX3) (N := 5) X hI in_X3 rfl 4 (by decide) q571 (fun _ h9 => h9) hr dX3_advance_82 (fun v9 hr => ?_)
  refine g_getNI (C := RX1) (T := TX1) (N := 10) (host := "CakeDivision") X hI in_X1 rfl 1 (by decide) (by decide +kernel) (fun _ h9 => h9) hr dX3_advance_85 (fun v10 hr => ?_)
  refine lv_icmp_ne (tgt := 97) hx hb dX3_advance_88 (by decide) (fun c9 => ?_) (fun c9 => ?_)
  · replace hr := gIf_f c9 hr
    exact w_X3_advance_L97 X gN hr hI (lv_sub hl [0] rfl)
  · replace hr := gIf_t c9 hr
    refine lv_aload_n hx hb dX3_advance_91 rfl (lv_at hl 0 rfl) ?_
    refine lv_iconst (v := 0) hx hb dX3_advance_92 (by decide) ?_
    refine g_put (C := RX3) (T := TX3) (N := 5) (v := .int (0 : Int32)) (ty := .int) X hI in_X3 tyX3 tyX3_ok nmX3 rfl 0 (by decide) q566 (fun _ h9 => h9) rfl (by decide +kernel) rfl rfl hr dX3_advance_93 (fun h63 H locs hI hr => ?_)
    have hr := gS_i hr
    subst hr
    exact g_vret X hI (Nat.le_refl _) (Nat.le_refl _) dX3_advance_96
set_option maxHeartbeats 2000000 in
theorem w_X3_advance_L8 {n : Nat} {z0 : Nat} {res : gH} (X : gXX x base RX3 cX3_advance 1 none p l s m args meth c) : ∀ (k : Nat) {h : gH} {H : Heap} {locs : List Loc} {ls : Array Slot}, gL1 (f_X3_advance_L8 z0) k h = some res → gI x base s.heap h n H locs → lv_has ls 1 [(0, .ref z0)] → W p l e rm_X3_advance s m args below meth c H locs 0 0 (MQ below (gQ x base none res n) args s 0 0 (fun q => base ≤ q)) (F0 m 8 ls []) := by
  have hx := X.1
  have hb := X.2.1
  intro k
  induction k with
  | zero =>
    intros
    rename_i hr _ _
    exact nomatch (show (none : Option _) = some _ from hr)
  | succ k ih =>
    intro h H locs ls hr hI hl
    replace hr : f_X3_advance_L8 z0 (gL1 (f_X3_advance_L8 z0) k) h = some res := hr
    unfold f_X3_advance_L8 at hr
    refine lv_aload_n hx hb dX3_advance_8 rfl (lv_at hl 0 rfl) ?_
    refine g_getI (C := RX3) (T := TX3) (N := 5) X hI in_X3 rfl 1 (by decide) q568 (fun _ h9 => h9) hr dX3_advance_9 (fun v3 hr => ?_)
    refine lv_aload_n hx hb dX3_advance_12 rfl (lv_at hl 0 rfl) ?_
    refine g_getA (C := RX3) (T := TX3) (N := 5) X hI in_X3 rfl 4 (by decide) q571 (fun _ h9 => h9) hr dX3_advance_13 (fun v4 hr => ?_)
    refine g_getNI (C := RX1) (T := TX1) (N := 10) (host := "CakeDivision") X hI in_X1 rfl 1 (by decide) (by decide +kernel) (fun _ h9 => h9) hr dX3_advance_16 (fun v5 hr => ?_)
    refine lv_icmp_ge (tgt := 69) hx hb dX3_advance_19 (by decide) (fun c9 => ?_) (fun c9 => ?_)
    · replace hr := gIf_t c9 hr
      exact w_X3_advance_J69 X hr hI (lv_sub hl [0] rfl)
    · replace hr := gIf_f c9 hr
      refine lv_aload_n hx hb dX3_advance_22 rfl (lv_at hl 0 rfl) ?_
      refine g_getA (C := RX3) (T := TX3) (N := 5) X hI in_X3 rfl 4 (by decide) q571 (fun _ h9 => h9) hr dX3_advance_23 (fun v64 hr => ?_)
      refine g_getNA (C := RX1) (T := TX1) (N := 10) (host := "CakeDivision") X hI in_X1 rfl 0 (by decide) (by decide +kernel) (fun _ h9 => h9) hr dX3_advance_26 (fun v65 hr => ?_)
      refine lv_aload_n hx hb dX3_advance_29 rfl (lv_at hl 0 rfl) ?_
      refine g_getI (C := RX3) (T := TX3) (N := 5) X hI in_X3 rfl 1 (by decide) q568 (fun _ h9 => h9) hr dX3_advance_30 (fun v66 hr => ?_)
      refine g_bald X hI hr dX3_advance_33 (fun v67 hr => ?_)
      refine lv_bipush (v := 32) hx hb dX3_advance_34 (by decide) ?_
      refine lv_icmp_eq (tgt := 56) hx hb dX3_advance_36 (by decide) (fun c9 => ?_) (fun c9 => ?_)
      · replace hr := gIf_t c9 hr
        refine lv_aload_n hx hb dX3_advance_56 rfl (lv_at hl 0 rfl) ?_
        refine lv_dup hx hb dX3_advance_57 rfl ?_
        refine g_getI (C := RX3) (T := TX3) (N := 5) X hI in_X3 rfl 1 (by decide) q568 (fun _ h9 => h9) hr dX3_advance_58 (fun v68 hr => ?_)
        refine lv_iconst (v := 1) hx hb dX3_advance_61 (by decide) ?_
        refine lv_iadd hx hb dX3_advance_62 ?_
        refine g_put (C := RX3) (T := TX3) (N := 5) (v := .int (v68 + (1 : Int32))) (ty := .int) X hI in_X3 tyX3 tyX3_ok nmX3 rfl 1 (by decide) q568 (fun _ h9 => h9) rfl (by decide +kernel) rfl rfl hr dX3_advance_63 (fun h69 H locs hI hr => ?_)
        refine lv_goto (tgt := 8) hx hb dX3_advance_66 (by decide) ?_
        exact ih hr hI (lv_sub hl [0] rfl)
      · replace hr := gIf_f c9 hr
        refine lv_aload_n hx hb dX3_advance_39 rfl (lv_at hl 0 rfl) ?_
        refine g_getA (C := RX3) (T := TX3) (N := 5) X hI in_X3 rfl 4 (by decide) q571 (fun _ h9 => h9) hr dX3_advance_40 (fun v70 hr => ?_)
        refine g_getNA (C := RX1) (T := TX1) (N := 10) (host := "CakeDivision") X hI in_X1 rfl 0 (by decide) (by decide +kernel) (fun _ h9 => h9) hr dX3_advance_43 (fun v71 hr => ?_)
        refine lv_aload_n hx hb dX3_advance_46 rfl (lv_at hl 0 rfl) ?_
        refine g_getI (C := RX3) (T := TX3) (N := 5) X hI in_X3 rfl 1 (by decide) q568 (fun _ h9 => h9) hr dX3_advance_47 (fun v72 hr => ?_)
        refine g_bald X hI hr dX3_advance_50 (fun v73 hr => ?_)
        refine lv_bipush (v := 10) hx hb dX3_advance_51 (by decide) ?_
        refine lv_icmp_ne (tgt := 69) hx hb dX3_advance_53 (by decide) (fun c9 => ?_) (fun c9 => ?_)
        · replace hr := gIf_f c9 hr
          exact w_X3_advance_J69 X hr hI (lv_sub hl [0] rfl)
        · replace hr := gIf_t c9 hr
          refine lv_aload_n hx hb dX3_advance_56 rfl (lv_at hl 0 rfl) ?_
          refine lv_dup hx hb dX3_advance_57 rfl ?_
          refine g_getI (C := RX3) (T := TX3) (N := 5) X hI in_X3 rfl 1 (by decide) q568 (fun _ h9 => h9) hr dX3_advance_58 (fun v74 hr => ?_)
          refine lv_iconst (v := 1) hx hb dX3_advance_61 (by decide) ?_
          refine lv_iadd hx hb dX3_advance_62 ?_
          refine g_put (C := RX3) (T := TX3) (N := 5) (v := .int (v74 + (1 : Int32))) (ty := .int) X hI in_X3 tyX3 tyX3_ok nmX3 rfl 1 (by decide) q568 (fun _ h9 => h9) rfl (by decide +kernel) rfl rfl hr dX3_advance_63 (fun h75 H locs hI hr => ?_)
          refine lv_goto (tgt := 8) hx hb dX3_advance_66 (by decide) ?_
          exact ih hr hI (lv_sub hl [0] rfl)
set_option maxHeartbeats 2000000 in
theorem w_X3_advance {l : Launch} {x : gV} {base : Nat} {z0 : Nat} {h : gH} {n : Nat} {res : gH} (hr : f_X3_advance z0 h = some res) : gM l yX3_advance (ws_ yX3_advance cX3_advance 1 none) rm_X3_advance x base [.ref z0] h n none res n 0 0 := by
  refine g_met (cc := cX3_advance) (nL := 1) (ret := none) (by decide) (Nat.le_of_ble_eq_true rfl) (fun p e s m below meth c ls X hnm hl hI => ?_)
  have hl : lv_has ls 1 [(0, .ref z0)] := hl
  have hx := X.1
  have hb := X.2.1
  unfold f_X3_advance at hr
  refine lv_aload_n hx hb dX3_advance_0 rfl (lv_at hl 0 rfl) ?_
  refine lv_aload_n hx hb dX3_advance_1 rfl (lv_at hl 0 rfl) ?_
  refine g_getI (C := RX3) (T := TX3) (N := 5) X hI in_X3 rfl 2 (by decide) q569 (fun _ h9 => h9) hr dX3_advance_2 (fun v1 hr => ?_)
  refine g_put (C := RX3) (T := TX3) (N := 5) (v := .int v1) (ty := .int) X hI in_X3 tyX3 tyX3_ok nmX3 rfl 1 (by decide) q568 (fun _ h9 => h9) rfl (by decide +kernel) rfl rfl hr dX3_advance_5 (fun h2 H locs hI hr => ?_)
  exact w_X3_advance_L8 X gN hr hI (lv_sub hl [0] rfl)
abbrev rm_X3_init : Room := { frames := 1, cells := 0, slots := 0, locals := 24 }
theorem hd_X3_init : yX3_init.cls ≠ "java/lang/invoke/MethodHandle" ∧ yX3_init.cls ≠ "java/lang/invoke/VarHandle" ∧ (parseMethodDescriptor yX3_init.desc).map (fun d => d.parameters.length) = some 1 := by decide +kernel
set_option maxHeartbeats 2000000 in
theorem w_X3_init {l : Launch} {x : gV} {base : Nat} {z0 : Nat} {z1 : Nat} {h : gH} {n : Nat} {res : gH} (hr : f_X3_init z0 z1 h = some res) : gM l yX3_init (ws_ yX3_init cX3_init 2 none) rm_X3_init x base [.ref z0, .ref z1] h n none res n 0 0 := by
  refine g_met (cc := cX3_init) (nL := 2) (ret := none) (by decide) (Nat.le_of_ble_eq_true rfl) (fun p e s m below meth c ls X hnm hl hI => ?_)
  have hl : lv_has ls 2 [(0, .ref z0), (1, .ref z1)] := hl
  have hx := X.1
  have hb := X.2.1
  unfold f_X3_init at hr
  refine lv_aload_n hx hb dX3_init_0 rfl (lv_at hl 0 rfl) ?_
  refine lv_aload_n hx hb dX3_init_1 rfl (lv_at hl 1 rfl) ?_
  refine g_putF (C := RX3) (T := TX3) (N := 5) (v := .ref z1) (ty := (.object "CakeDivision")) X hI in_X3 tyX3 tyX3_ok nmX3 rfl 4 (by decide) q571 (fun _ h9 => h9) rfl hnm rfl (by decide +kernel) rfl rfl hr dX3_init_2 (fun h1 H locs hI hr => ?_)
  refine lv_aload_n hx hb dX3_init_5 rfl (lv_at hl 0 rfl) ?_
  refine W.objInit hx hb X.2.2.2.2.1 (X.w q561) (X.w q140) (X.w q141) rfl (by rw [X.2.2.1]; exact hl.1) rfl dX3_init_6 (Nat.le_of_ble_eq_true rfl) (Nat.le_of_ble_eq_true rfl) ?_
  refine W.eq (g2 := F0 m 9 ls []) rfl ?_
  refine lv_aload_n hx hb dX3_init_9 rfl (lv_at hl 0 rfl) ?_
  obtain ⟨_, ho2, hr⟩ := gB_i hr
  obtain ⟨h4, hc3, hr⟩ := gB_i hr
  refine gRun_v (g_runV X hI (w_X3_advance hc3) ho2 rfl hl (lw_V q562 q563 q564 q118 q565) rfl rfl hd_X3_advance ⟨Nat.le_of_ble_eq_true rfl, Nat.le_of_ble_eq_true rfl⟩ (as := []) (rest := []) rfl rfl (Nat.le_of_ble_eq_true rfl) ⟨(Nat.le_refl _), (Nat.le_refl _)⟩ dX3_init_10) (fun H locs hI => ?_)
  have hr := gS_i hr
  subst hr
  exact g_vret X hI (Nat.le_refl _) (Nat.le_refl _) dX3_init_13
abbrev rm_X3_isWord : Room := { frames := 7, cells := 0, slots := 0, locals := 423 }
theorem hd_X3_isWord : yX3_isWord.cls = RX3 ∧ yX3_isWord.cls ≠ "java/lang/invoke/MethodHandle" ∧ yX3_isWord.cls ≠ "java/lang/invoke/VarHandle" ∧ (parseMethodDescriptor yX3_isWord.desc).map (fun d => d.parameters.length) = some 1 := by decide +kernel
set_option maxHeartbeats 2000000 in
theorem w_X3_isWord_L28 {h : gH} {n : Nat} {z0 : Nat} {z1 : Nat} {res : Int32} (X : gXX x base RX3 cX3_isWord 3 (some .boolean) p l s m args meth c) : ∀ (k : Nat) {z2 : Int32} {H : Heap} {locs : List Loc} {ls : Array Slot}, gL1 (f_X3_isWord_L28 x z0 z1 h) k z2 = some res → gI x base s.heap h n H locs → lv_has ls 3 [(0, .ref z0), (1, .ref z1), (2, .int z2)] → W p l e rm_X3_isWord s m args below meth c H locs 0 0 (MQ below (gQ x base (some (.int res)) h n) args s 0 0 (fun q => base ≤ q)) (F0 m 28 ls []) := by
  have hx := X.1
  have hb := X.2.1
  intro k
  induction k with
  | zero =>
    intros
    rename_i hr _ _
    exact nomatch (show (none : Option _) = some _ from hr)
  | succ k ih =>
    intro z2 H locs ls hr hI hl
    replace hr : f_X3_isWord_L28 x z0 z1 h (gL1 (f_X3_isWord_L28 x z0 z1 h) k) z2 = some res := hr
    unfold f_X3_isWord_L28 at hr
    refine lv_iload_n hx hb dX3_isWord_28 rfl (lv_at hl 2 rfl) ?_
    refine lv_aload_n hx hb dX3_isWord_29 rfl (lv_at hl 1 rfl) ?_
    obtain ⟨v7, hc6, hr⟩ := gB_i hr
    refine gRun_i (g_runLen X hI hl hc6 q596 (rest := [.int z2]) rfl (Nat.le_of_ble_eq_true rfl) ⟨Nat.le_of_ble_eq_true rfl, Nat.le_of_ble_eq_true rfl⟩ ⟨(Nat.le_refl _), (Nat.le_refl _)⟩ dX3_isWord_30) (fun H locs hI => ?_)
    refine lv_icmp_ge (tgt := 66) hx hb dX3_isWord_33 (by decide) (fun c9 => ?_) (fun c9 => ?_)
    · replace hr := gIf_t c9 hr
      refine lv_iconst (v := 1) hx hb dX3_isWord_66 (by decide) ?_
      have hr := gS_i hr
      subst hr
      exact g_iret X hI (g_narZ (Or.inr rfl)) (Nat.le_refl _) (Nat.le_refl _) dX3_isWord_67
    · replace hr := gIf_f c9 hr
      refine lv_aload_n hx hb dX3_isWord_36 rfl (lv_at hl 0 rfl) ?_
      refine g_getA (C := RX3) (T := TX3) (N := 5) X hI in_X3 rfl 4 (by decide) q571 (fun _ h9 => h9) hr dX3_isWord_37 (fun v8 hr => ?_)
      refine g_getNA (C := RX1) (T := TX1) (N := 10) (host := "CakeDivision") X hI in_X1 rfl 0 (by decide) (by decide +kernel) (fun _ h9 => h9) hr dX3_isWord_40 (fun v9 hr => ?_)
      refine lv_aload_n hx hb dX3_isWord_43 rfl (lv_at hl 0 rfl) ?_
      refine g_getI (C := RX3) (T := TX3) (N := 5) X hI in_X3 rfl 1 (by decide) q568 (fun _ h9 => h9) hr dX3_isWord_44 (fun v10 hr => ?_)
      refine lv_iload_n hx hb dX3_isWord_47 rfl (lv_at hl 2 rfl) ?_
      refine lv_iadd hx hb dX3_isWord_48 ?_
      refine g_bald X hI hr dX3_isWord_49 (fun v11 hr => ?_)
      refine lv_aload_n hx hb dX3_isWord_50 rfl (lv_at hl 1 rfl) ?_
      refine lv_iload_n hx hb dX3_isWord_51 rfl (lv_at hl 2 rfl) ?_
      obtain ⟨v13, hc12, hr⟩ := gB_i hr
      refine gRun_i (g_runAt X hI hl hc12 q597 (rest := [.int v11]) rfl (Nat.le_of_ble_eq_true rfl) ⟨Nat.le_of_ble_eq_true rfl, Nat.le_of_ble_eq_true rfl⟩ ⟨(Nat.le_refl _), (Nat.le_refl _)⟩ dX3_isWord_52) (fun H locs hI => ?_)
      refine lv_icmp_eq (tgt := 60) hx hb dX3_isWord_55 (by decide) (fun c9 => ?_) (fun c9 => ?_)
      · replace hr := gIf_t c9 hr
        refine lv_iinc (v := (z2 + (1 : Int32))) (lv' := [(2, .int (z2 + (1 : Int32))), (0, .ref z0), (1, .ref z1)]) hx hb dX3_isWord_60 hl (k := 2) rfl (g_inc (by decide)) (by decide) rfl (fun ls hl => ?_)
        refine lv_goto (tgt := 28) hx hb dX3_isWord_63 (by decide) ?_
        exact ih hr hI (lv_sub hl [1, 2, 0] rfl)
      · replace hr := gIf_f c9 hr
        refine lv_iconst (v := 0) hx hb dX3_isWord_58 (by decide) ?_
        have hr := gS_i hr
        subst hr
        exact g_iret X hI (g_narZ (Or.inl rfl)) (Nat.le_refl _) (Nat.le_refl _) dX3_isWord_59
set_option maxHeartbeats 2000000 in
theorem w_X3_isWord {l : Launch} {x : gV} {base : Nat} {z0 : Nat} {z1 : Nat} {h : gH} {n : Nat} {res : Int32} (hr : f_X3_isWord x z0 z1 h = some res) : gM l yX3_isWord (ws_ yX3_isWord cX3_isWord 3 (some .boolean)) rm_X3_isWord x base [.ref z0, .ref z1] h n (some (.int res)) h n 0 0 := by
  refine g_met (cc := cX3_isWord) (nL := 3) (ret := (some .boolean)) (by decide) (Nat.le_of_ble_eq_true rfl) (fun p e s m below meth c ls X hnm hl hI => ?_)
  have hl : lv_has ls 3 [(0, .ref z0), (1, .ref z1)] := hl
  have hx := X.1
  have hb := X.2.1
  unfold f_X3_isWord at hr
  refine lv_aload_n hx hb dX3_isWord_0 rfl (lv_at hl 0 rfl) ?_
  refine g_getI (C := RX3) (T := TX3) (N := 5) X hI in_X3 rfl 0 (by decide) q566 (fun _ h9 => h9) hr dX3_isWord_1 (fun v1 hr => ?_)
  refine lv_iconst (v := 1) hx hb dX3_isWord_4 (by decide) ?_
  refine lv_icmp_ne (tgt := 24) hx hb dX3_isWord_5 (by decide) (fun c9 => ?_) (fun c9 => ?_)
  · replace hr := gIf_f c9 hr
    refine lv_iconst (v := 0) hx hb dX3_isWord_24 (by decide) ?_
    have hr := gS_i hr
    subst hr
    exact g_iret X hI (g_narZ (Or.inl rfl)) (Nat.le_refl _) (Nat.le_refl _) dX3_isWord_25
  · replace hr := gIf_t c9 hr
    refine lv_aload_n hx hb dX3_isWord_8 rfl (lv_at hl 0 rfl) ?_
    refine g_getI (C := RX3) (T := TX3) (N := 5) X hI in_X3 rfl 2 (by decide) q569 (fun _ h9 => h9) hr dX3_isWord_9 (fun v2 hr => ?_)
    refine lv_aload_n hx hb dX3_isWord_12 rfl (lv_at hl 0 rfl) ?_
    refine g_getI (C := RX3) (T := TX3) (N := 5) X hI in_X3 rfl 1 (by decide) q568 (fun _ h9 => h9) hr dX3_isWord_13 (fun v3 hr => ?_)
    refine lv_isub hx hb dX3_isWord_16 ?_
    refine lv_aload_n hx hb dX3_isWord_17 rfl (lv_at hl 1 rfl) ?_
    obtain ⟨v5, hc4, hr⟩ := gB_i hr
    refine gRun_i (g_runLen X hI hl hc4 q596 (rest := [.int (v2 - v3)]) rfl (Nat.le_of_ble_eq_true rfl) ⟨Nat.le_of_ble_eq_true rfl, Nat.le_of_ble_eq_true rfl⟩ ⟨(Nat.le_refl _), (Nat.le_refl _)⟩ dX3_isWord_18) (fun H locs hI => ?_)
    refine lv_icmp_eq (tgt := 26) hx hb dX3_isWord_21 (by decide) (fun c9 => ?_) (fun c9 => ?_)
    · replace hr := gIf_t c9 hr
      refine lv_iconst (v := 0) hx hb dX3_isWord_26 (by decide) ?_
      refine lv_istore_n (lv' := [(2, .int (0 : Int32)), (0, .ref z0), (1, .ref z1)]) hx hb dX3_isWord_27 rfl hl (by decide) rfl (fun ls hl => ?_)
      exact w_X3_isWord_L28 X gN hr hI (lv_sub hl [1, 2, 0] rfl)
    · replace hr := gIf_f c9 hr
      refine lv_iconst (v := 0) hx hb dX3_isWord_24 (by decide) ?_
      have hr := gS_i hr
      subst hr
      exact g_iret X hI (g_narZ (Or.inl rfl)) (Nat.le_refl _) (Nat.le_refl _) dX3_isWord_25
abbrev rm_X3_expectWord : Room := { frames := 13, cells := 1, slots := 8, locals := 445 }
theorem hd_X3_expectWord : yX3_expectWord.cls = RX3 ∧ yX3_expectWord.cls ≠ "java/lang/invoke/MethodHandle" ∧ yX3_expectWord.cls ≠ "java/lang/invoke/VarHandle" ∧ (parseMethodDescriptor yX3_expectWord.desc).map (fun d => d.parameters.length) = some 1 := by decide +kernel
set_option maxHeartbeats 2000000 in
theorem w_X3_expectWord {l : Launch} {x : gV} {base : Nat} (hst : l.stackTraces = false) {z0 : Nat} {z1 : Nat} {h : gH} {n : Nat} {res : (Unit ⊕ gX) × gH × Nat} (hr : f_X3_expectWord x z0 z1 h n = some res) : gMX l yX3_expectWord (ws_ yX3_expectWord cX3_expectWord 2 none) rm_X3_expectWord x base (fun _ => none) [.ref z0, .ref z1] h n res 1 8 := by
  refine g_metX (cc := cX3_expectWord) (nL := 2) (ret := none) (by decide) (Nat.le_of_ble_eq_true rfl) (fun p e s m below meth c ls X hnm hxt hl hI => ?_)
  have hl : lv_has ls 2 [(0, .ref z0), (1, .ref z1)] := hl
  have hx := X.1
  have hb := X.2.1
  have hcc : 0 + 1 ≤ 1 ∧ 0 + 8 ≤ 8 := ⟨Nat.le_refl _, Nat.le_refl _⟩
  unfold f_X3_expectWord at hr
  refine lv_aload_n hx hb dX3_expectWord_0 rfl (lv_at hl 0 rfl) ?_
  refine lv_aload_n hx hb dX3_expectWord_1 rfl (lv_at hl 1 rfl) ?_
  obtain ⟨_, ho1, hr⟩ := gB_i hr
  obtain ⟨v3, hc2, hr⟩ := gB_i hr
  refine gRun_i (g_runV X hI (w_X3_isWord hc2) ho1 rfl hl (lw_V q592 q593 q594 q118 q595) rfl rfl hd_X3_isWord ⟨Nat.le_of_ble_eq_true rfl, Nat.le_of_ble_eq_true rfl⟩ (as := [.ref z1]) (rest := []) rfl rfl (Nat.le_of_ble_eq_true rfl) ⟨(show 0 + 0 ≤ 1 from by omega), (show 0 + 0 ≤ 8 from by omega)⟩ dX3_expectWord_2) (fun H locs hI => ?_)
  refine lv_if_ne (tgt := 14) hx hb dX3_expectWord_5 (by decide) (fun c9 => ?_) (fun c9 => ?_)
  · replace hr := gIf_f c9 hr
    refine lv_aload_n hx hb dX3_expectWord_14 rfl (lv_at hl 0 rfl) ?_
    obtain ⟨h5, hc4, hr⟩ := gB_i hr
    refine gRun_v (g_runV X hI (w_X3_advance hc4) ho1 rfl hl (lw_V q562 q563 q564 q118 q565) rfl rfl hd_X3_advance ⟨Nat.le_of_ble_eq_true rfl, Nat.le_of_ble_eq_true rfl⟩ (as := []) (rest := []) rfl rfl (Nat.le_of_ble_eq_true rfl) ⟨(show (0 + 0) + 0 ≤ 1 from by omega), (show (0 + 0) + 0 ≤ 8 from by omega)⟩ dX3_expectWord_15) (fun H locs hI => ?_)
    have hr := gS_i hr
    subst hr
    exact g_xvret X hI (show ((0 + 0) + 0) ≤ 1 from by omega) (show ((0 + 0) + 0) ≤ 8 from by omega) dX3_expectWord_18
  · replace hr := gIf_t c9 hr
    refine lv_aload_n hx hb dX3_expectWord_8 rfl (lv_at hl 0 rfl) ?_
    refine lv_iconst (v := 1) hx hb dX3_expectWord_9 (by decide) ?_
    obtain ⟨v7, h8, n9, hc6, hr⟩ := gT3_i hr
    refine gRun_a (g_runV X hI (w_X3_error hst hc6) ho1 rfl hl (lw_V q598 q599 q600 q118 q601) rfl rfl hd_X3_error ⟨Nat.le_of_ble_eq_true rfl, Nat.le_of_ble_eq_true rfl⟩ (as := [.int (1 : Int32)]) (rest := []) rfl rfl (Nat.le_of_ble_eq_true rfl) ⟨(show (0 + 0) + 1 ≤ 1 from by omega), (show (0 + 0) + 8 ≤ 8 from by omega)⟩ dX3_expectWord_10) (fun H locs hI => ?_)
    obtain ⟨k10, hk11, hr⟩ := gB_i hr
    refine g_athrow X hI hk11 dX3_expectWord_13 (fun hxc => ?_)
    have hr := gS_i hr
    subst hr
    exact g_xout X hI hxc hxt gPs_0 (show ((0 + 0) + 1) ≤ 1 from by omega) (show ((0 + 0) + 8) ≤ 8 from by omega)
abbrev rm_X3_expectNumber_2 : Room := { frames := 13, cells := 1, slots := 8, locals := 423 }
theorem hd_X3_expectNumber_2 : yX3_expectNumber_2.cls = RX3 ∧ yX3_expectNumber_2.cls ≠ "java/lang/invoke/MethodHandle" ∧ yX3_expectNumber_2.cls ≠ "java/lang/invoke/VarHandle" ∧ (parseMethodDescriptor yX3_expectNumber_2.desc).map (fun d => d.parameters.length) = some 0 := by decide +kernel
set_option maxHeartbeats 2000000 in
theorem w_X3_expectNumber_2 {l : Launch} {x : gV} {base : Nat} (hst : l.stackTraces = false) {z0 : Nat} {h : gH} {n : Nat} {res : (Int32 ⊕ gX) × gH × Nat} (hr : f_X3_expectNumber_2 z0 h n = some res) : gMX l yX3_expectNumber_2 (ws_ yX3_expectNumber_2 cX3_expectNumber_2 2 (some .int)) rm_X3_expectNumber_2 x base (fun v => some (.int v)) [.ref z0] h n res 1 8 := by
  refine g_metX (cc := cX3_expectNumber_2) (nL := 2) (ret := (some .int)) (by decide) (Nat.le_of_ble_eq_true rfl) (fun p e s m below meth c ls X hnm hxt hl hI => ?_)
  have hl : lv_has ls 2 [(0, .ref z0)] := hl
  have hx := X.1
  have hb := X.2.1
  have hcc : 0 + 1 ≤ 1 ∧ 0 + 8 ≤ 8 := ⟨Nat.le_refl _, Nat.le_refl _⟩
  unfold f_X3_expectNumber_2 at hr
  refine lv_aload_n hx hb dX3_expectNumber_2_0 rfl (lv_at hl 0 rfl) ?_
  refine g_getI (C := RX3) (T := TX3) (N := 5) X hI in_X3 rfl 0 (by decide) q566 (fun _ h9 => h9) hr dX3_expectNumber_2_1 (fun v1 hr => ?_)
  refine lv_iconst (v := 2) hx hb dX3_expectNumber_2_4 (by decide) ?_
  refine lv_icmp_eq (tgt := 14) hx hb dX3_expectNumber_2_5 (by decide) (fun c9 => ?_) (fun c9 => ?_)
  · replace hr := gIf_t c9 hr
    refine lv_aload_n hx hb dX3_expectNumber_2_14 rfl (lv_at hl 0 rfl) ?_
    refine g_getI (C := RX3) (T := TX3) (N := 5) X hI in_X3 rfl 3 (by decide) q570 (fun _ h9 => h9) hr dX3_expectNumber_2_15 (fun v2 hr => ?_)
    refine lv_istore_n (lv' := [(1, .int v2), (0, .ref z0)]) hx hb dX3_expectNumber_2_18 rfl hl (by decide) rfl (fun ls hl => ?_)
    refine lv_aload_n hx hb dX3_expectNumber_2_19 rfl (lv_at hl 1 rfl) ?_
    obtain ⟨_, ho3, hr⟩ := gB_i hr
    obtain ⟨h5, hc4, hr⟩ := gB_i hr
    refine gRun_v (g_runV X hI (w_X3_advance hc4) ho3 rfl hl (lw_V q562 q563 q564 q118 q565) rfl rfl hd_X3_advance ⟨Nat.le_of_ble_eq_true rfl, Nat.le_of_ble_eq_true rfl⟩ (as := []) (rest := []) rfl rfl (Nat.le_of_ble_eq_true rfl) ⟨(show 0 + 0 ≤ 1 from by omega), (show 0 + 0 ≤ 8 from by omega)⟩ dX3_expectNumber_2_20) (fun H locs hI => ?_)
    refine lv_iload_n hx hb dX3_expectNumber_2_23 rfl (lv_at hl 0 rfl) ?_
    have hr := gS_i hr
    subst hr
    exact g_xiret X hI rfl (show (0 + 0) ≤ 1 from by omega) (show (0 + 0) ≤ 8 from by omega) dX3_expectNumber_2_24
  · replace hr := gIf_f c9 hr
    refine lv_aload_n hx hb dX3_expectNumber_2_8 rfl (lv_at hl 0 rfl) ?_
    refine lv_iconst (v := 1) hx hb dX3_expectNumber_2_9 (by decide) ?_
    obtain ⟨_, ho6, hr⟩ := gB_i hr
    obtain ⟨v8, h9, n10, hc7, hr⟩ := gT3_i hr
    refine gRun_a (g_runV X hI (w_X3_error hst hc7) ho6 rfl hl (lw_V q598 q599 q600 q118 q601) rfl rfl hd_X3_error ⟨Nat.le_of_ble_eq_true rfl, Nat.le_of_ble_eq_true rfl⟩ (as := [.int (1 : Int32)]) (rest := []) rfl rfl (Nat.le_of_ble_eq_true rfl) ⟨(show 0 + 1 ≤ 1 from by omega), (show 0 + 8 ≤ 8 from by omega)⟩ dX3_expectNumber_2_10) (fun H locs hI => ?_)
    obtain ⟨k11, hk12, hr⟩ := gB_i hr
    refine g_athrow X hI hk12 dX3_expectNumber_2_13 (fun hxc => ?_)
    have hr := gS_i hr
    subst hr
    exact g_xout X hI hxc hxt gPs_0 (show (0 + 1) ≤ 1 from by omega) (show (0 + 8) ≤ 8 from by omega)
abbrev rm_X3_expectNumber : Room := { frames := 14, cells := 1, slots := 8, locals := 444 }
theorem hd_X3_expectNumber : yX3_expectNumber.cls = RX3 ∧ yX3_expectNumber.cls ≠ "java/lang/invoke/MethodHandle" ∧ yX3_expectNumber.cls ≠ "java/lang/invoke/VarHandle" ∧ (parseMethodDescriptor yX3_expectNumber.desc).map (fun d => d.parameters.length) = some 2 := by decide +kernel
set_option maxHeartbeats 2000000 in
theorem w_X3_expectNumber {l : Launch} {x : gV} {base : Nat} (hst : l.stackTraces = false) {z0 : Nat} {z1 : Int32} {z2 : Int32} {h : gH} {n : Nat} {res : (Int32 ⊕ gX) × gH × Nat} (hr : f_X3_expectNumber z0 z1 z2 h n = some res) : gMX l yX3_expectNumber (ws_ yX3_expectNumber cX3_expectNumber 3 (some .int)) rm_X3_expectNumber x base (fun v => some (.int v)) [.ref z0, .int z1, .int z2] h n res 1 8 := by
  refine g_metX (cc := cX3_expectNumber) (nL := 3) (ret := (some .int)) (by decide) (Nat.le_of_ble_eq_true rfl) (fun p e s m below meth c ls X hnm hxt hl hI => ?_)
  have hl : lv_has ls 3 [(0, .ref z0), (1, .int z1), (2, .int z2)] := hl
  have hx := X.1
  have hb := X.2.1
  have hcc : 0 + 1 ≤ 1 ∧ 0 + 8 ≤ 8 := ⟨Nat.le_refl _, Nat.le_refl _⟩
  unfold f_X3_expectNumber at hr
  refine lv_aload_n hx hb dX3_expectNumber_0 rfl (lv_at hl 0 rfl) ?_
  refine g_getI (C := RX3) (T := TX3) (N := 5) X hI in_X3 rfl 0 (by decide) q566 (fun _ h9 => h9) hr dX3_expectNumber_1 (fun v1 hr => ?_)
  refine lv_iconst (v := 2) hx hb dX3_expectNumber_4 (by decide) ?_
  refine lv_icmp_ne (tgt := 30) hx hb dX3_expectNumber_5 (by decide) (fun c9 => ?_) (fun c9 => ?_)
  · replace hr := gIf_f c9 hr
    refine lv_aload_n hx hb dX3_expectNumber_30 rfl (lv_at hl 0 rfl) ?_
    obtain ⟨_, ho2, hr⟩ := gB_i hr
    rcases gTX_i hr with ⟨v4, h6, n7, hc3, hr⟩ | ⟨q5, h8, n9, hc3, hr⟩
    · refine gXRet_i (g_xrunV X hI (w_X3_expectNumber_2 hst hc3) ho2 rfl hl (lw_V q632 q633 q634 q118 q635) rfl rfl hd_X3_expectNumber_2 ⟨Nat.le_of_ble_eq_true rfl, Nat.le_of_ble_eq_true rfl⟩ (as := []) (rest := []) rfl rfl (Nat.le_of_ble_eq_true rfl) ⟨(show 0 + 1 ≤ 1 from by omega), (show 0 + 8 ≤ 8 from by omega)⟩ dX3_expectNumber_31) (fun H locs hI => ?_)
      have hr := gS_i hr
      subst hr
      exact g_xiret X hI rfl (show (0 + 1) ≤ 1 from by omega) (show (0 + 8) ≤ 8 from by omega) dX3_expectNumber_34
    · refine gXThr (k := q5.1) (q := q5.2) (g_xrunV X hI (w_X3_expectNumber_2 hst hc3) ho2 rfl hl (lw_V q632 q633 q634 q118 q635) rfl rfl hd_X3_expectNumber_2 ⟨Nat.le_of_ble_eq_true rfl, Nat.le_of_ble_eq_true rfl⟩ (as := []) (rest := []) rfl rfl (Nat.le_of_ble_eq_true rfl) ⟨(show 0 + 1 ≤ 1 from by omega), (show 0 + 8 ≤ 8 from by omega)⟩ dX3_expectNumber_31) (fun H locs hI hxc => ?_)
      have hr := gS_i hr
      subst hr
      exact g_xout X hI hxc hxt gPs_0 (show (0 + 1) ≤ 1 from by omega) (show (0 + 8) ≤ 8 from by omega)
  · replace hr := gIf_t c9 hr
    refine lv_aload_n hx hb dX3_expectNumber_8 rfl (lv_at hl 0 rfl) ?_
    refine g_getI (C := RX3) (T := TX3) (N := 5) X hI in_X3 rfl 3 (by decide) q570 (fun _ h9 => h9) hr dX3_expectNumber_9 (fun v10 hr => ?_)
    refine lv_iload_n hx hb dX3_expectNumber_12 rfl (lv_at hl 1 rfl) ?_
    refine lv_icmp_lt (tgt := 24) hx hb dX3_expectNumber_13 (by decide) (fun c9 => ?_) (fun c9 => ?_)
    · replace hr := gIf_t c9 hr
      refine lv_aload_n hx hb dX3_expectNumber_24 rfl (lv_at hl 0 rfl) ?_
      refine lv_iconst (v := 2) hx hb dX3_expectNumber_25 (by decide) ?_
      obtain ⟨_, ho11, hr⟩ := gB_i hr
      obtain ⟨v13, h14, n15, hc12, hr⟩ := gT3_i hr
      refine gRun_a (g_runV X hI (w_X3_error hst hc12) ho11 rfl hl (lw_V q598 q599 q600 q118 q601) rfl rfl hd_X3_error ⟨Nat.le_of_ble_eq_true rfl, Nat.le_of_ble_eq_true rfl⟩ (as := [.int (2 : Int32)]) (rest := []) rfl rfl (Nat.le_of_ble_eq_true rfl) ⟨(show 0 + 1 ≤ 1 from by omega), (show 0 + 8 ≤ 8 from by omega)⟩ dX3_expectNumber_26) (fun H locs hI => ?_)
      obtain ⟨k16, hk17, hr⟩ := gB_i hr
      refine g_athrow X hI hk17 dX3_expectNumber_29 (fun hxc => ?_)
      have hr := gS_i hr
      subst hr
      exact g_xout X hI hxc hxt gPs_0 (show (0 + 1) ≤ 1 from by omega) (show (0 + 8) ≤ 8 from by omega)
    · replace hr := gIf_f c9 hr
      refine lv_aload_n hx hb dX3_expectNumber_16 rfl (lv_at hl 0 rfl) ?_
      refine g_getI (C := RX3) (T := TX3) (N := 5) X hI in_X3 rfl 3 (by decide) q570 (fun _ h9 => h9) hr dX3_expectNumber_17 (fun v18 hr => ?_)
      refine lv_iload_n hx hb dX3_expectNumber_20 rfl (lv_at hl 2 rfl) ?_
      refine lv_icmp_le (tgt := 30) hx hb dX3_expectNumber_21 (by decide) (fun c9 => ?_) (fun c9 => ?_)
      · replace hr := gIf_t c9 hr
        refine lv_aload_n hx hb dX3_expectNumber_30 rfl (lv_at hl 0 rfl) ?_
        obtain ⟨_, ho19, hr⟩ := gB_i hr
        rcases gTX_i hr with ⟨v21, h23, n24, hc20, hr⟩ | ⟨q22, h25, n26, hc20, hr⟩
        · refine gXRet_i (g_xrunV X hI (w_X3_expectNumber_2 hst hc20) ho19 rfl hl (lw_V q632 q633 q634 q118 q635) rfl rfl hd_X3_expectNumber_2 ⟨Nat.le_of_ble_eq_true rfl, Nat.le_of_ble_eq_true rfl⟩ (as := []) (rest := []) rfl rfl (Nat.le_of_ble_eq_true rfl) ⟨(show 0 + 1 ≤ 1 from by omega), (show 0 + 8 ≤ 8 from by omega)⟩ dX3_expectNumber_31) (fun H locs hI => ?_)
          have hr := gS_i hr
          subst hr
          exact g_xiret X hI rfl (show (0 + 1) ≤ 1 from by omega) (show (0 + 8) ≤ 8 from by omega) dX3_expectNumber_34
        · refine gXThr (k := q22.1) (q := q22.2) (g_xrunV X hI (w_X3_expectNumber_2 hst hc20) ho19 rfl hl (lw_V q632 q633 q634 q118 q635) rfl rfl hd_X3_expectNumber_2 ⟨Nat.le_of_ble_eq_true rfl, Nat.le_of_ble_eq_true rfl⟩ (as := []) (rest := []) rfl rfl (Nat.le_of_ble_eq_true rfl) ⟨(show 0 + 1 ≤ 1 from by omega), (show 0 + 8 ≤ 8 from by omega)⟩ dX3_expectNumber_31) (fun H locs hI hxc => ?_)
          have hr := gS_i hr
          subst hr
          exact g_xout X hI hxc hxt gPs_0 (show (0 + 1) ≤ 1 from by omega) (show (0 + 8) ≤ 8 from by omega)
      · replace hr := gIf_f c9 hr
        refine lv_aload_n hx hb dX3_expectNumber_24 rfl (lv_at hl 0 rfl) ?_
        refine lv_iconst (v := 2) hx hb dX3_expectNumber_25 (by decide) ?_
        obtain ⟨_, ho27, hr⟩ := gB_i hr
        obtain ⟨v29, h30, n31, hc28, hr⟩ := gT3_i hr
        refine gRun_a (g_runV X hI (w_X3_error hst hc28) ho27 rfl hl (lw_V q598 q599 q600 q118 q601) rfl rfl hd_X3_error ⟨Nat.le_of_ble_eq_true rfl, Nat.le_of_ble_eq_true rfl⟩ (as := [.int (2 : Int32)]) (rest := []) rfl rfl (Nat.le_of_ble_eq_true rfl) ⟨(show 0 + 1 ≤ 1 from by omega), (show 0 + 8 ≤ 8 from by omega)⟩ dX3_expectNumber_26) (fun H locs hI => ?_)
        obtain ⟨k32, hk33, hr⟩ := gB_i hr
        refine g_athrow X hI hk33 dX3_expectNumber_29 (fun hxc => ?_)
        have hr := gS_i hr
        subst hr
        exact g_xout X hI hxc hxt gPs_0 (show (0 + 1) ≤ 1 from by omega) (show (0 + 8) ≤ 8 from by omega)
abbrev rm_X3_expectSemicolon : Room := { frames := 13, cells := 1, slots := 8, locals := 423 }
theorem hd_X3_expectSemicolon : yX3_expectSemicolon.cls = RX3 ∧ yX3_expectSemicolon.cls ≠ "java/lang/invoke/MethodHandle" ∧ yX3_expectSemicolon.cls ≠ "java/lang/invoke/VarHandle" ∧ (parseMethodDescriptor yX3_expectSemicolon.desc).map (fun d => d.parameters.length) = some 0 := by decide +kernel
set_option maxHeartbeats 2000000 in
theorem w_X3_expectSemicolon {l : Launch} {x : gV} {base : Nat} (hst : l.stackTraces = false) {z0 : Nat} {h : gH} {n : Nat} {res : (Unit ⊕ gX) × gH × Nat} (hr : f_X3_expectSemicolon z0 h n = some res) : gMX l yX3_expectSemicolon (ws_ yX3_expectSemicolon cX3_expectSemicolon 1 none) rm_X3_expectSemicolon x base (fun _ => none) [.ref z0] h n res 1 8 := by
  refine g_metX (cc := cX3_expectSemicolon) (nL := 1) (ret := none) (by decide) (Nat.le_of_ble_eq_true rfl) (fun p e s m below meth c ls X hnm hxt hl hI => ?_)
  have hl : lv_has ls 1 [(0, .ref z0)] := hl
  have hx := X.1
  have hb := X.2.1
  have hcc : 0 + 1 ≤ 1 ∧ 0 + 8 ≤ 8 := ⟨Nat.le_refl _, Nat.le_refl _⟩
  unfold f_X3_expectSemicolon at hr
  refine lv_aload_n hx hb dX3_expectSemicolon_0 rfl (lv_at hl 0 rfl) ?_
  refine g_getI (C := RX3) (T := TX3) (N := 5) X hI in_X3 rfl 0 (by decide) q566 (fun _ h9 => h9) hr dX3_expectSemicolon_1 (fun v1 hr => ?_)
  refine lv_iconst (v := 3) hx hb dX3_expectSemicolon_4 (by decide) ?_
  refine lv_icmp_ne (tgt := 25) hx hb dX3_expectSemicolon_5 (by decide) (fun c9 => ?_) (fun c9 => ?_)
  · replace hr := gIf_f c9 hr
    refine lv_aload_n hx hb dX3_expectSemicolon_25 rfl (lv_at hl 0 rfl) ?_
    refine lv_iconst (v := 1) hx hb dX3_expectSemicolon_26 (by decide) ?_
    obtain ⟨_, ho2, hr⟩ := gB_i hr
    obtain ⟨v4, h5, n6, hc3, hr⟩ := gT3_i hr
    refine gRun_a (g_runV X hI (w_X3_error hst hc3) ho2 rfl hl (lw_V q598 q599 q600 q118 q601) rfl rfl hd_X3_error ⟨Nat.le_of_ble_eq_true rfl, Nat.le_of_ble_eq_true rfl⟩ (as := [.int (1 : Int32)]) (rest := []) rfl rfl (Nat.le_of_ble_eq_true rfl) ⟨(show 0 + 1 ≤ 1 from by omega), (show 0 + 8 ≤ 8 from by omega)⟩ dX3_expectSemicolon_27) (fun H locs hI => ?_)
    obtain ⟨k7, hk8, hr⟩ := gB_i hr
    refine g_athrow X hI hk8 dX3_expectSemicolon_30 (fun hxc => ?_)
    have hr := gS_i hr
    subst hr
    exact g_xout X hI hxc hxt gPs_0 (show (0 + 1) ≤ 1 from by omega) (show (0 + 8) ≤ 8 from by omega)
  · replace hr := gIf_t c9 hr
    refine lv_aload_n hx hb dX3_expectSemicolon_8 rfl (lv_at hl 0 rfl) ?_
    refine g_getA (C := RX3) (T := TX3) (N := 5) X hI in_X3 rfl 4 (by decide) q571 (fun _ h9 => h9) hr dX3_expectSemicolon_9 (fun v9 hr => ?_)
    refine g_getNA (C := RX1) (T := TX1) (N := 10) (host := "CakeDivision") X hI in_X1 rfl 0 (by decide) (by decide +kernel) (fun _ h9 => h9) hr dX3_expectSemicolon_12 (fun v10 hr => ?_)
    refine lv_aload_n hx hb dX3_expectSemicolon_15 rfl (lv_at hl 0 rfl) ?_
    refine g_getI (C := RX3) (T := TX3) (N := 5) X hI in_X3 rfl 1 (by decide) q568 (fun _ h9 => h9) hr dX3_expectSemicolon_16 (fun v11 hr => ?_)
    refine g_bald X hI hr dX3_expectSemicolon_19 (fun v12 hr => ?_)
    refine lv_bipush (v := 59) hx hb dX3_expectSemicolon_20 (by decide) ?_
    refine lv_icmp_eq (tgt := 31) hx hb dX3_expectSemicolon_22 (by decide) (fun c9 => ?_) (fun c9 => ?_)
    · replace hr := gIf_t c9 hr
      refine lv_aload_n hx hb dX3_expectSemicolon_31 rfl (lv_at hl 0 rfl) ?_
      obtain ⟨_, ho13, hr⟩ := gB_i hr
      obtain ⟨h15, hc14, hr⟩ := gB_i hr
      refine gRun_v (g_runV X hI (w_X3_advance hc14) ho13 rfl hl (lw_V q562 q563 q564 q118 q565) rfl rfl hd_X3_advance ⟨Nat.le_of_ble_eq_true rfl, Nat.le_of_ble_eq_true rfl⟩ (as := []) (rest := []) rfl rfl (Nat.le_of_ble_eq_true rfl) ⟨(show 0 + 0 ≤ 1 from by omega), (show 0 + 0 ≤ 8 from by omega)⟩ dX3_expectSemicolon_32) (fun H locs hI => ?_)
      have hr := gS_i hr
      subst hr
      exact g_xvret X hI (show (0 + 0) ≤ 1 from by omega) (show (0 + 0) ≤ 8 from by omega) dX3_expectSemicolon_35
    · replace hr := gIf_f c9 hr
      refine lv_aload_n hx hb dX3_expectSemicolon_25 rfl (lv_at hl 0 rfl) ?_
      refine lv_iconst (v := 1) hx hb dX3_expectSemicolon_26 (by decide) ?_
      obtain ⟨_, ho16, hr⟩ := gB_i hr
      obtain ⟨v18, h19, n20, hc17, hr⟩ := gT3_i hr
      refine gRun_a (g_runV X hI (w_X3_error hst hc17) ho16 rfl hl (lw_V q598 q599 q600 q118 q601) rfl rfl hd_X3_error ⟨Nat.le_of_ble_eq_true rfl, Nat.le_of_ble_eq_true rfl⟩ (as := [.int (1 : Int32)]) (rest := []) rfl rfl (Nat.le_of_ble_eq_true rfl) ⟨(show 0 + 1 ≤ 1 from by omega), (show 0 + 8 ≤ 8 from by omega)⟩ dX3_expectSemicolon_27) (fun H locs hI => ?_)
      obtain ⟨k21, hk22, hr⟩ := gB_i hr
      refine g_athrow X hI hk22 dX3_expectSemicolon_30 (fun hxc => ?_)
      have hr := gS_i hr
      subst hr
      exact g_xout X hI hxc hxt gPs_0 (show (0 + 1) ≤ 1 from by omega) (show (0 + 8) ≤ 8 from by omega)
abbrev rm_X2_size : Room := { frames := 1, cells := 0, slots := 0, locals := 20 }
theorem hd_X2_size : yX2_size.cls = RX2 ∧ yX2_size.cls ≠ "java/lang/invoke/MethodHandle" ∧ yX2_size.cls ≠ "java/lang/invoke/VarHandle" ∧ (parseMethodDescriptor yX2_size.desc).map (fun d => d.parameters.length) = some 0 := by decide +kernel
set_option maxHeartbeats 2000000 in
theorem w_X2_size {l : Launch} {x : gV} {base : Nat} {z0 : Nat} {h : gH} {n : Nat} {res : Int32} (hr : f_X2_size z0 h = some res) : gM l yX2_size (ws_ yX2_size cX2_size 1 (some .int)) rm_X2_size x base [.ref z0] h n (some (.int res)) h n 0 0 := by
  refine g_met (cc := cX2_size) (nL := 1) (ret := (some .int)) (by decide) (Nat.le_of_ble_eq_true rfl) (fun p e s m below meth c ls X hnm hl hI => ?_)
  have hl : lv_has ls 1 [(0, .ref z0)] := hl
  have hx := X.1
  have hb := X.2.1
  unfold f_X2_size at hr
  refine lv_aload_n hx hb dX2_size_0 rfl (lv_at hl 0 rfl) ?_
  refine g_getA (C := RX2) (T := TX2) (N := 3) X hI in_X2 rfl 0 (by decide) q499 (fun _ h9 => h9) hr dX2_size_1 (fun v1 hr => ?_)
  obtain ⟨_, ho2, hr⟩ := gB_i hr
  obtain ⟨v4, hc3, hr⟩ := gB_i hr
  refine gRun_i (g_runV X hI (w_J2_size hc3) ho2 rfl hl (lw_V q646 q647 q648 q100 q649) rfl rfl hd_J2_size ⟨Nat.le_of_ble_eq_true rfl, Nat.le_of_ble_eq_true rfl⟩ (as := []) (rest := []) rfl rfl (Nat.le_of_ble_eq_true rfl) ⟨(Nat.le_refl _), (Nat.le_refl _)⟩ dX2_size_4) (fun H locs hI => ?_)
  have hr := gS_i hr
  subst hr
  exact g_iret X hI rfl (Nat.le_refl _) (Nat.le_refl _) dX2_size_7
abbrev rm_X3_peekName : Room := { frames := 13, cells := 1, slots := 8, locals := 423 }
theorem hd_X3_peekName : yX3_peekName.cls = RX3 ∧ yX3_peekName.cls ≠ "java/lang/invoke/MethodHandle" ∧ yX3_peekName.cls ≠ "java/lang/invoke/VarHandle" ∧ (parseMethodDescriptor yX3_peekName.desc).map (fun d => d.parameters.length) = some 0 := by decide +kernel
set_option maxHeartbeats 2000000 in
theorem w_X3_peekName {l : Launch} {x : gV} {base : Nat} (hst : l.stackTraces = false) {z0 : Nat} {h : gH} {n : Nat} {res : (Nat ⊕ gX) × gH × Nat} (hr : f_X3_peekName z0 h n = some res) : gMX l yX3_peekName (ws_ yX3_peekName cX3_peekName 2 (some (.array .byte))) rm_X3_peekName x base (fun v => some (.ref v)) [.ref z0] h n res 1 8 := by
  refine g_metX (cc := cX3_peekName) (nL := 2) (ret := (some (.array .byte))) (by decide) (Nat.le_of_ble_eq_true rfl) (fun p e s m below meth c ls X hnm hxt hl hI => ?_)
  have hl : lv_has ls 2 [(0, .ref z0)] := hl
  have hx := X.1
  have hb := X.2.1
  have hcc : 0 + 1 ≤ 1 ∧ 0 + 8 ≤ 8 := ⟨Nat.le_refl _, Nat.le_refl _⟩
  unfold f_X3_peekName at hr
  refine lv_aload_n hx hb dX3_peekName_0 rfl (lv_at hl 0 rfl) ?_
  refine g_getI (C := RX3) (T := TX3) (N := 5) X hI in_X3 rfl 0 (by decide) q566 (fun _ h9 => h9) hr dX3_peekName_1 (fun v1 hr => ?_)
  refine lv_iconst (v := 1) hx hb dX3_peekName_4 (by decide) ?_
  refine lv_icmp_eq (tgt := 14) hx hb dX3_peekName_5 (by decide) (fun c9 => ?_) (fun c9 => ?_)
  · replace hr := gIf_t c9 hr
    refine lv_aload_n hx hb dX3_peekName_14 rfl (lv_at hl 0 rfl) ?_
    refine g_getI (C := RX3) (T := TX3) (N := 5) X hI in_X3 rfl 2 (by decide) q569 (fun _ h9 => h9) hr dX3_peekName_15 (fun v2 hr => ?_)
    refine lv_aload_n hx hb dX3_peekName_18 rfl (lv_at hl 0 rfl) ?_
    refine g_getI (C := RX3) (T := TX3) (N := 5) X hI in_X3 rfl 1 (by decide) q568 (fun _ h9 => h9) hr dX3_peekName_19 (fun v3 hr => ?_)
    refine lv_isub hx hb dX3_peekName_22 ?_
    refine lv_bipush (v := 6) hx hb dX3_peekName_23 (by decide) ?_
    refine lv_icmp_le (tgt := 34) hx hb dX3_peekName_25 (by decide) (fun c9 => ?_) (fun c9 => ?_)
    · replace hr := gIf_t c9 hr
      refine lv_aload_n hx hb dX3_peekName_34 rfl (lv_at hl 0 rfl) ?_
      refine g_getI (C := RX3) (T := TX3) (N := 5) X hI in_X3 rfl 2 (by decide) q569 (fun _ h9 => h9) hr dX3_peekName_35 (fun v4 hr => ?_)
      refine lv_aload_n hx hb dX3_peekName_38 rfl (lv_at hl 0 rfl) ?_
      refine g_getI (C := RX3) (T := TX3) (N := 5) X hI in_X3 rfl 1 (by decide) q568 (fun _ h9 => h9) hr dX3_peekName_39 (fun v5 hr => ?_)
      refine lv_isub hx hb dX3_peekName_42 ?_
      refine g_newI (t := 1) (b := 6) (atype := .byte) X hI q239 rfl rfl (by decide) (show 0 + 1 ≤ 1 from by omega) (show 0 + 6 ≤ 8 from by omega) hr dX3_peekName_43 (fun q6 h7 n8 H locs hI hr => ?_)
      refine lv_astore_n (lv' := [(1, .ref q6), (0, .ref z0)]) hx hb dX3_peekName_45 rfl hl (by decide) rfl (fun ls hl => ?_)
      refine lv_aload_n hx hb dX3_peekName_46 rfl (lv_at hl 1 rfl) ?_
      refine g_getA (C := RX3) (T := TX3) (N := 5) X hI in_X3 rfl 4 (by decide) q571 (fun _ h9 => h9) hr dX3_peekName_47 (fun v9 hr => ?_)
      refine g_getNA (C := RX1) (T := TX1) (N := 10) (host := "CakeDivision") X hI in_X1 rfl 0 (by decide) (by decide +kernel) (fun _ h9 => h9) hr dX3_peekName_50 (fun v10 hr => ?_)
      refine lv_aload_n hx hb dX3_peekName_53 rfl (lv_at hl 1 rfl) ?_
      refine g_getI (C := RX3) (T := TX3) (N := 5) X hI in_X3 rfl 1 (by decide) q568 (fun _ h9 => h9) hr dX3_peekName_54 (fun v11 hr => ?_)
      refine lv_aload_n hx hb dX3_peekName_57 rfl (lv_at hl 0 rfl) ?_
      refine lv_iconst (v := 0) hx hb dX3_peekName_58 (by decide) ?_
      refine lv_aload_n hx hb dX3_peekName_59 rfl (lv_at hl 0 rfl) ?_
      refine g_alen X hI (t := 1) rfl hr dX3_peekName_60 (fun v12 hr => ?_)
      refine g_acpy1 X hI hl q659 q286 q285 q112 (Nat.le_of_ble_eq_true rfl) (Nat.le_of_ble_eq_true rfl) hr dX3_peekName_61 (fun h13 H locs hI hr => ?_)
      refine lv_aload_n hx hb dX3_peekName_64 rfl (lv_at hl 0 rfl) ?_
      have hr := gS_i hr
      subst hr
      exact g_xaret X hI (Or.inr ⟨_, rfl⟩) (show (0 + 1) ≤ 1 from by omega) (show (0 + 6) ≤ 8 from by omega) dX3_peekName_65
    · replace hr := gIf_f c9 hr
      refine lv_aload_n hx hb dX3_peekName_28 rfl (lv_at hl 0 rfl) ?_
      refine lv_iconst (v := 3) hx hb dX3_peekName_29 (by decide) ?_
      obtain ⟨_, ho14, hr⟩ := gB_i hr
      obtain ⟨v16, h17, n18, hc15, hr⟩ := gT3_i hr
      refine gRun_a (g_runV X hI (w_X3_error hst hc15) ho14 rfl hl (lw_V q598 q599 q600 q118 q601) rfl rfl hd_X3_error ⟨Nat.le_of_ble_eq_true rfl, Nat.le_of_ble_eq_true rfl⟩ (as := [.int (3 : Int32)]) (rest := []) rfl rfl (Nat.le_of_ble_eq_true rfl) ⟨(show 0 + 1 ≤ 1 from by omega), (show 0 + 8 ≤ 8 from by omega)⟩ dX3_peekName_30) (fun H locs hI => ?_)
      obtain ⟨k19, hk20, hr⟩ := gB_i hr
      refine g_athrow X hI hk20 dX3_peekName_33 (fun hxc => ?_)
      have hr := gS_i hr
      subst hr
      exact g_xout X hI hxc hxt gPs_0 (show (0 + 1) ≤ 1 from by omega) (show (0 + 8) ≤ 8 from by omega)
  · replace hr := gIf_f c9 hr
    refine lv_aload_n hx hb dX3_peekName_8 rfl (lv_at hl 0 rfl) ?_
    refine lv_iconst (v := 1) hx hb dX3_peekName_9 (by decide) ?_
    obtain ⟨_, ho21, hr⟩ := gB_i hr
    obtain ⟨v23, h24, n25, hc22, hr⟩ := gT3_i hr
    refine gRun_a (g_runV X hI (w_X3_error hst hc22) ho21 rfl hl (lw_V q598 q599 q600 q118 q601) rfl rfl hd_X3_error ⟨Nat.le_of_ble_eq_true rfl, Nat.le_of_ble_eq_true rfl⟩ (as := [.int (1 : Int32)]) (rest := []) rfl rfl (Nat.le_of_ble_eq_true rfl) ⟨(show 0 + 1 ≤ 1 from by omega), (show 0 + 8 ≤ 8 from by omega)⟩ dX3_peekName_10) (fun H locs hI => ?_)
    obtain ⟨k26, hk27, hr⟩ := gB_i hr
    refine g_athrow X hI hk27 dX3_peekName_13 (fun hxc => ?_)
    have hr := gS_i hr
    subst hr
    exact g_xout X hI hxc hxt gPs_0 (show (0 + 1) ≤ 1 from by omega) (show (0 + 8) ≤ 8 from by omega)
abbrev rm_X2_sibling : Room := { frames := 3, cells := 0, slots := 0, locals := 64 }
theorem hd_X2_sibling : yX2_sibling.cls = RX2 ∧ yX2_sibling.cls ≠ "java/lang/invoke/MethodHandle" ∧ yX2_sibling.cls ≠ "java/lang/invoke/VarHandle" ∧ (parseMethodDescriptor yX2_sibling.desc).map (fun d => d.parameters.length) = some 1 := by decide +kernel
set_option maxHeartbeats 2000000 in
theorem w_X2_sibling {l : Launch} {x : gV} {base : Nat} {z0 : Nat} {z1 : Int32} {h : gH} {n : Nat} {res : Nat} (hr : f_X2_sibling z0 z1 h = some res) : gM l yX2_sibling (ws_ yX2_sibling cX2_sibling 2 (some (.object "CakeDivision$Sibling"))) rm_X2_sibling x base [.ref z0, .int z1] h n (some (.ref res)) h n 0 0 := by
  refine g_met (cc := cX2_sibling) (nL := 2) (ret := (some (.object "CakeDivision$Sibling"))) (by decide) (Nat.le_of_ble_eq_true rfl) (fun p e s m below meth c ls X hnm hl hI => ?_)
  have hl : lv_has ls 2 [(0, .ref z0), (1, .int z1)] := hl
  have hx := X.1
  have hb := X.2.1
  unfold f_X2_sibling at hr
  refine lv_aload_n hx hb dX2_sibling_0 rfl (lv_at hl 0 rfl) ?_
  refine g_getA (C := RX2) (T := TX2) (N := 3) X hI in_X2 rfl 0 (by decide) q499 (fun _ h9 => h9) hr dX2_sibling_1 (fun v1 hr => ?_)
  refine lv_iload_n hx hb dX2_sibling_4 rfl (lv_at hl 1 rfl) ?_
  obtain ⟨_, ho2, hr⟩ := gB_i hr
  obtain ⟨v4, hc3, hr⟩ := gB_i hr
  refine gRun_a (g_runV X hI (w_J2_get hc3) ho2 rfl hl (lw_V q669 q670 q671 q100 q672) rfl rfl hd_J2_get ⟨Nat.le_of_ble_eq_true rfl, Nat.le_of_ble_eq_true rfl⟩ (as := [.int z1]) (rest := []) rfl rfl (Nat.le_of_ble_eq_true rfl) ⟨(Nat.le_refl _), (Nat.le_refl _)⟩ dX2_sibling_5) (fun H locs hI => ?_)
  obtain ⟨_, ho5, hr⟩ := gB_i hr
  refine va_castE hx hb X.2.2.2.2.1 (X.w q681) (g_recv X hI ho5 rfl) dX2_sibling_8 ?_
  have hr := gS_i hr
  subst hr
  exact g_aret X hI (Or.inl ⟨_, rfl⟩) (Nat.le_refl _) (Nat.le_refl _) dX2_sibling_11
abbrev rm_X5_isNamed : Room := { frames := 0, cells := 0, slots := 0, locals := 0 }
theorem hd_X5_isNamed : yX5_isNamed.cls = RX5 ∧ yX5_isNamed.cls ≠ "java/lang/invoke/MethodHandle" ∧ yX5_isNamed.cls ≠ "java/lang/invoke/VarHandle" ∧ (parseMethodDescriptor yX5_isNamed.desc).map (fun d => d.parameters.length) = some 1 := by decide +kernel
set_option maxHeartbeats 2000000 in
theorem w_X5_isNamed_L18 {h : gH} {n : Nat} {z0 : Nat} {z1 : Nat} {res : Int32} (X : gXX x base RX5 cX5_isNamed 4 (some .boolean) p l s m args meth c) : ∀ (k : Nat) {z2 : Int32} {z3 : Int32} {H : Heap} {locs : List Loc} {ls : Array Slot}, gL2 (f_X5_isNamed_L18 z0 z1 h) k z2 z3 = some res → gI x base s.heap h n H locs → lv_has ls 4 [(0, .ref z0), (1, .ref z1), (2, .int z2), (3, .int z3)] → W p l e rm_X5_isNamed s m args below meth c H locs 0 0 (MQ below (gQ x base (some (.int res)) h n) args s 0 0 (fun q => base ≤ q)) (F0 m 18 ls []) := by
  have hx := X.1
  have hb := X.2.1
  intro k
  induction k with
  | zero =>
    intros
    rename_i hr _ _
    exact nomatch (show (none : Option _) = some _ from hr)
  | succ k ih =>
    intro z2 z3 H locs ls hr hI hl
    replace hr : f_X5_isNamed_L18 z0 z1 h (gL2 (f_X5_isNamed_L18 z0 z1 h) k) z2 z3 = some res := hr
    unfold f_X5_isNamed_L18 at hr
    refine lv_iload_n hx hb dX5_isNamed_18 rfl (lv_at hl 3 rfl) ?_
    refine lv_aload_n hx hb dX5_isNamed_19 rfl (lv_at hl 0 rfl) ?_
    refine g_getA (C := RX5) (T := TX5) (N := 2) X hI in_X5 rfl 0 (by decide) q697 (fun _ h9 => h9) hr dX5_isNamed_20 (fun v4 hr => ?_)
    refine g_alen X hI (t := 1) rfl hr dX5_isNamed_23 (fun v5 hr => ?_)
    refine lv_icmp_ge (tgt := 55) hx hb dX5_isNamed_24 (by decide) (fun c9 => ?_) (fun c9 => ?_)
    · replace hr := gIf_t c9 hr
      refine lv_iload_n hx hb dX5_isNamed_55 rfl (lv_at hl 2 rfl) ?_
      obtain ⟨c9, hr⟩ := gIf_o hr
      have hr := gS_i hr
      subst hr
      exact g_iret X hI (g_narZ c9) (Nat.le_refl _) (Nat.le_refl _) dX5_isNamed_56
    · replace hr := gIf_f c9 hr
      refine lv_iload_n hx hb dX5_isNamed_27 rfl (lv_at hl 2 rfl) ?_
      refine lv_if_eq (tgt := 55) hx hb dX5_isNamed_28 (by decide) (fun c9 => ?_) (fun c9 => ?_)
      · replace hr := gIf_t c9 hr
        refine lv_iload_n hx hb dX5_isNamed_55 rfl (lv_at hl 2 rfl) ?_
        obtain ⟨c9, hr⟩ := gIf_o hr
        have hr := gS_i hr
        subst hr
        exact g_iret X hI (g_narZ c9) (Nat.le_refl _) (Nat.le_refl _) dX5_isNamed_56
      · replace hr := gIf_f c9 hr
        refine lv_aload_n hx hb dX5_isNamed_31 rfl (lv_at hl 0 rfl) ?_
        refine g_getA (C := RX5) (T := TX5) (N := 2) X hI in_X5 rfl 0 (by decide) q697 (fun _ h9 => h9) hr dX5_isNamed_32 (fun v6 hr => ?_)
        refine lv_iload_n hx hb dX5_isNamed_35 rfl (lv_at hl 3 rfl) ?_
        refine g_bald X hI hr dX5_isNamed_36 (fun v7 hr => ?_)
        refine lv_aload_n hx hb dX5_isNamed_37 rfl (lv_at hl 1 rfl) ?_
        refine lv_iload_n hx hb dX5_isNamed_38 rfl (lv_at hl 3 rfl) ?_
        refine g_bald X hI hr dX5_isNamed_39 (fun v8 hr => ?_)
        refine lv_icmp_ne (tgt := 47) hx hb dX5_isNamed_40 (by decide) (fun c9 => ?_) (fun c9 => ?_)
        · replace hr := gIf_f c9 hr
          refine lv_iconst (v := 0) hx hb dX5_isNamed_47 (by decide) ?_
          refine lv_istore_n (lv' := [(2, .int (0 : Int32)), (0, .ref z0), (1, .ref z1), (3, .int z3)]) hx hb dX5_isNamed_48 rfl hl (by decide) rfl (fun ls hl => ?_)
          refine lv_iinc (v := (z3 + (1 : Int32))) (lv' := [(3, .int (z3 + (1 : Int32))), (2, .int (0 : Int32)), (0, .ref z0), (1, .ref z1)]) hx hb dX5_isNamed_49 hl (k := 3) rfl (g_inc (by decide)) (by decide) rfl (fun ls hl => ?_)
          refine lv_goto (tgt := 18) hx hb dX5_isNamed_52 (by decide) ?_
          exact ih hr hI (lv_sub hl [2, 3, 1, 0] rfl)
        · replace hr := gIf_t c9 hr
          refine lv_iconst (v := 1) hx hb dX5_isNamed_43 (by decide) ?_
          refine lv_goto (tgt := 48) hx hb dX5_isNamed_44 (by decide) ?_
          refine lv_istore_n (lv' := [(2, .int (1 : Int32)), (0, .ref z0), (1, .ref z1), (3, .int z3)]) hx hb dX5_isNamed_48 rfl hl (by decide) rfl (fun ls hl => ?_)
          refine lv_iinc (v := (z3 + (1 : Int32))) (lv' := [(3, .int (z3 + (1 : Int32))), (2, .int (1 : Int32)), (0, .ref z0), (1, .ref z1)]) hx hb dX5_isNamed_49 hl (k := 3) rfl (g_inc (by decide)) (by decide) rfl (fun ls hl => ?_)
          refine lv_goto (tgt := 18) hx hb dX5_isNamed_52 (by decide) ?_
          exact ih hr hI (lv_sub hl [2, 3, 1, 0] rfl)
set_option maxHeartbeats 2000000 in
theorem w_X5_isNamed_J15 {h : gH} {n : Nat} {z0 : Nat} {z1 : Nat} {s0 : Int32} {res : Int32} (X : gXX x base RX5 cX5_isNamed 4 (some .boolean) p l s m args meth c) {H : Heap} {locs : List Loc} {ls : Array Slot} (hr : f_X5_isNamed_J15 z0 z1 s0 h = some res) (hI : gI x base s.heap h n H locs) (hl : lv_has ls 4 [(0, .ref z0), (1, .ref z1)]) : W p l e rm_X5_isNamed s m args below meth c H locs 0 0 (MQ below (gQ x base (some (.int res)) h n) args s 0 0 (fun q => base ≤ q)) (F0 m 15 ls [.int s0]) := by
  have hx := X.1
  have hb := X.2.1
  unfold f_X5_isNamed_J15 at hr
  refine lv_istore_n (lv' := [(2, .int s0), (0, .ref z0), (1, .ref z1)]) hx hb dX5_isNamed_15 rfl hl (by decide) rfl (fun ls hl => ?_)
  refine lv_iconst (v := 0) hx hb dX5_isNamed_16 (by decide) ?_
  refine lv_istore_n (lv' := [(3, .int (0 : Int32)), (2, .int s0), (0, .ref z0), (1, .ref z1)]) hx hb dX5_isNamed_17 rfl hl (by decide) rfl (fun ls hl => ?_)
  exact w_X5_isNamed_L18 X gN hr hI (lv_sub hl [2, 3, 1, 0] rfl)
set_option maxHeartbeats 2000000 in
theorem w_X5_isNamed {l : Launch} {x : gV} {base : Nat} {z0 : Nat} {z1 : Nat} {h : gH} {n : Nat} {res : Int32} (hr : f_X5_isNamed z0 z1 h = some res) : gM l yX5_isNamed (ws_ yX5_isNamed cX5_isNamed 4 (some .boolean)) rm_X5_isNamed x base [.ref z0, .ref z1] h n (some (.int res)) h n 0 0 := by
  refine g_met (cc := cX5_isNamed) (nL := 4) (ret := (some .boolean)) (by decide) (Nat.le_of_ble_eq_true rfl) (fun p e s m below meth c ls X hnm hl hI => ?_)
  have hl : lv_has ls 4 [(0, .ref z0), (1, .ref z1)] := hl
  have hx := X.1
  have hb := X.2.1
  unfold f_X5_isNamed at hr
  refine lv_aload_n hx hb dX5_isNamed_0 rfl (lv_at hl 1 rfl) ?_
  refine g_alen X hI (t := 1) rfl hr dX5_isNamed_1 (fun v1 hr => ?_)
  refine lv_aload_n hx hb dX5_isNamed_2 rfl (lv_at hl 0 rfl) ?_
  refine g_getA (C := RX5) (T := TX5) (N := 2) X hI in_X5 rfl 0 (by decide) q697 (fun _ h9 => h9) hr dX5_isNamed_3 (fun v2 hr => ?_)
  refine g_alen X hI (t := 1) rfl hr dX5_isNamed_6 (fun v3 hr => ?_)
  refine lv_icmp_ne (tgt := 14) hx hb dX5_isNamed_7 (by decide) (fun c9 => ?_) (fun c9 => ?_)
  · replace hr := gIf_f c9 hr
    refine lv_iconst (v := 0) hx hb dX5_isNamed_14 (by decide) ?_
    exact w_X5_isNamed_J15 X hr hI (lv_sub hl [0, 1] rfl)
  · replace hr := gIf_t c9 hr
    refine lv_iconst (v := 1) hx hb dX5_isNamed_10 (by decide) ?_
    refine lv_goto (tgt := 15) hx hb dX5_isNamed_11 (by decide) ?_
    exact w_X5_isNamed_J15 X hr hI (lv_sub hl [0, 1] rfl)
abbrev rm_X2_siblingNamed : Room := { frames := 4, cells := 0, slots := 0, locals := 85 }
theorem hd_X2_siblingNamed : yX2_siblingNamed.cls = RX2 ∧ yX2_siblingNamed.cls ≠ "java/lang/invoke/MethodHandle" ∧ yX2_siblingNamed.cls ≠ "java/lang/invoke/VarHandle" ∧ (parseMethodDescriptor yX2_siblingNamed.desc).map (fun d => d.parameters.length) = some 1 := by decide +kernel
set_option maxHeartbeats 2000000 in
theorem w_X2_siblingNamed_L2 {h : gH} {n : Nat} {z0 : Nat} {z1 : Nat} {res : Int32} (X : gXX x base RX2 cX2_siblingNamed 3 (some .int) p l s m args meth c) : ∀ (k : Nat) {z2 : Int32} {H : Heap} {locs : List Loc} {ls : Array Slot}, gL1 (f_X2_siblingNamed_L2 z0 z1 h) k z2 = some res → gI x base s.heap h n H locs → lv_has ls 3 [(0, .ref z0), (1, .ref z1), (2, .int z2)] → W p l e rm_X2_siblingNamed s m args below meth c H locs 0 0 (MQ below (gQ x base (some (.int res)) h n) args s 0 0 (fun q => base ≤ q)) (F0 m 2 ls []) := by
  have hx := X.1
  have hb := X.2.1
  intro k
  induction k with
  | zero =>
    intros
    rename_i hr _ _
    exact nomatch (show (none : Option _) = some _ from hr)
  | succ k ih =>
    intro z2 H locs ls hr hI hl
    replace hr : f_X2_siblingNamed_L2 z0 z1 h (gL1 (f_X2_siblingNamed_L2 z0 z1 h) k) z2 = some res := hr
    unfold f_X2_siblingNamed_L2 at hr
    refine lv_iload_n hx hb dX2_siblingNamed_2 rfl (lv_at hl 2 rfl) ?_
    refine lv_aload_n hx hb dX2_siblingNamed_3 rfl (lv_at hl 0 rfl) ?_
    obtain ⟨_, ho1, hr⟩ := gB_i hr
    obtain ⟨v3, hc2, hr⟩ := gB_i hr
    refine gRun_i (g_runV X hI (w_X2_size hc2) ho1 rfl hl (lw_V q664 q643 q644 q97 q645) rfl rfl hd_X2_size ⟨Nat.le_of_ble_eq_true rfl, Nat.le_of_ble_eq_true rfl⟩ (as := []) (rest := [.int z2]) rfl rfl (Nat.le_of_ble_eq_true rfl) ⟨(Nat.le_refl _), (Nat.le_refl _)⟩ dX2_siblingNamed_4) (fun H locs hI => ?_)
    refine lv_icmp_ge (tgt := 30) hx hb dX2_siblingNamed_7 (by decide) (fun c9 => ?_) (fun c9 => ?_)
    · replace hr := gIf_t c9 hr
      refine lv_iconst (v := (-1)) hx hb dX2_siblingNamed_30 (by decide) ?_
      have hr := gS_i hr
      subst hr
      exact g_iret X hI rfl (Nat.le_refl _) (Nat.le_refl _) dX2_siblingNamed_31
    · replace hr := gIf_f c9 hr
      refine lv_aload_n hx hb dX2_siblingNamed_10 rfl (lv_at hl 0 rfl) ?_
      refine lv_iload_n hx hb dX2_siblingNamed_11 rfl (lv_at hl 2 rfl) ?_
      obtain ⟨v5, hc4, hr⟩ := gB_i hr
      refine gRun_a (g_runV X hI (w_X2_sibling hc4) ho1 rfl hl (lw_V q665 q666 q667 q97 q668) rfl rfl hd_X2_sibling ⟨Nat.le_of_ble_eq_true rfl, Nat.le_of_ble_eq_true rfl⟩ (as := [.int z2]) (rest := []) rfl rfl (Nat.le_of_ble_eq_true rfl) ⟨(Nat.le_refl _), (Nat.le_refl _)⟩ dX2_siblingNamed_12) (fun H locs hI => ?_)
      refine lv_aload_n hx hb dX2_siblingNamed_15 rfl (lv_at hl 1 rfl) ?_
      obtain ⟨_, ho6, hr⟩ := gB_i hr
      obtain ⟨v8, hc7, hr⟩ := gB_i hr
      refine gRun_i (g_runV X hI (w_X5_isNamed hc7) ho6 rfl hl (lw_V q682 q683 q684 q121 q685) rfl rfl hd_X5_isNamed ⟨Nat.le_of_ble_eq_true rfl, Nat.le_of_ble_eq_true rfl⟩ (as := [.ref z1]) (rest := []) rfl rfl (Nat.le_of_ble_eq_true rfl) ⟨(Nat.le_refl _), (Nat.le_refl _)⟩ dX2_siblingNamed_16) (fun H locs hI => ?_)
      refine lv_if_eq (tgt := 24) hx hb dX2_siblingNamed_19 (by decide) (fun c9 => ?_) (fun c9 => ?_)
      · replace hr := gIf_t c9 hr
        refine lv_iinc (v := (z2 + (1 : Int32))) (lv' := [(2, .int (z2 + (1 : Int32))), (0, .ref z0), (1, .ref z1)]) hx hb dX2_siblingNamed_24 hl (k := 2) rfl (g_inc (by decide)) (by decide) rfl (fun ls hl => ?_)
        refine lv_goto (tgt := 2) hx hb dX2_siblingNamed_27 (by decide) ?_
        exact ih hr hI (lv_sub hl [1, 2, 0] rfl)
      · replace hr := gIf_f c9 hr
        refine lv_iload_n hx hb dX2_siblingNamed_22 rfl (lv_at hl 2 rfl) ?_
        have hr := gS_i hr
        subst hr
        exact g_iret X hI rfl (Nat.le_refl _) (Nat.le_refl _) dX2_siblingNamed_23
set_option maxHeartbeats 2000000 in
theorem w_X2_siblingNamed {l : Launch} {x : gV} {base : Nat} {z0 : Nat} {z1 : Nat} {h : gH} {n : Nat} {res : Int32} (hr : f_X2_siblingNamed z0 z1 h = some res) : gM l yX2_siblingNamed (ws_ yX2_siblingNamed cX2_siblingNamed 3 (some .int)) rm_X2_siblingNamed x base [.ref z0, .ref z1] h n (some (.int res)) h n 0 0 := by
  refine g_met (cc := cX2_siblingNamed) (nL := 3) (ret := (some .int)) (by decide) (Nat.le_of_ble_eq_true rfl) (fun p e s m below meth c ls X hnm hl hI => ?_)
  have hl : lv_has ls 3 [(0, .ref z0), (1, .ref z1)] := hl
  have hx := X.1
  have hb := X.2.1
  unfold f_X2_siblingNamed at hr
  refine lv_iconst (v := 0) hx hb dX2_siblingNamed_0 (by decide) ?_
  refine lv_istore_n (lv' := [(2, .int (0 : Int32)), (0, .ref z0), (1, .ref z1)]) hx hb dX2_siblingNamed_1 rfl hl (by decide) rfl (fun ls hl => ?_)
  exact w_X2_siblingNamed_L2 X gN hr hI (lv_sub hl [1, 2, 0] rfl)
abbrev rm_X3_expectNewName : Room := { frames := 14, cells := 2, slots := 16, locals := 444 }
theorem hd_X3_expectNewName : yX3_expectNewName.cls = RX3 ∧ yX3_expectNewName.cls ≠ "java/lang/invoke/MethodHandle" ∧ yX3_expectNewName.cls ≠ "java/lang/invoke/VarHandle" ∧ (parseMethodDescriptor yX3_expectNewName.desc).map (fun d => d.parameters.length) = some 1 := by decide +kernel
set_option maxHeartbeats 2000000 in
theorem w_X3_expectNewName {l : Launch} {x : gV} {base : Nat} (hst : l.stackTraces = false) {z0 : Nat} {z1 : Nat} {h : gH} {n : Nat} {res : (Nat ⊕ gX) × gH × Nat} (hr : f_X3_expectNewName z0 z1 h n = some res) : gMX l yX3_expectNewName (ws_ yX3_expectNewName cX3_expectNewName 3 (some (.array .byte))) rm_X3_expectNewName x base (fun v => some (.ref v)) [.ref z0, .ref z1] h n res 2 16 := by
  refine g_metX (cc := cX3_expectNewName) (nL := 3) (ret := (some (.array .byte))) (by decide) (Nat.le_of_ble_eq_true rfl) (fun p e s m below meth c ls X hnm hxt hl hI => ?_)
  have hl : lv_has ls 3 [(0, .ref z0), (1, .ref z1)] := hl
  have hx := X.1
  have hb := X.2.1
  have hcc : 0 + 2 ≤ 2 ∧ 0 + 16 ≤ 16 := ⟨Nat.le_refl _, Nat.le_refl _⟩
  unfold f_X3_expectNewName at hr
  refine lv_aload_n hx hb dX3_expectNewName_0 rfl (lv_at hl 0 rfl) ?_
  obtain ⟨_, ho1, hr⟩ := gB_i hr
  rcases gTX_i hr with ⟨v3, h5, n6, hc2, hr⟩ | ⟨q4, h7, n8, hc2, hr⟩
  · refine gXRet_a (g_xrunV X hI (w_X3_peekName hst hc2) ho1 rfl hl (lw_V q655 q657 qs2 q118 q658) rfl rfl hd_X3_peekName ⟨Nat.le_of_ble_eq_true rfl, Nat.le_of_ble_eq_true rfl⟩ (as := []) (rest := []) rfl rfl (Nat.le_of_ble_eq_true rfl) ⟨(show 0 + 1 ≤ 2 from by omega), (show 0 + 8 ≤ 16 from by omega)⟩ dX3_expectNewName_1) (fun H locs hI => ?_)
    refine lv_astore_n (lv' := [(2, .ref v3), (0, .ref z0), (1, .ref z1)]) hx hb dX3_expectNewName_4 rfl hl (by decide) rfl (fun ls hl => ?_)
    refine lv_aload_n hx hb dX3_expectNewName_5 rfl (lv_at hl 2 rfl) ?_
    refine lv_aload_n hx hb dX3_expectNewName_6 rfl (lv_at hl 0 rfl) ?_
    obtain ⟨_, ho9, hr⟩ := gB_i hr
    obtain ⟨v11, hc10, hr⟩ := gB_i hr
    refine gRun_i (g_runV X hI (w_X2_siblingNamed hc10) ho9 rfl hl (lw_V q660 q661 q662 q97 q663) rfl rfl hd_X2_siblingNamed ⟨Nat.le_of_ble_eq_true rfl, Nat.le_of_ble_eq_true rfl⟩ (as := [.ref v3]) (rest := []) rfl rfl (Nat.le_of_ble_eq_true rfl) ⟨(show (0 + 1) + 0 ≤ 2 from by omega), (show (0 + 8) + 0 ≤ 16 from by omega)⟩ dX3_expectNewName_7) (fun H locs hI => ?_)
    refine lv_iconst (v := (-1)) hx hb dX3_expectNewName_10 (by decide) ?_
    refine lv_icmp_eq (tgt := 20) hx hb dX3_expectNewName_11 (by decide) (fun c9 => ?_) (fun c9 => ?_)
    · replace hr := gIf_t c9 hr
      refine lv_aload_n hx hb dX3_expectNewName_20 rfl (lv_at hl 1 rfl) ?_
      obtain ⟨_, ho12, hr⟩ := gB_i hr
      obtain ⟨h14, hc13, hr⟩ := gB_i hr
      refine gRun_v (g_runV X hI (w_X3_advance hc13) ho12 rfl hl (lw_V q562 q563 q564 q118 q565) rfl rfl hd_X3_advance ⟨Nat.le_of_ble_eq_true rfl, Nat.le_of_ble_eq_true rfl⟩ (as := []) (rest := []) rfl rfl (Nat.le_of_ble_eq_true rfl) ⟨(show ((0 + 1) + 0) + 0 ≤ 2 from by omega), (show ((0 + 8) + 0) + 0 ≤ 16 from by omega)⟩ dX3_expectNewName_21) (fun H locs hI => ?_)
      refine lv_aload_n hx hb dX3_expectNewName_24 rfl (lv_at hl 0 rfl) ?_
      have hr := gS_i hr
      subst hr
      exact g_xaret X hI (Or.inr ⟨_, rfl⟩) (show (((0 + 1) + 0) + 0) ≤ 2 from by omega) (show (((0 + 8) + 0) + 0) ≤ 16 from by omega) dX3_expectNewName_25
    · replace hr := gIf_f c9 hr
      refine lv_aload_n hx hb dX3_expectNewName_14 rfl (lv_at hl 1 rfl) ?_
      refine lv_iconst (v := 3) hx hb dX3_expectNewName_15 (by decide) ?_
      obtain ⟨_, ho15, hr⟩ := gB_i hr
      obtain ⟨v17, h18, n19, hc16, hr⟩ := gT3_i hr
      refine gRun_a (g_runV X hI (w_X3_error hst hc16) ho15 rfl hl (lw_V q598 q599 q600 q118 q601) rfl rfl hd_X3_error ⟨Nat.le_of_ble_eq_true rfl, Nat.le_of_ble_eq_true rfl⟩ (as := [.int (3 : Int32)]) (rest := []) rfl rfl (Nat.le_of_ble_eq_true rfl) ⟨(show ((0 + 1) + 0) + 1 ≤ 2 from by omega), (show ((0 + 8) + 0) + 8 ≤ 16 from by omega)⟩ dX3_expectNewName_16) (fun H locs hI => ?_)
      obtain ⟨k20, hk21, hr⟩ := gB_i hr
      refine g_athrow X hI hk21 dX3_expectNewName_19 (fun hxc => ?_)
      have hr := gS_i hr
      subst hr
      exact g_xout X hI hxc hxt gPs_0 (show (((0 + 1) + 0) + 1) ≤ 2 from by omega) (show (((0 + 8) + 0) + 8) ≤ 16 from by omega)
  · refine gXThr (k := q4.1) (q := q4.2) (g_xrunV X hI (w_X3_peekName hst hc2) ho1 rfl hl (lw_V q655 q657 qs2 q118 q658) rfl rfl hd_X3_peekName ⟨Nat.le_of_ble_eq_true rfl, Nat.le_of_ble_eq_true rfl⟩ (as := []) (rest := []) rfl rfl (Nat.le_of_ble_eq_true rfl) ⟨(show 0 + 1 ≤ 2 from by omega), (show 0 + 8 ≤ 16 from by omega)⟩ dX3_expectNewName_1) (fun H locs hI hxc => ?_)
    have hr := gS_i hr
    subst hr
    exact g_xout X hI hxc hxt gPs_0 (show (0 + 1) ≤ 2 from by omega) (show (0 + 8) ≤ 16 from by omega)
abbrev rm_X2_cells : Room := { frames := 0, cells := 0, slots := 0, locals := 0 }
theorem hd_X2_cells : yX2_cells.cls = RX2 ∧ yX2_cells.cls ≠ "java/lang/invoke/MethodHandle" ∧ yX2_cells.cls ≠ "java/lang/invoke/VarHandle" ∧ (parseMethodDescriptor yX2_cells.desc).map (fun d => d.parameters.length) = some 0 := by decide +kernel
set_option maxHeartbeats 2000000 in
theorem w_X2_cells {l : Launch} {x : gV} {base : Nat} {z0 : Nat} {h : gH} {n : Nat} {res : Int32} (hr : f_X2_cells z0 h = some res) : gM l yX2_cells (ws_ yX2_cells cX2_cells 1 (some .int)) rm_X2_cells x base [.ref z0] h n (some (.int res)) h n 0 0 := by
  refine g_met (cc := cX2_cells) (nL := 1) (ret := (some .int)) (by decide) (Nat.le_of_ble_eq_true rfl) (fun p e s m below meth c ls X hnm hl hI => ?_)
  have hl : lv_has ls 1 [(0, .ref z0)] := hl
  have hx := X.1
  have hb := X.2.1
  unfold f_X2_cells at hr
  refine lv_aload_n hx hb dX2_cells_0 rfl (lv_at hl 0 rfl) ?_
  refine g_getA (C := RX2) (T := TX2) (N := 3) X hI in_X2 rfl 1 (by decide) q501 (fun _ h9 => h9) hr dX2_cells_1 (fun v1 hr => ?_)
  refine g_alen X hI (t := 0) rfl hr dX2_cells_4 (fun v2 hr => ?_)
  have hr := gS_i hr
  subst hr
  exact g_iret X hI rfl (Nat.le_refl _) (Nat.le_refl _) dX2_cells_5
abbrev rm_X5_init : Room := { frames := 1, cells := 1, slots := 24, locals := 64 }
theorem hd_X5_init : yX5_init.cls ≠ "java/lang/invoke/MethodHandle" ∧ yX5_init.cls ≠ "java/lang/invoke/VarHandle" ∧ (parseMethodDescriptor yX5_init.desc).map (fun d => d.parameters.length) = some 2 := by decide +kernel
set_option maxHeartbeats 2000000 in
theorem w_X5_init {l : Launch} {x : gV} {base : Nat} (hst : l.stackTraces = false) {z0 : Nat} {z1 : Nat} {z2 : Nat} {h : gH} {n : Nat} {res : gH × Nat} (hr : f_X5_init z0 z1 z2 h n = some res) : gM l yX5_init (ws_ yX5_init cX5_init 3 none) rm_X5_init x base [.ref z0, .ref z1, .ref z2] h n none res.1 res.2 1 24 := by
  refine g_met (cc := cX5_init) (nL := 3) (ret := none) (by decide) (Nat.le_of_ble_eq_true rfl) (fun p e s m below meth c ls X hnm hl hI => ?_)
  have hl : lv_has ls 3 [(0, .ref z0), (1, .ref z1), (2, .ref z2)] := hl
  have hx := X.1
  have hb := X.2.1
  have hcc : 0 + 1 ≤ 1 ∧ 0 + 24 ≤ 24 := ⟨Nat.le_refl _, Nat.le_refl _⟩
  unfold f_X5_init at hr
  refine lv_aload_n hx hb dX5_init_0 rfl (lv_at hl 0 rfl) ?_
  refine W.objInit hx hb X.2.2.2.2.1 (X.w q695) (X.w q140) (X.w q141) rfl (by rw [X.2.2.1]; exact hl.1) rfl dX5_init_1 (Nat.le_of_ble_eq_true rfl) (Nat.le_of_ble_eq_true rfl) ?_
  refine W.eq (g2 := F0 m 4 ls []) rfl ?_
  refine lv_aload_n hx hb dX5_init_4 rfl (lv_at hl 0 rfl) ?_
  refine lv_aload_n hx hb dX5_init_5 rfl (lv_at hl 1 rfl) ?_
  refine g_putF (C := RX5) (T := TX5) (N := 2) (v := .ref z1) (ty := (.array .byte)) X hI in_X5 tyX5 tyX5_ok nmX5 rfl 0 (by decide) q697 (fun _ h9 => h9) rfl hnm rfl (by decide +kernel) rfl rfl hr dX5_init_6 (fun h1 H locs hI hr => ?_)
  refine lv_aload_n hx hb dX5_init_9 rfl (lv_at hl 0 rfl) ?_
  refine lv_aload_n hx hb dX5_init_10 rfl (lv_at hl 2 rfl) ?_
  refine g_alen X hI (t := 0) rfl hr dX5_init_11 (fun v2 hr => ?_)
  refine g_newI (t := 0) (b := 24) (atype := .int) X hI q512 rfl rfl (by decide) (show 0 + 1 ≤ 1 from by omega) (show 0 + 24 ≤ 24 from by omega) hr dX5_init_12 (fun q3 h4 n5 H locs hI hr => ?_)
  refine g_putF (C := RX5) (T := TX5) (N := 2) (v := .ref q3) (ty := (.array .int)) X hI in_X5 tyX5 tyX5_ok nmX5 rfl 1 (by decide) q699 (fun _ h9 => h9) rfl hnm rfl (by decide +kernel) rfl rfl hr dX5_init_14 (fun h6 H locs hI hr => ?_)
  refine lv_aload_n hx hb dX5_init_17 rfl (lv_at hl 2 rfl) ?_
  refine lv_iconst (v := 0) hx hb dX5_init_18 (by decide) ?_
  refine lv_aload_n hx hb dX5_init_19 rfl (lv_at hl 0 rfl) ?_
  refine g_getA (C := RX5) (T := TX5) (N := 2) X hI in_X5 rfl 1 (by decide) q699 (fun _ h9 => h9) hr dX5_init_20 (fun v7 hr => ?_)
  refine lv_iconst (v := 0) hx hb dX5_init_23 (by decide) ?_
  refine lv_aload_n hx hb dX5_init_24 rfl (lv_at hl 2 rfl) ?_
  refine g_alen X hI (t := 0) rfl hr dX5_init_25 (fun v8 hr => ?_)
  refine g_acpy0 X hI hl q696 q286 q285 q112 (Nat.le_of_ble_eq_true rfl) (Nat.le_of_ble_eq_true rfl) hr dX5_init_26 (fun h9 H locs hI hr => ?_)
  have hr := gS_i hr
  subst hr
  exact g_vret X hI (show (0 + 1) ≤ 1 from by omega) (show (0 + 24) ≤ 24 from by omega) dX5_init_29
abbrev rm_X1_parseSetup : Room := { frames := 15, cells := 296, slots := 2604, locals := 466 }
theorem hd_X1_parseSetup : yX1_parseSetup.cls = RX1 ∧ yX1_parseSetup.cls ≠ "java/lang/invoke/MethodHandle" ∧ yX1_parseSetup.cls ≠ "java/lang/invoke/VarHandle" ∧ (parseMethodDescriptor yX1_parseSetup.desc).map (fun d => d.parameters.length) = some 1 := by decide +kernel
set_option maxHeartbeats 2000000 in
theorem w_X1_parseSetup_J98 {h : gH} {n : Nat} {r25 : gH → Nat → Option ((Nat ⊕ gX) × gH × Nat)} {z1 : Nat} {z2 : Nat} {b25 : Nat} {d25 : Nat} {z3 : Nat} {z4 : Nat} {res : (Nat ⊕ gX) × gH × Nat} (X : gXX x base RX1 cX1_parseSetup 6 (some (.object "CakeDivision$State")) p l s m args meth c) (hst : l.stackTraces = false) (hxt : c.exceptionTable.toList = tableOf []) (Hr25 : ∀ {h : gH} {n : Nat} {H : Heap} {locs : List Loc} {ls : Array Slot} {cells slots : Nat}, r25 h n = some res → gI x base s.heap h n H locs → lv_has ls 6 [(1, .ref z1), (2, .ref z2)] → (cells + b25 ≤ 296 ∧ slots + d25 ≤ 2604) → W p l e rm_X1_parseSetup s m args below meth c H locs cells slots (vx_MQ below (gXQ x base (fun v => some (.ref v)) res) (gXC x base res) args s 296 2604 (fun q => base ≤ q)) (F0 m 25 ls [])) {H : Heap} {locs : List Loc} {ls : Array Slot} {cells slots : Nat} (hr : f_X1_parseSetup_J98 x r25 z1 z2 z3 z4 h n = some res) (hI : gI x base s.heap h n H locs) (hl : lv_has ls 6 [(1, .ref z1), (2, .ref z2), (3, .ref z3), (4, .ref z4)]) (hcc : cells + (3 + b25) ≤ 296 ∧ slots + (34 + d25) ≤ 2604) : W p l e rm_X1_parseSetup s m args below meth c H locs cells slots (vx_MQ below (gXQ x base (fun v => some (.ref v)) res) (gXC x base res) args s 296 2604 (fun q => base ≤ q)) (F0 m 98 ls []) := by
  have hx := X.1
  have hb := X.2.1
  unfold f_X1_parseSetup_J98 at hr
  refine lv_aload_n hx hb dX1_parseSetup_98 rfl (lv_at hl 0 rfl) ?_
  obtain ⟨_, ho54, hr⟩ := gB_i hr
  rcases gTX_i hr with ⟨u9, h57, n58, hc55, hr⟩ | ⟨q56, h59, n60, hc55, hr⟩
  · refine gXRet_v (g_xrunV X hI (w_X3_expectSemicolon hst hc55) ho54 rfl hl (lw_V q636 q637 q638 q118 q639) rfl rfl hd_X3_expectSemicolon ⟨Nat.le_of_ble_eq_true rfl, Nat.le_of_ble_eq_true rfl⟩ (as := []) (rest := []) rfl rfl (Nat.le_of_ble_eq_true rfl) ⟨(show cells + 1 ≤ 296 from by omega), (show slots + 8 ≤ 2604 from by omega)⟩ dX1_parseSetup_99) (fun H locs hI => ?_)
    refine lv_aload_n hx hb dX1_parseSetup_102 rfl (lv_at hl 1 rfl) ?_
    refine g_getA (C := RX2) (T := TX2) (N := 3) X hI in_X2 rfl 0 (by decide) q500 (fun _ h9 => h9) hr dX1_parseSetup_103 (fun v61 hr => ?_)
    refine g_newO (C := RX5) (T := TX5) (N := 2) (ci := 1) (fs := [.null, .null]) X hI in_X5 tyX5 tyX5_ok q690 q691 q121 rfl (g_dflt2 rfl rfl) (show (cells + 1) + 1 ≤ 296 from by omega) (show (slots + 8) + 2 ≤ 2604 from by omega) hr dX1_parseSetup_106 (fun q62 h63 n64 H locs hI hr => ?_)
    refine lv_dup hx hb dX1_parseSetup_109 rfl ?_
    refine lv_aload_n hx hb dX1_parseSetup_110 rfl (lv_at hl 2 rfl) ?_
    refine lv_aload hx hb dX1_parseSetup_111 (lv_at hl 3 rfl) ?_
    obtain ⟨h66, n67, hc65, hr⟩ := gT2_i hr
    refine gRun_v (g_runI X hI (w_X5_init hst hc65) hl q694 q692 q693 q121 rfl rfl rfl hd_X5_init ⟨Nat.le_of_ble_eq_true rfl, Nat.le_of_ble_eq_true rfl⟩ (as := [.ref z3, .ref z4]) (rest := [.ref q62, .ref v61]) rfl rfl (Nat.le_of_ble_eq_true rfl) ⟨(show ((cells + 1) + 1) + 1 ≤ 296 from by omega), (show ((slots + 8) + 2) + 24 ≤ 2604 from by omega)⟩ dX1_parseSetup_113) (fun H locs hI => ?_)
    obtain ⟨_, ho68, hr⟩ := gB_i hr
    obtain ⟨v70, h71, hc69, hr⟩ := gT2_i hr
    refine gRun_i (g_runV X hI (w_J2_add hc69) ho68 rfl hl (lw_V q705 q706 q707 q100 q708) rfl rfl hd_J2_add ⟨Nat.le_of_ble_eq_true rfl, Nat.le_of_ble_eq_true rfl⟩ (as := [.ref q62]) (rest := []) rfl rfl (Nat.le_of_ble_eq_true rfl) ⟨(show (((cells + 1) + 1) + 1) + 0 ≤ 296 from by omega), (show (((slots + 8) + 2) + 24) + 0 ≤ 2604 from by omega)⟩ dX1_parseSetup_116) (fun H locs hI => ?_)
    refine lv_pop hx hb dX1_parseSetup_119 rfl ?_
    refine lv_aload_n hx hb dX1_parseSetup_120 rfl (lv_at hl 0 rfl) ?_
    refine g_getI (C := RX3) (T := TX3) (N := 5) X hI in_X3 rfl 0 (by decide) q567 (fun _ h9 => h9) hr dX1_parseSetup_121 (fun v72 hr => ?_)
    refine lv_if_ne (tgt := 25) hx hb dX1_parseSetup_124 (by decide) (fun c9 => ?_) (fun c9 => ?_)
    · replace hr := gIf_f c9 hr
      exact Hr25 hr hI (lv_sub hl [0, 1] rfl) (by omega)
    · replace hr := gIf_t c9 hr
      refine lv_aload_n hx hb dX1_parseSetup_127 rfl (lv_at hl 1 rfl) ?_
      have hr := gS_i hr
      subst hr
      exact g_xaret X hI (Or.inl ⟨_, rfl⟩) (show ((((cells + 1) + 1) + 1) + 0) ≤ 296 from by omega) (show ((((slots + 8) + 2) + 24) + 0) ≤ 2604 from by omega) dX1_parseSetup_128
  · refine gXThr (k := q56.1) (q := q56.2) (g_xrunV X hI (w_X3_expectSemicolon hst hc55) ho54 rfl hl (lw_V q636 q637 q638 q118 q639) rfl rfl hd_X3_expectSemicolon ⟨Nat.le_of_ble_eq_true rfl, Nat.le_of_ble_eq_true rfl⟩ (as := []) (rest := []) rfl rfl (Nat.le_of_ble_eq_true rfl) ⟨(show cells + 1 ≤ 296 from by omega), (show slots + 8 ≤ 2604 from by omega)⟩ dX1_parseSetup_99) (fun H locs hI hxc => ?_)
    have hr := gS_i hr
    subst hr
    exact g_xout X hI hxc hxt gPs_0 (show (cells + 1) ≤ 296 from by omega) (show (slots + 8) ≤ 2604 from by omega)
set_option maxHeartbeats 2000000 in
theorem w_X1_parseSetup_L72 {r25 : gH → Nat → Option ((Nat ⊕ gX) × gH × Nat)} {z1 : Nat} {z2 : Nat} {b25 : Nat} {d25 : Nat} {z3 : Nat} {z4 : Nat} {res : (Nat ⊕ gX) × gH × Nat} (X : gXX x base RX1 cX1_parseSetup 6 (some (.object "CakeDivision$State")) p l s m args meth c) (hst : l.stackTraces = false) (hxt : c.exceptionTable.toList = tableOf []) (Hr25 : ∀ {h : gH} {n : Nat} {H : Heap} {locs : List Loc} {ls : Array Slot} {cells slots : Nat}, r25 h n = some res → gI x base s.heap h n H locs → lv_has ls 6 [(1, .ref z1), (2, .ref z2)] → (cells + b25 ≤ 296 ∧ slots + d25 ≤ 2604) → W p l e rm_X1_parseSetup s m args below meth c H locs cells slots (vx_MQ below (gXQ x base (fun v => some (.ref v)) res) (gXC x base res) args s 296 2604 (fun q => base ≤ q)) (F0 m 25 ls [])) : ∀ (k : Nat) {z5 : Int32} {h : gH} {n : Nat} {H : Heap} {locs : List Loc} {ls : Array Slot} {cells slots : Nat}, gL3 (f_X1_parseSetup_L72 x r25 z1 z2 z3 z4) k z5 h n = some res → gI x base s.heap h n H locs → lv_has ls 6 [(1, .ref z1), (2, .ref z2), (3, .ref z3), (4, .ref z4), (5, .int z5)] → (cells + (k * 1 + (3 + b25)) ≤ 296 ∧ slots + (k * 8 + (34 + d25)) ≤ 2604) → W p l e rm_X1_parseSetup s m args below meth c H locs cells slots (vx_MQ below (gXQ x base (fun v => some (.ref v)) res) (gXC x base res) args s 296 2604 (fun q => base ≤ q)) (F0 m 72 ls []) := by
  have hx := X.1
  have hb := X.2.1
  intro k
  induction k with
  | zero =>
    intros
    rename_i hr _ _ _
    exact nomatch (show (none : Option _) = some _ from hr)
  | succ k ih =>
    intro z5 h n H locs ls cells slots hr hI hl hcc
    replace hr : f_X1_parseSetup_L72 x r25 z1 z2 z3 z4 (gL3 (f_X1_parseSetup_L72 x r25 z1 z2 z3 z4) k) z5 h n = some res := hr
    unfold f_X1_parseSetup_L72 at hr
    refine lv_iload hx hb dX1_parseSetup_72 (lv_at hl 4 rfl) ?_
    refine lv_aload hx hb dX1_parseSetup_74 (lv_at hl 3 rfl) ?_
    refine g_alen X hI (t := 0) rfl hr dX1_parseSetup_76 (fun v53 hr => ?_)
    refine lv_icmp_ge (tgt := 98) hx hb dX1_parseSetup_77 (by decide) (fun c9 => ?_) (fun c9 => ?_)
    · replace hr := gIf_t c9 hr
      exact w_X1_parseSetup_J98 X hst hxt Hr25 hr hI (lv_sub hl [0, 1, 2, 3] rfl) (by omega)
    · replace hr := gIf_f c9 hr
      refine lv_aload hx hb dX1_parseSetup_80 (lv_at hl 3 rfl) ?_
      refine lv_iload hx hb dX1_parseSetup_82 (lv_at hl 4 rfl) ?_
      refine lv_aload_n hx hb dX1_parseSetup_84 rfl (lv_at hl 0 rfl) ?_
      refine lv_iconst (v := 0) hx hb dX1_parseSetup_85 (by decide) ?_
      refine lv_bipush (v := 9) hx hb dX1_parseSetup_86 (by decide) ?_
      obtain ⟨_, ho73, hr⟩ := gB_i hr
      rcases gTX_i hr with ⟨v75, h77, n78, hc74, hr⟩ | ⟨q76, h79, n80, hc74, hr⟩
      · refine gXRet_i (g_xrunV X hI (w_X3_expectNumber hst hc74) ho73 rfl hl (lw_V q628 q629 q630 q118 q631) rfl rfl hd_X3_expectNumber ⟨Nat.le_of_ble_eq_true rfl, Nat.le_of_ble_eq_true rfl⟩ (as := [.int (0 : Int32), .int (9 : Int32)]) (rest := [.int z5, .ref z4]) rfl rfl (Nat.le_of_ble_eq_true rfl) ⟨(show cells + 1 ≤ 296 from by omega), (show slots + 8 ≤ 2604 from by omega)⟩ dX1_parseSetup_88) (fun H locs hI => ?_)
        refine g_iast X hI hr dX1_parseSetup_91 (fun h81 H locs hI hr => ?_)
        refine lv_iinc (v := (z5 + (1 : Int32))) (lv' := [(5, .int (z5 + (1 : Int32))), (1, .ref z1), (2, .ref z2), (3, .ref z3), (4, .ref z4)]) hx hb dX1_parseSetup_92 hl (k := 4) rfl (g_inc (by decide)) (by decide) rfl (fun ls hl => ?_)
        refine lv_goto (tgt := 72) hx hb dX1_parseSetup_95 (by decide) ?_
        exact ih hr hI (lv_sub hl [1, 2, 3, 4, 0] rfl) (by omega)
      · refine gXThr (k := q76.1) (q := q76.2) (g_xrunV X hI (w_X3_expectNumber hst hc74) ho73 rfl hl (lw_V q628 q629 q630 q118 q631) rfl rfl hd_X3_expectNumber ⟨Nat.le_of_ble_eq_true rfl, Nat.le_of_ble_eq_true rfl⟩ (as := [.int (0 : Int32), .int (9 : Int32)]) (rest := [.int z5, .ref z4]) rfl rfl (Nat.le_of_ble_eq_true rfl) ⟨(show cells + 1 ≤ 296 from by omega), (show slots + 8 ≤ 2604 from by omega)⟩ dX1_parseSetup_88) (fun H locs hI hxc => ?_)
        have hr := gS_i hr
        subst hr
        exact g_xout X hI hxc hxt gPs_0 (show (cells + 1) ≤ 296 from by omega) (show (slots + 8) ≤ 2604 from by omega)
set_option maxHeartbeats 2000000 in
theorem w_X1_parseSetup_J49 {h : gH} {n : Nat} {r25 : gH → Nat → Option ((Nat ⊕ gX) × gH × Nat)} {z1 : Nat} {z2 : Nat} {b25 : Nat} {d25 : Nat} {res : (Nat ⊕ gX) × gH × Nat} (X : gXX x base RX1 cX1_parseSetup 6 (some (.object "CakeDivision$State")) p l s m args meth c) (hst : l.stackTraces = false) (hxt : c.exceptionTable.toList = tableOf []) (Hr25 : ∀ {h : gH} {n : Nat} {H : Heap} {locs : List Loc} {ls : Array Slot} {cells slots : Nat}, r25 h n = some res → gI x base s.heap h n H locs → lv_has ls 6 [(1, .ref z1), (2, .ref z2)] → (cells + b25 ≤ 296 ∧ slots + d25 ≤ 2604) → W p l e rm_X1_parseSetup s m args below meth c H locs cells slots (vx_MQ below (gXQ x base (fun v => some (.ref v)) res) (gXC x base res) args s 296 2604 (fun q => base ≤ q)) (F0 m 25 ls [])) {H : Heap} {locs : List Loc} {ls : Array Slot} {cells slots : Nat} (hr : f_X1_parseSetup_J49 x r25 z1 z2 h n = some res) (hI : gI x base s.heap h n H locs) (hl : lv_has ls 6 [(1, .ref z1), (2, .ref z2)]) (hcc : cells + (32 + b25) ≤ 296 ∧ slots + (282 + d25) ≤ 2604) : W p l e rm_X1_parseSetup s m args below meth c H locs cells slots (vx_MQ below (gXQ x base (fun v => some (.ref v)) res) (gXC x base res) args s 296 2604 (fun q => base ≤ q)) (F0 m 49 ls []) := by
  have hx := X.1
  have hb := X.2.1
  unfold f_X1_parseSetup_J49 at hr
  refine lv_aload_n hx hb dX1_parseSetup_49 rfl (lv_at hl 0 rfl) ?_
  refine g_ldc X (i := 2) (tx := "sibling") (by decide +kernel) dX1_parseSetup_50 ?_
  obtain ⟨_, ho32, hr⟩ := gB_i hr
  rcases gTX_i hr with ⟨u9, h35, n36, hc33, hr⟩ | ⟨q34, h37, n38, hc33, hr⟩
  · refine gXRet_v (g_xrunV X hI (w_X3_expectWord hst hc33) ho32 rfl hl (lw_V q588 q589 q590 q118 q591) rfl rfl hd_X3_expectWord ⟨Nat.le_of_ble_eq_true rfl, Nat.le_of_ble_eq_true rfl⟩ (as := [.ref (x.2.2.1 2)]) (rest := []) rfl rfl (Nat.le_of_ble_eq_true rfl) ⟨(show cells + 1 ≤ 296 from by omega), (show slots + 8 ≤ 2604 from by omega)⟩ dX1_parseSetup_52) (fun H locs hI => ?_)
    refine lv_aload_n hx hb dX1_parseSetup_55 rfl (lv_at hl 0 rfl) ?_
    refine lv_aload_n hx hb dX1_parseSetup_56 rfl (lv_at hl 1 rfl) ?_
    obtain ⟨_, ho39, hr⟩ := gB_i hr
    rcases gTX_i hr with ⟨v41, h43, n44, hc40, hr⟩ | ⟨q42, h45, n46, hc40, hr⟩
    · refine gXRet_a (g_xrunV X hI (w_X3_expectNewName hst hc40) ho39 rfl hl (lw_V q651 q652 q653 q118 q654) rfl rfl hd_X3_expectNewName ⟨Nat.le_of_ble_eq_true rfl, Nat.le_of_ble_eq_true rfl⟩ (as := [.ref z2]) (rest := []) rfl rfl (Nat.le_of_ble_eq_true rfl) ⟨(show (cells + 1) + 2 ≤ 296 from by omega), (show (slots + 8) + 16 ≤ 2604 from by omega)⟩ dX1_parseSetup_57) (fun H locs hI => ?_)
      refine lv_astore_n (lv' := [(3, .ref v41), (1, .ref z1), (2, .ref z2)]) hx hb dX1_parseSetup_60 rfl hl (by decide) rfl (fun ls hl => ?_)
      refine lv_aload_n hx hb dX1_parseSetup_61 rfl (lv_at hl 2 rfl) ?_
      obtain ⟨_, ho47, hr⟩ := gB_i hr
      obtain ⟨v49, hc48, hr⟩ := gB_i hr
      refine gRun_i (g_runV X hI (w_X2_cells hc48) ho47 rfl hl (lw_V q686 q687 q688 q97 q689) rfl rfl hd_X2_cells ⟨Nat.le_of_ble_eq_true rfl, Nat.le_of_ble_eq_true rfl⟩ (as := []) (rest := []) rfl rfl (Nat.le_of_ble_eq_true rfl) ⟨(show ((cells + 1) + 2) + 0 ≤ 296 from by omega), (show ((slots + 8) + 16) + 0 ≤ 2604 from by omega)⟩ dX1_parseSetup_62) (fun H locs hI => ?_)
      refine g_newI (t := 0) (b := 24) (atype := .int) X hI q512 rfl rfl (by decide) (show (((cells + 1) + 2) + 0) + 1 ≤ 296 from by omega) (show (((slots + 8) + 16) + 0) + 24 ≤ 2604 from by omega) hr dX1_parseSetup_65 (fun q50 h51 n52 H locs hI hr => ?_)
      refine lv_astore (lv' := [(4, .ref q50), (3, .ref v41), (1, .ref z1), (2, .ref z2)]) hx hb dX1_parseSetup_67 hl (by decide) rfl (fun ls hl => ?_)
      refine lv_iconst (v := 0) hx hb dX1_parseSetup_69 (by decide) ?_
      refine lv_istore (lv' := [(5, .int (0 : Int32)), (4, .ref q50), (3, .ref v41), (1, .ref z1), (2, .ref z2)]) hx hb dX1_parseSetup_70 hl (by decide) rfl (fun ls hl => ?_)
      exact w_X1_parseSetup_L72 X hst hxt Hr25 25 hr hI (lv_sub hl [3, 4, 2, 1, 0] rfl) (by omega)
    · refine gXThr (k := q42.1) (q := q42.2) (g_xrunV X hI (w_X3_expectNewName hst hc40) ho39 rfl hl (lw_V q651 q652 q653 q118 q654) rfl rfl hd_X3_expectNewName ⟨Nat.le_of_ble_eq_true rfl, Nat.le_of_ble_eq_true rfl⟩ (as := [.ref z2]) (rest := []) rfl rfl (Nat.le_of_ble_eq_true rfl) ⟨(show (cells + 1) + 2 ≤ 296 from by omega), (show (slots + 8) + 16 ≤ 2604 from by omega)⟩ dX1_parseSetup_57) (fun H locs hI hxc => ?_)
      have hr := gS_i hr
      subst hr
      exact g_xout X hI hxc hxt gPs_0 (show ((cells + 1) + 2) ≤ 296 from by omega) (show ((slots + 8) + 16) ≤ 2604 from by omega)
  · refine gXThr (k := q34.1) (q := q34.2) (g_xrunV X hI (w_X3_expectWord hst hc33) ho32 rfl hl (lw_V q588 q589 q590 q118 q591) rfl rfl hd_X3_expectWord ⟨Nat.le_of_ble_eq_true rfl, Nat.le_of_ble_eq_true rfl⟩ (as := [.ref (x.2.2.1 2)]) (rest := []) rfl rfl (Nat.le_of_ble_eq_true rfl) ⟨(show cells + 1 ≤ 296 from by omega), (show slots + 8 ≤ 2604 from by omega)⟩ dX1_parseSetup_52) (fun H locs hI hxc => ?_)
    have hr := gS_i hr
    subst hr
    exact g_xout X hI hxc hxt gPs_0 (show (cells + 1) ≤ 296 from by omega) (show (slots + 8) ≤ 2604 from by omega)
set_option maxHeartbeats 2000000 in
theorem w_X1_parseSetup_L25 {z1 : Nat} {z2 : Nat} {res : (Nat ⊕ gX) × gH × Nat} (X : gXX x base RX1 cX1_parseSetup 6 (some (.object "CakeDivision$State")) p l s m args meth c) (hst : l.stackTraces = false) (hxt : c.exceptionTable.toList = tableOf []) : ∀ (k : Nat) {h : gH} {n : Nat} {H : Heap} {locs : List Loc} {ls : Array Slot} {cells slots : Nat}, gL2 (f_X1_parseSetup_L25 x z1 z2) k h n = some res → gI x base s.heap h n H locs → lv_has ls 6 [(1, .ref z1), (2, .ref z2)] → (cells + (k * 32 + (32)) ≤ 296 ∧ slots + (k * 282 + (282)) ≤ 2604) → W p l e rm_X1_parseSetup s m args below meth c H locs cells slots (vx_MQ below (gXQ x base (fun v => some (.ref v)) res) (gXC x base res) args s 296 2604 (fun q => base ≤ q)) (F0 m 25 ls []) := by
  have hx := X.1
  have hb := X.2.1
  intro k
  induction k with
  | zero =>
    intros
    rename_i hr _ _ _
    exact nomatch (show (none : Option _) = some _ from hr)
  | succ k ih =>
    intro h n H locs ls cells slots hr hI hl hcc
    replace hr : f_X1_parseSetup_L25 x z1 z2 (gL2 (f_X1_parseSetup_L25 x z1 z2) k) h n = some res := hr
    unfold f_X1_parseSetup_L25 at hr
    refine lv_aload_n hx hb dX1_parseSetup_25 rfl (lv_at hl 0 rfl) ?_
    refine g_ldc X (i := 2) (tx := "sibling") (by decide +kernel) dX1_parseSetup_26 ?_
    obtain ⟨_, ho29, hr⟩ := gB_i hr
    obtain ⟨v31, hc30, hr⟩ := gB_i hr
    refine gRun_i (g_runV X hI (w_X3_isWord hc30) ho29 rfl hl (lw_V q641 q593 q594 q118 q595) rfl rfl hd_X3_isWord ⟨Nat.le_of_ble_eq_true rfl, Nat.le_of_ble_eq_true rfl⟩ (as := [.ref (x.2.2.1 2)]) (rest := []) rfl rfl (Nat.le_of_ble_eq_true rfl) ⟨(show cells + 0 ≤ 296 from by omega), (show slots + 0 ≤ 2604 from by omega)⟩ dX1_parseSetup_28) (fun H locs hI => ?_)
    refine lv_if_eq (tgt := 49) hx hb dX1_parseSetup_31 (by decide) (fun c9 => ?_) (fun c9 => ?_)
    · replace hr := gIf_t c9 hr
      exact w_X1_parseSetup_J49 X hst hxt ih hr hI (lv_sub hl [0, 1] rfl) (by omega)
    · replace hr := gIf_f c9 hr
      refine lv_aload_n hx hb dX1_parseSetup_34 rfl (lv_at hl 1 rfl) ?_
      obtain ⟨_, ho82, hr⟩ := gB_i hr
      obtain ⟨v84, hc83, hr⟩ := gB_i hr
      refine gRun_i (g_runV X hI (w_X2_size hc83) ho82 rfl hl (lw_V q642 q643 q644 q97 q645) rfl rfl hd_X2_size ⟨Nat.le_of_ble_eq_true rfl, Nat.le_of_ble_eq_true rfl⟩ (as := []) (rest := []) rfl rfl (Nat.le_of_ble_eq_true rfl) ⟨(show (cells + 0) + 0 ≤ 296 from by omega), (show (slots + 0) + 0 ≤ 2604 from by omega)⟩ dX1_parseSetup_35) (fun H locs hI => ?_)
      refine lv_bipush (v := 6) hx hb dX1_parseSetup_38 (by decide) ?_
      refine lv_icmp_ne (tgt := 49) hx hb dX1_parseSetup_40 (by decide) (fun c9 => ?_) (fun c9 => ?_)
      · replace hr := gIf_f c9 hr
        exact w_X1_parseSetup_J49 X hst hxt ih hr hI (lv_sub hl [0, 1] rfl) (by omega)
      · replace hr := gIf_t c9 hr
        refine lv_aload_n hx hb dX1_parseSetup_43 rfl (lv_at hl 0 rfl) ?_
        refine lv_iconst (v := 4) hx hb dX1_parseSetup_44 (by decide) ?_
        obtain ⟨v86, h87, n88, hc85, hr⟩ := gT3_i hr
        refine gRun_a (g_runV X hI (w_X3_error hst hc85) ho29 rfl hl (lw_V q650 q599 q600 q118 q601) rfl rfl hd_X3_error ⟨Nat.le_of_ble_eq_true rfl, Nat.le_of_ble_eq_true rfl⟩ (as := [.int (4 : Int32)]) (rest := []) rfl rfl (Nat.le_of_ble_eq_true rfl) ⟨(show ((cells + 0) + 0) + 1 ≤ 296 from by omega), (show ((slots + 0) + 0) + 8 ≤ 2604 from by omega)⟩ dX1_parseSetup_45) (fun H locs hI => ?_)
        obtain ⟨k89, hk90, hr⟩ := gB_i hr
        refine g_athrow X hI hk90 dX1_parseSetup_48 (fun hxc => ?_)
        have hr := gS_i hr
        subst hr
        exact g_xout X hI hxc hxt gPs_0 (show (((cells + 0) + 0) + 1) ≤ 296 from by omega) (show (((slots + 0) + 0) + 8) ≤ 2604 from by omega)
set_option maxHeartbeats 2000000 in
theorem w_X1_parseSetup {l : Launch} {x : gV} {base : Nat} (hst : l.stackTraces = false) {z0 : Nat} {z1 : Nat} {h : gH} {n : Nat} {res : (Nat ⊕ gX) × gH × Nat} (hr : f_X1_parseSetup x z0 z1 h n = some res) : gMX l yX1_parseSetup (ws_ yX1_parseSetup cX1_parseSetup 6 (some (.object "CakeDivision$State"))) rm_X1_parseSetup x base (fun v => some (.ref v)) [.ref z0, .ref z1] h n res 296 2604 := by
  refine g_metX (cc := cX1_parseSetup) (nL := 6) (ret := (some (.object "CakeDivision$State"))) (by decide) (Nat.le_of_ble_eq_true rfl) (fun p e s m below meth c ls X hnm hxt hl hI => ?_)
  have hl : lv_has ls 6 [(0, .ref z0), (1, .ref z1)] := hl
  have hx := X.1
  have hb := X.2.1
  have hcc : 0 + 296 ≤ 296 ∧ 0 + 2604 ≤ 2604 := ⟨Nat.le_refl _, Nat.le_refl _⟩
  unfold f_X1_parseSetup at hr
  refine lv_aload_n hx hb dX1_parseSetup_0 rfl (lv_at hl 1 rfl) ?_
  refine g_ldc X (i := 1) (tx := "cake") (by decide +kernel) dX1_parseSetup_1 ?_
  obtain ⟨_, ho1, hr⟩ := gB_i hr
  rcases gTX_i hr with ⟨u9, h4, n5, hc2, hr⟩ | ⟨q3, h6, n7, hc2, hr⟩
  · refine gXRet_v (g_xrunV X hI (w_X3_expectWord hst hc2) ho1 rfl hl (lw_V q588 q589 q590 q118 q591) rfl rfl hd_X3_expectWord ⟨Nat.le_of_ble_eq_true rfl, Nat.le_of_ble_eq_true rfl⟩ (as := [.ref (x.2.2.1 1)]) (rest := []) rfl rfl (Nat.le_of_ble_eq_true rfl) ⟨(show 0 + 1 ≤ 296 from by omega), (show 0 + 8 ≤ 2604 from by omega)⟩ dX1_parseSetup_3) (fun H locs hI => ?_)
    refine g_newO (C := RX2) (T := TX2) (N := 3) (ci := 0) (fs := [.null, .null, .null]) X hI in_X2 tyX2 tyX2_ok q142 q143 q97 rfl (g_dflt3 rfl rfl rfl) (show (0 + 1) + 1 ≤ 296 from by omega) (show (0 + 8) + 3 ≤ 2604 from by omega) hr dX1_parseSetup_6 (fun q8 h9 n10 H locs hI hr => ?_)
    refine lv_dup hx hb dX1_parseSetup_9 rfl ?_
    refine lv_aload_n hx hb dX1_parseSetup_10 rfl (lv_at hl 1 rfl) ?_
    refine lv_iconst (v := 1) hx hb dX1_parseSetup_11 (by decide) ?_
    refine lv_bipush (v := 24) hx hb dX1_parseSetup_12 (by decide) ?_
    obtain ⟨_, ho11, hr⟩ := gB_i hr
    rcases gTX_i hr with ⟨v13, h15, n16, hc12, hr⟩ | ⟨q14, h17, n18, hc12, hr⟩
    · refine gXRet_i (g_xrunV X hI (w_X3_expectNumber hst hc12) ho11 rfl hl (lw_V q628 q629 q630 q118 q631) rfl rfl hd_X3_expectNumber ⟨Nat.le_of_ble_eq_true rfl, Nat.le_of_ble_eq_true rfl⟩ (as := [.int (1 : Int32), .int (24 : Int32)]) (rest := [.ref q8, .ref q8]) rfl rfl (Nat.le_of_ble_eq_true rfl) ⟨(show ((0 + 1) + 1) + 1 ≤ 296 from by omega), (show ((0 + 8) + 3) + 8 ≤ 2604 from by omega)⟩ dX1_parseSetup_14) (fun H locs hI => ?_)
      obtain ⟨h20, n21, hc19, hr⟩ := gT2_i hr
      refine gRun_v (g_runI X hI (w_X2_init hst hc19) hl q146 q144 q145 q97 rfl rfl rfl hd_X2_init ⟨Nat.le_of_ble_eq_true rfl, Nat.le_of_ble_eq_true rfl⟩ (as := [.int v13]) (rest := [.ref q8]) rfl rfl (Nat.le_of_ble_eq_true rfl) ⟨(show (((0 + 1) + 1) + 1) + 4 ≤ 296 from by omega), (show (((0 + 8) + 3) + 8) + 39 ≤ 2604 from by omega)⟩ dX1_parseSetup_17) (fun H locs hI => ?_)
      refine lv_astore_n (lv' := [(2, .ref q8), (0, .ref z0), (1, .ref z1)]) hx hb dX1_parseSetup_20 rfl hl (by decide) rfl (fun ls hl => ?_)
      refine lv_aload_n hx hb dX1_parseSetup_21 rfl (lv_at hl 2 rfl) ?_
      obtain ⟨_, ho22, hr⟩ := gB_i hr
      rcases gTX_i hr with ⟨u9, h25, n26, hc23, hr⟩ | ⟨q24, h27, n28, hc23, hr⟩
      · refine gXRet_v (g_xrunV X hI (w_X3_expectSemicolon hst hc23) ho22 rfl hl (lw_V q636 q637 q638 q118 q639) rfl rfl hd_X3_expectSemicolon ⟨Nat.le_of_ble_eq_true rfl, Nat.le_of_ble_eq_true rfl⟩ (as := []) (rest := []) rfl rfl (Nat.le_of_ble_eq_true rfl) ⟨(show ((((0 + 1) + 1) + 1) + 4) + 1 ≤ 296 from by omega), (show ((((0 + 8) + 3) + 8) + 39) + 8 ≤ 2604 from by omega)⟩ dX1_parseSetup_22) (fun H locs hI => ?_)
        exact w_X1_parseSetup_L25 X hst hxt 8 hr hI (lv_sub hl [2, 0] rfl) (by omega)
      · refine gXThr (k := q24.1) (q := q24.2) (g_xrunV X hI (w_X3_expectSemicolon hst hc23) ho22 rfl hl (lw_V q636 q637 q638 q118 q639) rfl rfl hd_X3_expectSemicolon ⟨Nat.le_of_ble_eq_true rfl, Nat.le_of_ble_eq_true rfl⟩ (as := []) (rest := []) rfl rfl (Nat.le_of_ble_eq_true rfl) ⟨(show ((((0 + 1) + 1) + 1) + 4) + 1 ≤ 296 from by omega), (show ((((0 + 8) + 3) + 8) + 39) + 8 ≤ 2604 from by omega)⟩ dX1_parseSetup_22) (fun H locs hI hxc => ?_)
        have hr := gS_i hr
        subst hr
        exact g_xout X hI hxc hxt gPs_0 (show (((((0 + 1) + 1) + 1) + 4) + 1) ≤ 296 from by omega) (show (((((0 + 8) + 3) + 8) + 39) + 8) ≤ 2604 from by omega)
    · refine gXThr (k := q14.1) (q := q14.2) (g_xrunV X hI (w_X3_expectNumber hst hc12) ho11 rfl hl (lw_V q628 q629 q630 q118 q631) rfl rfl hd_X3_expectNumber ⟨Nat.le_of_ble_eq_true rfl, Nat.le_of_ble_eq_true rfl⟩ (as := [.int (1 : Int32), .int (24 : Int32)]) (rest := [.ref q8, .ref q8]) rfl rfl (Nat.le_of_ble_eq_true rfl) ⟨(show ((0 + 1) + 1) + 1 ≤ 296 from by omega), (show ((0 + 8) + 3) + 8 ≤ 2604 from by omega)⟩ dX1_parseSetup_14) (fun H locs hI hxc => ?_)
      have hr := gS_i hr
      subst hr
      exact g_xout X hI hxc hxt gPs_0 (show (((0 + 1) + 1) + 1) ≤ 296 from by omega) (show (((0 + 8) + 3) + 8) ≤ 2604 from by omega)
  · refine gXThr (k := q3.1) (q := q3.2) (g_xrunV X hI (w_X3_expectWord hst hc2) ho1 rfl hl (lw_V q588 q589 q590 q118 q591) rfl rfl hd_X3_expectWord ⟨Nat.le_of_ble_eq_true rfl, Nat.le_of_ble_eq_true rfl⟩ (as := [.ref (x.2.2.1 1)]) (rest := []) rfl rfl (Nat.le_of_ble_eq_true rfl) ⟨(show 0 + 1 ≤ 296 from by omega), (show 0 + 8 ≤ 2604 from by omega)⟩ dX1_parseSetup_3) (fun H locs hI hxc => ?_)
    have hr := gS_i hr
    subst hr
    exact g_xout X hI hxc hxt gPs_0 (show (0 + 1) ≤ 296 from by omega) (show (0 + 8) ≤ 2604 from by omega)
abbrev rm_X1_init_2 : Room := { frames := 16, cells := 308, slots := 3633, locals := 491 }
theorem hd_X1_init_2 : yX1_init_2.cls ≠ "java/lang/invoke/MethodHandle" ∧ yX1_init_2.cls ≠ "java/lang/invoke/VarHandle" ∧ (parseMethodDescriptor yX1_init_2.desc).map (fun d => d.parameters.length) = some 1 := by decide +kernel
set_option maxHeartbeats 2000000 in
theorem w_X1_init_2_J104 {h : gH} {n : Nat} {z0 : Nat} {res : (Unit ⊕ gX) × gH × Nat} (X : gXX x base RX1 cX1_init_2 3 none p l s m args meth c) (hst : l.stackTraces = false) (hxt : c.exceptionTable.toList = tableOf [(104, 120, 123, 70)]) (hnm : meth.name = "<init>") {H : Heap} {locs : List Loc} {ls : Array Slot} {cells slots : Nat} (hr : f_X1_init_2_J104 x z0 h n = some res) (hI : gI x base s.heap h n H locs) (hl : lv_has ls 3 [(0, .ref z0)]) (hcc : cells + (297) ≤ 308 ∧ slots + (2609) ≤ 3633) : W p l e rm_X1_init_2 s m args below meth c H locs cells slots (vx_MQ below (gXQ x base (fun _ => none) res) (gXC x base res) args s 308 3633 (fun q => base ≤ q)) (F0 m 104 ls []) := by
  have hx := X.1
  have hb := X.2.1
  unfold f_X1_init_2_J104 at hr
  refine lv_aload_n hx hb dX1_init_2_104 rfl (lv_at hl 0 rfl) ?_
  refine lv_aload_n hx hb dX1_init_2_105 rfl (lv_at hl 0 rfl) ?_
  refine g_newO (C := RX3) (T := TX3) (N := 5) (ci := 2) (fs := [.int 0, .int 0, .int 0, .int 0, .null]) X hI in_X3 tyX3 tyX3_ok q556 q557 q118 rfl (g_dflt5 rfl rfl rfl rfl rfl) (show cells + 1 ≤ 308 from by omega) (show slots + 5 ≤ 3633 from by omega) hr dX1_init_2_106 (fun q34 h35 n36 H locs hI hr => ?_)
  refine lv_dup hx hb dX1_init_2_109 rfl ?_
  refine lv_aload_n hx hb dX1_init_2_110 rfl (lv_at hl 0 rfl) ?_
  obtain ⟨h38, hc37, hr⟩ := gB_i hr
  refine gRun_v (g_runIN (host := "CakeDivision") X hI (w_X3_init hc37) hl q560 (by decide +kernel) q559 q118 rfl rfl rfl hd_X3_init ⟨Nat.le_of_ble_eq_true rfl, Nat.le_of_ble_eq_true rfl⟩ (as := [.ref z0]) (rest := [.ref q34, .ref z0, .ref z0]) rfl rfl (Nat.le_of_ble_eq_true rfl) ⟨(show (cells + 1) + 0 ≤ 308 from by omega), (show (slots + 5) + 0 ≤ 3633 from by omega)⟩ dX1_init_2_111) (fun H locs hI => ?_)
  obtain ⟨_, ho39, hr⟩ := gB_i hr
  rcases gTX_i hr with ⟨v41, h43, n44, hc40, hr⟩ | ⟨q42, h45, n46, hc40, hr⟩
  · refine gXRet_a (g_xrunV X hI (w_X1_parseSetup hst hc40) ho39 rfl hl (lw_V q583 q585 qs1 q96 q586) rfl rfl hd_X1_parseSetup ⟨Nat.le_of_ble_eq_true rfl, Nat.le_of_ble_eq_true rfl⟩ (as := [.ref q34]) (rest := [.ref z0]) rfl rfl (Nat.le_of_ble_eq_true rfl) ⟨(show ((cells + 1) + 0) + 296 ≤ 308 from by omega), (show ((slots + 5) + 0) + 2604 ≤ 3633 from by omega)⟩ dX1_init_2_114) (fun H locs hI => ?_)
    refine g_put (C := RX1) (T := TX1) (N := 10) (v := .ref v41) (ty := (.object "CakeDivision$State")) X hI in_X1 tyX1 tyX1_ok nmX1 rfl 4 (by decide) q760 (fun _ h9 => h9) rfl (by decide +kernel) rfl rfl hr dX1_init_2_117 (fun h47 H locs hI hr => ?_)
    refine lv_goto (tgt := 132) hx hb dX1_init_2_120 (by decide) ?_
    refine lv_aload_n hx hb dX1_init_2_132 rfl (lv_at hl 0 rfl) ?_
    refine lv_iconst (v := 0) hx hb dX1_init_2_133 (by decide) ?_
    refine g_put (C := RX1) (T := TX1) (N := 10) (v := .int (0 : Int32)) (ty := .int) X hI in_X1 tyX1 tyX1_ok nmX1 rfl 1 (by decide) q757 (fun _ h9 => h9) rfl (by decide +kernel) rfl rfl hr dX1_init_2_134 (fun h48 H locs hI hr => ?_)
    have hr := gS_i hr
    subst hr
    exact g_xvret X hI (show (((cells + 1) + 0) + 296) ≤ 308 from by omega) (show (((slots + 5) + 0) + 2604) ≤ 3633 from by omega) dX1_init_2_137
  · refine gXThr (k := q42.1) (q := q42.2) (g_xrunV X hI (w_X1_parseSetup hst hc40) ho39 rfl hl (lw_V q583 q585 qs1 q96 q586) rfl rfl hd_X1_parseSetup ⟨Nat.le_of_ble_eq_true rfl, Nat.le_of_ble_eq_true rfl⟩ (as := [.ref q34]) (rest := [.ref z0]) rfl rfl (Nat.le_of_ble_eq_true rfl) ⟨(show ((cells + 1) + 0) + 296 ≤ 308 from by omega), (show ((slots + 5) + 0) + 2604 ≤ 3633 from by omega)⟩ dX1_init_2_114) (fun H locs hI hxc => ?_)
    by_cases c49 : q42.1 = 9
    · replace hr := gIf_t c49 hr
      refine g_catch (a := 104) (b := 120) (hp := 123) (ct := 70) X hxc hxt (pre := []) (suf := []) rfl gPs_0 (by decide) (by decide) (j := 9) c49 q138 ?_
      refine lv_astore_n (lv' := [(2, .ref q42.2), (0, .ref z0)]) hx hb dX1_init_2_123 rfl hl (by decide) rfl (fun ls hl => ?_)
      refine lv_aload_n hx hb dX1_init_2_124 rfl (lv_at hl 1 rfl) ?_
      refine lv_aload_n hx hb dX1_init_2_125 rfl (lv_at hl 0 rfl) ?_
      refine g_getI (C := RX9) (T := TX9) (N := 2) X hI in_X9 rfl 0 (by decide) q619 (fun _ h9 => h9) hr dX1_init_2_126 (fun v50 hr => ?_)
      refine g_put (C := RX1) (T := TX1) (N := 10) (v := .int v50) (ty := .int) X hI in_X1 tyX1 tyX1_ok nmX1 rfl 2 (by decide) q758 (fun _ h9 => h9) rfl (by decide +kernel) rfl rfl hr dX1_init_2_129 (fun h51 H locs hI hr => ?_)
      refine lv_aload_n hx hb dX1_init_2_132 rfl (lv_at hl 1 rfl) ?_
      refine lv_iconst (v := 0) hx hb dX1_init_2_133 (by decide) ?_
      refine g_put (C := RX1) (T := TX1) (N := 10) (v := .int (0 : Int32)) (ty := .int) X hI in_X1 tyX1 tyX1_ok nmX1 rfl 1 (by decide) q757 (fun _ h9 => h9) rfl (by decide +kernel) rfl rfl hr dX1_init_2_134 (fun h52 H locs hI hr => ?_)
      have hr := gS_i hr
      subst hr
      exact g_xvret X hI (show (((cells + 1) + 0) + 296) ≤ 308 from by omega) (show (((slots + 5) + 0) + 2604) ≤ 3633 from by omega) dX1_init_2_137
    replace hr := gIf_f c49 hr
    have hr := gS_i hr
    subst hr
    exact g_xout X hI hxc hxt (gPs_c (Or.inr ⟨by decide, 9, by decide, c49, q138⟩) gPs_0) (show (((cells + 1) + 0) + 296) ≤ 308 from by omega) (show (((slots + 5) + 0) + 2604) ≤ 3633 from by omega)
set_option maxHeartbeats 2000000 in
theorem w_X1_init_2_L68 {n : Nat} {z0 : Nat} {z1 : Nat} {res : (Unit ⊕ gX) × gH × Nat} (X : gXX x base RX1 cX1_init_2 3 none p l s m args meth c) (hst : l.stackTraces = false) (hxt : c.exceptionTable.toList = tableOf [(104, 120, 123, 70)]) (hnm : meth.name = "<init>") : ∀ (k : Nat) {z2 : Int32} {h : gH} {H : Heap} {locs : List Loc} {ls : Array Slot} {cells slots : Nat}, gL2 (f_X1_init_2_L68 x z0 z1 n) k z2 h = some res → gI x base s.heap h n H locs → lv_has ls 3 [(0, .ref z0), (1, .ref z1), (2, .int z2)] → (cells + (k * 0 + (297)) ≤ 308 ∧ slots + (k * 0 + (2609)) ≤ 3633) → W p l e rm_X1_init_2 s m args below meth c H locs cells slots (vx_MQ below (gXQ x base (fun _ => none) res) (gXC x base res) args s 308 3633 (fun q => base ≤ q)) (F0 m 68 ls []) := by
  have hx := X.1
  have hb := X.2.1
  intro k
  induction k with
  | zero =>
    intros
    rename_i hr _ _ _
    exact nomatch (show (none : Option _) = some _ from hr)
  | succ k ih =>
    intro z2 h H locs ls cells slots hr hI hl hcc
    replace hr : f_X1_init_2_L68 x z0 z1 n (gL2 (f_X1_init_2_L68 x z0 z1 n) k) z2 h = some res := hr
    unfold f_X1_init_2_L68 at hr
    refine lv_iload_n hx hb dX1_init_2_68 rfl (lv_at hl 2 rfl) ?_
    refine lv_aload_n hx hb dX1_init_2_69 rfl (lv_at hl 1 rfl) ?_
    obtain ⟨v33, hc32, hr⟩ := gB_i hr
    refine gRun_i (g_runLen X hI hl hc32 q531 (rest := [.int z2]) rfl (Nat.le_of_ble_eq_true rfl) ⟨Nat.le_of_ble_eq_true rfl, Nat.le_of_ble_eq_true rfl⟩ ⟨(show cells + 0 ≤ 308 from by omega), (show slots + 0 ≤ 3633 from by omega)⟩ dX1_init_2_70) (fun H locs hI => ?_)
    refine lv_icmp_ge (tgt := 104) hx hb dX1_init_2_73 (by decide) (fun c9 => ?_) (fun c9 => ?_)
    · replace hr := gIf_t c9 hr
      exact w_X1_init_2_J104 X hst hxt hnm hr hI (lv_sub hl [0] rfl) (by omega)
    · replace hr := gIf_f c9 hr
      refine lv_aload_n hx hb dX1_init_2_76 rfl (lv_at hl 0 rfl) ?_
      refine g_getA (C := RX1) (T := TX1) (N := 10) X hI in_X1 rfl 0 (by decide) q754 (fun _ h9 => h9) hr dX1_init_2_77 (fun v53 hr => ?_)
      refine lv_aload_n hx hb dX1_init_2_80 rfl (lv_at hl 0 rfl) ?_
      refine lv_dup hx hb dX1_init_2_81 rfl ?_
      refine g_getI (C := RX1) (T := TX1) (N := 10) X hI in_X1 rfl 1 (by decide) q757 (fun _ h9 => h9) hr dX1_init_2_82 (fun v54 hr => ?_)
      refine lv_dup_x1 hx hb dX1_init_2_85 rfl rfl ?_
      refine lv_iconst (v := 1) hx hb dX1_init_2_86 (by decide) ?_
      refine lv_iadd hx hb dX1_init_2_87 ?_
      refine g_put (C := RX1) (T := TX1) (N := 10) (v := .int (v54 + (1 : Int32))) (ty := .int) X hI in_X1 tyX1 tyX1_ok nmX1 rfl 1 (by decide) q757 (fun _ h9 => h9) rfl (by decide +kernel) rfl rfl hr dX1_init_2_88 (fun h55 H locs hI hr => ?_)
      refine lv_aload_n hx hb dX1_init_2_91 rfl (lv_at hl 1 rfl) ?_
      refine lv_iload_n hx hb dX1_init_2_92 rfl (lv_at hl 2 rfl) ?_
      obtain ⟨v57, hc56, hr⟩ := gB_i hr
      refine gRun_i (g_runAt X hI hl hc56 q532 (rest := [.int v54, .ref v53]) rfl (Nat.le_of_ble_eq_true rfl) ⟨Nat.le_of_ble_eq_true rfl, Nat.le_of_ble_eq_true rfl⟩ ⟨(show (cells + 0) + 0 ≤ 308 from by omega), (show (slots + 0) + 0 ≤ 3633 from by omega)⟩ dX1_init_2_93) (fun H locs hI => ?_)
      refine lv_i2b hx hb dX1_init_2_96 rfl ?_
      refine g_bast X hI hr dX1_init_2_97 (fun h58 H locs hI hr => ?_)
      refine lv_iinc (v := (z2 + (1 : Int32))) (lv' := [(2, .int (z2 + (1 : Int32))), (0, .ref z0), (1, .ref z1)]) hx hb dX1_init_2_98 hl (k := 2) rfl (g_inc (by decide)) (by decide) rfl (fun ls hl => ?_)
      refine lv_goto (tgt := 68) hx hb dX1_init_2_101 (by decide) ?_
      exact ih hr hI (lv_sub hl [1, 2, 0] rfl) (by omega)
set_option maxHeartbeats 2000000 in
theorem w_X1_init_2 {l : Launch} {x : gV} {base : Nat} (hst : l.stackTraces = false) {z0 : Nat} {z1 : Nat} {h : gH} {n : Nat} {res : (Unit ⊕ gX) × gH × Nat} (hr : f_X1_init_2 x z0 z1 h n = some res) : gMX l yX1_init_2 (wsW_ yX1_init_2 cX1_init_2 3 none [(104, 120, 123, 70)]) rm_X1_init_2 x base (fun _ => none) [.ref z0, .ref z1] h n res 308 3633 := by
  refine g_metW (cc := cX1_init_2) (nL := 3) (ret := none) (by decide) (Nat.le_of_ble_eq_true rfl) (fun p e s m below meth c ls X hnm hxt hl hI => ?_)
  have hl : lv_has ls 3 [(0, .ref z0), (1, .ref z1)] := hl
  have hx := X.1
  have hb := X.2.1
  have hcc : 0 + 308 ≤ 308 ∧ 0 + 3633 ≤ 3633 := ⟨Nat.le_refl _, Nat.le_refl _⟩
  unfold f_X1_init_2 at hr
  refine lv_aload_n hx hb dX1_init_2_0 rfl (lv_at hl 0 rfl) ?_
  refine W.objInit hx hb X.2.2.2.2.1 (X.w q139) (X.w q140) (X.w q141) rfl (by rw [X.2.2.1]; exact hl.1) rfl dX1_init_2_1 (Nat.le_of_ble_eq_true rfl) (Nat.le_of_ble_eq_true rfl) ?_
  refine W.eq (g2 := F0 m 4 ls []) rfl ?_
  refine lv_aload_n hx hb dX1_init_2_4 rfl (lv_at hl 0 rfl) ?_
  refine lv_sipush (v := 600) hx hb dX1_init_2_5 (by decide) ?_
  refine g_newI (t := 1) (b := 600) (atype := .byte) X hI q239 rfl rfl (by decide) (show 0 + 1 ≤ 308 from by omega) (show 0 + 600 ≤ 3633 from by omega) hr dX1_init_2_8 (fun q1 h2 n3 H locs hI hr => ?_)
  refine g_putF (C := RX1) (T := TX1) (N := 10) (v := .ref q1) (ty := (.array .byte)) X hI in_X1 tyX1 tyX1_ok nmX1 rfl 0 (by decide) q754 (fun _ h9 => h9) rfl hnm rfl (by decide +kernel) rfl rfl hr dX1_init_2_10 (fun h4 H locs hI hr => ?_)
  refine lv_aload_n hx hb dX1_init_2_13 rfl (lv_at hl 0 rfl) ?_
  refine lv_iconst (v := (-1)) hx hb dX1_init_2_14 (by decide) ?_
  refine g_put (C := RX1) (T := TX1) (N := 10) (v := .int (-1 : Int32)) (ty := .int) X hI in_X1 tyX1 tyX1_ok nmX1 rfl 3 (by decide) q759 (fun _ h9 => h9) rfl (by decide +kernel) rfl rfl hr dX1_init_2_15 (fun h5 H locs hI hr => ?_)
  refine lv_aload_n hx hb dX1_init_2_18 rfl (lv_at hl 0 rfl) ?_
  refine g_newO (C := RX2) (T := TX2) (N := 3) (ci := 0) (fs := [.null, .null, .null]) X hI in_X2 tyX2 tyX2_ok q142 q143 q97 rfl (g_dflt3 rfl rfl rfl) (show (0 + 1) + 1 ≤ 308 from by omega) (show (0 + 600) + 3 ≤ 3633 from by omega) hr dX1_init_2_19 (fun q6 h7 n8 H locs hI hr => ?_)
  refine lv_dup hx hb dX1_init_2_22 rfl ?_
  refine lv_iconst (v := 1) hx hb dX1_init_2_23 (by decide) ?_
  obtain ⟨h10, n11, hc9, hr⟩ := gT2_i hr
  refine gRun_v (g_runI X hI (w_X2_init hst hc9) hl q146 q144 q145 q97 rfl rfl rfl hd_X2_init ⟨Nat.le_of_ble_eq_true rfl, Nat.le_of_ble_eq_true rfl⟩ (as := [.int (1 : Int32)]) (rest := [.ref q6, .ref z0]) rfl rfl (Nat.le_of_ble_eq_true rfl) ⟨(show ((0 + 1) + 1) + 4 ≤ 308 from by omega), (show ((0 + 600) + 3) + 39 ≤ 3633 from by omega)⟩ dX1_init_2_24) (fun H locs hI => ?_)
  refine g_put (C := RX1) (T := TX1) (N := 10) (v := .ref q6) (ty := (.object "CakeDivision$State")) X hI in_X1 tyX1 tyX1_ok nmX1 rfl 4 (by decide) q760 (fun _ h9 => h9) rfl (by decide +kernel) rfl rfl hr dX1_init_2_27 (fun h12 H locs hI hr => ?_)
  refine lv_aload_n hx hb dX1_init_2_30 rfl (lv_at hl 0 rfl) ?_
  refine g_newO (C := RJ17) (T := TJ17) (N := 3) (ci := 8) (fs := [.null, .int 0, .int 0]) X hI in_J17 tyJ17 tyJ17_ok q513 q514 q117 rfl (g_dflt3 rfl rfl rfl) (show (((0 + 1) + 1) + 4) + 1 ≤ 308 from by omega) (show (((0 + 600) + 3) + 39) + 3 ≤ 3633 from by omega) hr dX1_init_2_31 (fun q13 h14 n15 H locs hI hr => ?_)
  refine lv_dup hx hb dX1_init_2_34 rfl ?_
  obtain ⟨h17, n18, hc16, hr⟩ := gT2_i hr
  refine gRun_v (g_runI X hI (w_J17_init hst hc16) hl q517 q515 q516 q117 rfl rfl rfl hd_J17_init ⟨Nat.le_of_ble_eq_true rfl, Nat.le_of_ble_eq_true rfl⟩ (as := []) (rest := [.ref q13, .ref z0]) rfl rfl (Nat.le_of_ble_eq_true rfl) ⟨(show ((((0 + 1) + 1) + 4) + 1) + 1 ≤ 308 from by omega), (show ((((0 + 600) + 3) + 39) + 3) + 17 ≤ 3633 from by omega)⟩ dX1_init_2_35) (fun H locs hI => ?_)
  refine g_putF (C := RX1) (T := TX1) (N := 10) (v := .ref q13) (ty := (.object "java/util/ArrayDeque")) X hI in_X1 tyX1 tyX1_ok nmX1 rfl 5 (by decide) q762 (fun _ h9 => h9) rfl hnm rfl (by decide +kernel) rfl rfl hr dX1_init_2_38 (fun h19 H locs hI hr => ?_)
  refine lv_aload_n hx hb dX1_init_2_41 rfl (lv_at hl 0 rfl) ?_
  refine lv_iconst (v := 2) hx hb dX1_init_2_42 (by decide) ?_
  refine g_newQ (t := 4) (b := 2) (C := "CakeDivision$State") X hI q142 (by decide) rfl (by decide) (show (((((0 + 1) + 1) + 4) + 1) + 1) + 1 ≤ 308 from by omega) (show (((((0 + 600) + 3) + 39) + 3) + 17) + 2 ≤ 3633 from by omega) hr dX1_init_2_43 (fun q20 h21 n22 H locs hI hr => ?_)
  refine g_putF (C := RX1) (T := TX1) (N := 10) (v := .ref q20) (ty := (.array (.object "CakeDivision$State"))) X hI in_X1 tyX1 tyX1_ok nmX1 rfl 6 (by decide) q763 (fun _ h9 => h9) rfl hnm rfl (by decide +kernel) rfl rfl hr dX1_init_2_46 (fun h23 H locs hI hr => ?_)
  refine lv_aload_n hx hb dX1_init_2_49 rfl (lv_at hl 0 rfl) ?_
  refine lv_bipush (v := 120) hx hb dX1_init_2_50 (by decide) ?_
  refine g_newI (t := 0) (b := 120) (atype := .int) X hI q512 rfl rfl (by decide) (show ((((((0 + 1) + 1) + 4) + 1) + 1) + 1) + 1 ≤ 308 from by omega) (show ((((((0 + 600) + 3) + 39) + 3) + 17) + 2) + 120 ≤ 3633 from by omega) hr dX1_init_2_52 (fun q24 h25 n26 H locs hI hr => ?_)
  refine g_putF (C := RX1) (T := TX1) (N := 10) (v := .ref q24) (ty := (.array .int)) X hI in_X1 tyX1 tyX1_ok nmX1 rfl 7 (by decide) q764 (fun _ h9 => h9) rfl hnm rfl (by decide +kernel) rfl rfl hr dX1_init_2_54 (fun h27 H locs hI hr => ?_)
  refine lv_aload_n hx hb dX1_init_2_57 rfl (lv_at hl 0 rfl) ?_
  refine lv_sipush (v := 240) hx hb dX1_init_2_58 (by decide) ?_
  refine g_newI (t := 1) (b := 240) (atype := .byte) X hI q239 rfl rfl (by decide) (show (((((((0 + 1) + 1) + 4) + 1) + 1) + 1) + 1) + 1 ≤ 308 from by omega) (show (((((((0 + 600) + 3) + 39) + 3) + 17) + 2) + 120) + 240 ≤ 3633 from by omega) hr dX1_init_2_61 (fun q28 h29 n30 H locs hI hr => ?_)
  refine g_putF (C := RX1) (T := TX1) (N := 10) (v := .ref q28) (ty := (.array .byte)) X hI in_X1 tyX1 tyX1_ok nmX1 rfl 8 (by decide) q765 (fun _ h9 => h9) rfl hnm rfl (by decide +kernel) rfl rfl hr dX1_init_2_63 (fun h31 H locs hI hr => ?_)
  refine lv_iconst (v := 0) hx hb dX1_init_2_66 (by decide) ?_
  refine lv_istore_n (lv' := [(2, .int (0 : Int32)), (0, .ref z0), (1, .ref z1)]) hx hb dX1_init_2_67 rfl hl (by decide) rfl (fun ls hl => ?_)
  exact w_X1_init_2_L68 X hst hxt hnm gN hr hI (lv_sub hl [1, 2, 0] rfl) (by omega)
abbrev rm_X1_init : Room := { frames := 17, cells := 308, slots := 3633, locals := 513 }
theorem hd_X1_init : yX1_init.cls ≠ "java/lang/invoke/MethodHandle" ∧ yX1_init.cls ≠ "java/lang/invoke/VarHandle" ∧ (parseMethodDescriptor yX1_init.desc).map (fun d => d.parameters.length) = some 0 := by decide +kernel
set_option maxHeartbeats 2000000 in
theorem w_X1_init {l : Launch} {x : gV} {base : Nat} (hst : l.stackTraces = false) {z0 : Nat} {h : gH} {n : Nat} {res : gH × Nat} (hr : f_X1_init x z0 h n = some res) : gM l yX1_init (ws_ yX1_init cX1_init 1 none) rm_X1_init x base [.ref z0] h n none res.1 res.2 308 3633 := by
  refine g_met (cc := cX1_init) (nL := 1) (ret := none) (by decide) (Nat.le_of_ble_eq_true rfl) (fun p e s m below meth c ls X hnm hl hI => ?_)
  have hl : lv_has ls 1 [(0, .ref z0)] := hl
  have hx := X.1
  have hb := X.2.1
  have hcc : 0 + 308 ≤ 308 ∧ 0 + 3633 ≤ 3633 := ⟨Nat.le_refl _, Nat.le_refl _⟩
  unfold f_X1_init at hr
  refine lv_aload_n hx hb dX1_init_0 rfl (lv_at hl 0 rfl) ?_
  refine g_ldc X (i := 0) (tx := "cake 8;sibling ann 1 2 3 4 4 3 2 1;sibling bob 9 0 0 0 0 0 0 9;sibling cid 1 1 1 1 1 1 1 1;") (by decide +kernel) dX1_init_1 ?_
  rcases gTX_i hr with ⟨u9, h3, n4, hc1, hr⟩ | ⟨q2, h5, n6, hc1, hr⟩
  · refine gXRet_v (g_wrunI X hI (w_X1_init_2 hst hc1) hl q137 q135 q136 q96 rfl rfl rfl hd_X1_init_2 ⟨Nat.le_of_ble_eq_true rfl, Nat.le_of_ble_eq_true rfl⟩ (as := [.ref (x.2.2.1 0)]) (rest := []) rfl rfl (Nat.le_of_ble_eq_true rfl) ⟨(show 0 + 308 ≤ 308 from by omega), (show 0 + 3633 ≤ 3633 from by omega)⟩ dX1_init_3) (fun H locs hI => ?_)
    have hr := gS_i hr
    subst hr
    exact g_vret X hI (show (0 + 308) ≤ 308 from by omega) (show (0 + 3633) ≤ 3633 from by omega) dX1_init_6
  · exact nomatch hr
abbrev rm_X1_errorCode : Room := { frames := 0, cells := 0, slots := 0, locals := 0 }
theorem hd_X1_errorCode : yX1_errorCode.cls = RX1 ∧ yX1_errorCode.cls ≠ "java/lang/invoke/MethodHandle" ∧ yX1_errorCode.cls ≠ "java/lang/invoke/VarHandle" ∧ (parseMethodDescriptor yX1_errorCode.desc).map (fun d => d.parameters.length) = some 0 := by decide +kernel
set_option maxHeartbeats 2000000 in
theorem w_X1_errorCode {l : Launch} {x : gV} {base : Nat} {z0 : Nat} {h : gH} {n : Nat} {res : Int32} (hr : f_X1_errorCode z0 h = some res) : gM l yX1_errorCode (ws_ yX1_errorCode cX1_errorCode 1 (some .int)) rm_X1_errorCode x base [.ref z0] h n (some (.int res)) h n 0 0 := by
  refine g_met (cc := cX1_errorCode) (nL := 1) (ret := (some .int)) (by decide) (Nat.le_of_ble_eq_true rfl) (fun p e s m below meth c ls X hnm hl hI => ?_)
  have hl : lv_has ls 1 [(0, .ref z0)] := hl
  have hx := X.1
  have hb := X.2.1
  unfold f_X1_errorCode at hr
  refine lv_aload_n hx hb dX1_errorCode_0 rfl (lv_at hl 0 rfl) ?_
  refine g_getI (C := RX1) (T := TX1) (N := 10) X hI in_X1 rfl 2 (by decide) q758 (fun _ h9 => h9) hr dX1_errorCode_1 (fun v1 hr => ?_)
  have hr := gS_i hr
  subst hr
  exact g_iret X hI rfl (Nat.le_refl _) (Nat.le_refl _) dX1_errorCode_4
abbrev rm_X1_errorPosition : Room := { frames := 0, cells := 0, slots := 0, locals := 0 }
theorem hd_X1_errorPosition : yX1_errorPosition.cls = RX1 ∧ yX1_errorPosition.cls ≠ "java/lang/invoke/MethodHandle" ∧ yX1_errorPosition.cls ≠ "java/lang/invoke/VarHandle" ∧ (parseMethodDescriptor yX1_errorPosition.desc).map (fun d => d.parameters.length) = some 0 := by decide +kernel
set_option maxHeartbeats 2000000 in
theorem w_X1_errorPosition {l : Launch} {x : gV} {base : Nat} {z0 : Nat} {h : gH} {n : Nat} {res : Int32} (hr : f_X1_errorPosition z0 h = some res) : gM l yX1_errorPosition (ws_ yX1_errorPosition cX1_errorPosition 1 (some .int)) rm_X1_errorPosition x base [.ref z0] h n (some (.int res)) h n 0 0 := by
  refine g_met (cc := cX1_errorPosition) (nL := 1) (ret := (some .int)) (by decide) (Nat.le_of_ble_eq_true rfl) (fun p e s m below meth c ls X hnm hl hI => ?_)
  have hl : lv_has ls 1 [(0, .ref z0)] := hl
  have hx := X.1
  have hb := X.2.1
  unfold f_X1_errorPosition at hr
  refine lv_aload_n hx hb dX1_errorPosition_0 rfl (lv_at hl 0 rfl) ?_
  refine g_getI (C := RX1) (T := TX1) (N := 10) X hI in_X1 rfl 3 (by decide) q759 (fun _ h9 => h9) hr dX1_errorPosition_1 (fun v1 hr => ?_)
  have hr := gS_i hr
  subst hr
  exact g_iret X hI rfl (Nat.le_refl _) (Nat.le_refl _) dX1_errorPosition_4
abbrev rm_X1_cellCount : Room := { frames := 1, cells := 0, slots := 0, locals := 20 }
theorem hd_X1_cellCount : yX1_cellCount.cls = RX1 ∧ yX1_cellCount.cls ≠ "java/lang/invoke/MethodHandle" ∧ yX1_cellCount.cls ≠ "java/lang/invoke/VarHandle" ∧ (parseMethodDescriptor yX1_cellCount.desc).map (fun d => d.parameters.length) = some 0 := by decide +kernel
set_option maxHeartbeats 2000000 in
theorem w_X1_cellCount {l : Launch} {x : gV} {base : Nat} {z0 : Nat} {h : gH} {n : Nat} {res : Int32} (hr : f_X1_cellCount z0 h = some res) : gM l yX1_cellCount (ws_ yX1_cellCount cX1_cellCount 1 (some .int)) rm_X1_cellCount x base [.ref z0] h n (some (.int res)) h n 0 0 := by
  refine g_met (cc := cX1_cellCount) (nL := 1) (ret := (some .int)) (by decide) (Nat.le_of_ble_eq_true rfl) (fun p e s m below meth c ls X hnm hl hI => ?_)
  have hl : lv_has ls 1 [(0, .ref z0)] := hl
  have hx := X.1
  have hb := X.2.1
  unfold f_X1_cellCount at hr
  refine lv_aload_n hx hb dX1_cellCount_0 rfl (lv_at hl 0 rfl) ?_
  refine g_getA (C := RX1) (T := TX1) (N := 10) X hI in_X1 rfl 4 (by decide) q760 (fun _ h9 => h9) hr dX1_cellCount_1 (fun v1 hr => ?_)
  obtain ⟨_, ho2, hr⟩ := gB_i hr
  obtain ⟨v4, hc3, hr⟩ := gB_i hr
  refine gRun_i (g_runV X hI (w_X2_cells hc3) ho2 rfl hl (lw_V q686 q687 q688 q97 q689) rfl rfl hd_X2_cells ⟨Nat.le_of_ble_eq_true rfl, Nat.le_of_ble_eq_true rfl⟩ (as := []) (rest := []) rfl rfl (Nat.le_of_ble_eq_true rfl) ⟨(Nat.le_refl _), (Nat.le_refl _)⟩ dX1_cellCount_4) (fun H locs hI => ?_)
  have hr := gS_i hr
  subst hr
  exact g_iret X hI rfl (Nat.le_refl _) (Nat.le_refl _) dX1_cellCount_7
abbrev rm_X1_siblingCount : Room := { frames := 2, cells := 0, slots := 0, locals := 40 }
theorem hd_X1_siblingCount : yX1_siblingCount.cls = RX1 ∧ yX1_siblingCount.cls ≠ "java/lang/invoke/MethodHandle" ∧ yX1_siblingCount.cls ≠ "java/lang/invoke/VarHandle" ∧ (parseMethodDescriptor yX1_siblingCount.desc).map (fun d => d.parameters.length) = some 0 := by decide +kernel
set_option maxHeartbeats 2000000 in
theorem w_X1_siblingCount {l : Launch} {x : gV} {base : Nat} {z0 : Nat} {h : gH} {n : Nat} {res : Int32} (hr : f_X1_siblingCount z0 h = some res) : gM l yX1_siblingCount (ws_ yX1_siblingCount cX1_siblingCount 1 (some .int)) rm_X1_siblingCount x base [.ref z0] h n (some (.int res)) h n 0 0 := by
  refine g_met (cc := cX1_siblingCount) (nL := 1) (ret := (some .int)) (by decide) (Nat.le_of_ble_eq_true rfl) (fun p e s m below meth c ls X hnm hl hI => ?_)
  have hl : lv_has ls 1 [(0, .ref z0)] := hl
  have hx := X.1
  have hb := X.2.1
  unfold f_X1_siblingCount at hr
  refine lv_aload_n hx hb dX1_siblingCount_0 rfl (lv_at hl 0 rfl) ?_
  refine g_getA (C := RX1) (T := TX1) (N := 10) X hI in_X1 rfl 4 (by decide) q760 (fun _ h9 => h9) hr dX1_siblingCount_1 (fun v1 hr => ?_)
  obtain ⟨_, ho2, hr⟩ := gB_i hr
  obtain ⟨v4, hc3, hr⟩ := gB_i hr
  refine gRun_i (g_runV X hI (w_X2_size hc3) ho2 rfl hl (lw_V q642 q643 q644 q97 q645) rfl rfl hd_X2_size ⟨Nat.le_of_ble_eq_true rfl, Nat.le_of_ble_eq_true rfl⟩ (as := []) (rest := []) rfl rfl (Nat.le_of_ble_eq_true rfl) ⟨(Nat.le_refl _), (Nat.le_refl _)⟩ dX1_siblingCount_4) (fun H locs hI => ?_)
  have hr := gS_i hr
  subst hr
  exact g_iret X hI rfl (Nat.le_refl _) (Nat.le_refl _) dX1_siblingCount_7
abbrev rm_X2_count : Room := { frames := 1, cells := 0, slots := 0, locals := 20 }
theorem hd_X2_count : yX2_count.cls = RX2 ∧ yX2_count.cls ≠ "java/lang/invoke/MethodHandle" ∧ yX2_count.cls ≠ "java/lang/invoke/VarHandle" ∧ (parseMethodDescriptor yX2_count.desc).map (fun d => d.parameters.length) = some 1 := by decide +kernel
set_option maxHeartbeats 2000000 in
theorem w_X2_count_L4 {h : gH} {n : Nat} {z0 : Nat} {z1 : Int32} {res : Int32} (X : gXX x base RX2 cX2_count 4 (some .int) p l s m args meth c) : ∀ (k : Nat) {z2 : Int32} {z3 : Int32} {H : Heap} {locs : List Loc} {ls : Array Slot}, gL2 (f_X2_count_L4 z0 z1 h) k z2 z3 = some res → gI x base s.heap h n H locs → lv_has ls 4 [(0, .ref z0), (1, .int z1), (2, .int z2), (3, .int z3)] → W p l e rm_X2_count s m args below meth c H locs 0 0 (MQ below (gQ x base (some (.int res)) h n) args s 0 0 (fun q => base ≤ q)) (F0 m 4 ls []) := by
  have hx := X.1
  have hb := X.2.1
  intro k
  induction k with
  | zero =>
    intros
    rename_i hr _ _
    exact nomatch (show (none : Option _) = some _ from hr)
  | succ k ih =>
    intro z2 z3 H locs ls hr hI hl
    replace hr : f_X2_count_L4 z0 z1 h (gL2 (f_X2_count_L4 z0 z1 h) k) z2 z3 = some res := hr
    unfold f_X2_count_L4 at hr
    refine lv_iload_n hx hb dX2_count_4 rfl (lv_at hl 3 rfl) ?_
    refine lv_aload_n hx hb dX2_count_5 rfl (lv_at hl 0 rfl) ?_
    obtain ⟨_, ho1, hr⟩ := gB_i hr
    obtain ⟨v3, hc2, hr⟩ := gB_i hr
    refine gRun_i (g_runV X hI (w_X2_cells hc2) ho1 rfl hl (lw_V q812 q687 q688 q97 q689) rfl rfl hd_X2_cells ⟨Nat.le_of_ble_eq_true rfl, Nat.le_of_ble_eq_true rfl⟩ (as := []) (rest := [.int z3]) rfl rfl (Nat.le_of_ble_eq_true rfl) ⟨(Nat.le_refl _), (Nat.le_refl _)⟩ dX2_count_6) (fun H locs hI => ?_)
    refine lv_icmp_ge (tgt := 36) hx hb dX2_count_9 (by decide) (fun c9 => ?_) (fun c9 => ?_)
    · replace hr := gIf_t c9 hr
      refine lv_iload_n hx hb dX2_count_36 rfl (lv_at hl 2 rfl) ?_
      have hr := gS_i hr
      subst hr
      exact g_iret X hI rfl (Nat.le_refl _) (Nat.le_refl _) dX2_count_37
    · replace hr := gIf_f c9 hr
      refine lv_iload_n hx hb dX2_count_12 rfl (lv_at hl 2 rfl) ?_
      refine lv_aload_n hx hb dX2_count_13 rfl (lv_at hl 0 rfl) ?_
      refine g_getA (C := RX2) (T := TX2) (N := 3) X hI in_X2 rfl 1 (by decide) q501 (fun _ h9 => h9) hr dX2_count_14 (fun v4 hr => ?_)
      refine lv_iload_n hx hb dX2_count_17 rfl (lv_at hl 3 rfl) ?_
      refine g_iald X hI hr dX2_count_18 (fun v5 hr => ?_)
      refine lv_iload_n hx hb dX2_count_19 rfl (lv_at hl 1 rfl) ?_
      refine lv_icmp_ne (tgt := 27) hx hb dX2_count_20 (by decide) (fun c9 => ?_) (fun c9 => ?_)
      · replace hr := gIf_f c9 hr
        refine lv_iconst (v := 0) hx hb dX2_count_27 (by decide) ?_
        refine lv_iadd hx hb dX2_count_28 ?_
        refine lv_istore_n (lv' := [(2, .int (z2 + (0 : Int32))), (0, .ref z0), (1, .int z1), (3, .int z3)]) hx hb dX2_count_29 rfl hl (by decide) rfl (fun ls hl => ?_)
        refine lv_iinc (v := (z3 + (1 : Int32))) (lv' := [(3, .int (z3 + (1 : Int32))), (2, .int (z2 + (0 : Int32))), (0, .ref z0), (1, .int z1)]) hx hb dX2_count_30 hl (k := 3) rfl (g_inc (by decide)) (by decide) rfl (fun ls hl => ?_)
        refine lv_goto (tgt := 4) hx hb dX2_count_33 (by decide) ?_
        exact ih hr hI (lv_sub hl [2, 3, 1, 0] rfl)
      · replace hr := gIf_t c9 hr
        refine lv_iconst (v := 1) hx hb dX2_count_23 (by decide) ?_
        refine lv_goto (tgt := 28) hx hb dX2_count_24 (by decide) ?_
        refine lv_iadd hx hb dX2_count_28 ?_
        refine lv_istore_n (lv' := [(2, .int (z2 + (1 : Int32))), (0, .ref z0), (1, .int z1), (3, .int z3)]) hx hb dX2_count_29 rfl hl (by decide) rfl (fun ls hl => ?_)
        refine lv_iinc (v := (z3 + (1 : Int32))) (lv' := [(3, .int (z3 + (1 : Int32))), (2, .int (z2 + (1 : Int32))), (0, .ref z0), (1, .int z1)]) hx hb dX2_count_30 hl (k := 3) rfl (g_inc (by decide)) (by decide) rfl (fun ls hl => ?_)
        refine lv_goto (tgt := 4) hx hb dX2_count_33 (by decide) ?_
        exact ih hr hI (lv_sub hl [2, 3, 1, 0] rfl)
set_option maxHeartbeats 2000000 in
theorem w_X2_count {l : Launch} {x : gV} {base : Nat} {z0 : Nat} {z1 : Int32} {h : gH} {n : Nat} {res : Int32} (hr : f_X2_count z0 z1 h = some res) : gM l yX2_count (ws_ yX2_count cX2_count 4 (some .int)) rm_X2_count x base [.ref z0, .int z1] h n (some (.int res)) h n 0 0 := by
  refine g_met (cc := cX2_count) (nL := 4) (ret := (some .int)) (by decide) (Nat.le_of_ble_eq_true rfl) (fun p e s m below meth c ls X hnm hl hI => ?_)
  have hl : lv_has ls 4 [(0, .ref z0), (1, .int z1)] := hl
  have hx := X.1
  have hb := X.2.1
  unfold f_X2_count at hr
  refine lv_iconst (v := 0) hx hb dX2_count_0 (by decide) ?_
  refine lv_istore_n (lv' := [(2, .int (0 : Int32)), (0, .ref z0), (1, .int z1)]) hx hb dX2_count_1 rfl hl (by decide) rfl (fun ls hl => ?_)
  refine lv_iconst (v := 0) hx hb dX2_count_2 (by decide) ?_
  refine lv_istore_n (lv' := [(3, .int (0 : Int32)), (2, .int (0 : Int32)), (0, .ref z0), (1, .int z1)]) hx hb dX2_count_3 rfl hl (by decide) rfl (fun ls hl => ?_)
  exact w_X2_count_L4 X gN hr hI (lv_sub hl [2, 3, 1, 0] rfl)
abbrev rm_X1_freeCount : Room := { frames := 2, cells := 0, slots := 0, locals := 43 }
theorem hd_X1_freeCount : yX1_freeCount.cls = RX1 ∧ yX1_freeCount.cls ≠ "java/lang/invoke/MethodHandle" ∧ yX1_freeCount.cls ≠ "java/lang/invoke/VarHandle" ∧ (parseMethodDescriptor yX1_freeCount.desc).map (fun d => d.parameters.length) = some 0 := by decide +kernel
set_option maxHeartbeats 2000000 in
theorem w_X1_freeCount {l : Launch} {x : gV} {base : Nat} {z0 : Nat} {h : gH} {n : Nat} {res : Int32} (hr : f_X1_freeCount z0 h = some res) : gM l yX1_freeCount (ws_ yX1_freeCount cX1_freeCount 1 (some .int)) rm_X1_freeCount x base [.ref z0] h n (some (.int res)) h n 0 0 := by
  refine g_met (cc := cX1_freeCount) (nL := 1) (ret := (some .int)) (by decide) (Nat.le_of_ble_eq_true rfl) (fun p e s m below meth c ls X hnm hl hI => ?_)
  have hl : lv_has ls 1 [(0, .ref z0)] := hl
  have hx := X.1
  have hb := X.2.1
  unfold f_X1_freeCount at hr
  refine lv_aload_n hx hb dX1_freeCount_0 rfl (lv_at hl 0 rfl) ?_
  refine g_getA (C := RX1) (T := TX1) (N := 10) X hI in_X1 rfl 4 (by decide) q760 (fun _ h9 => h9) hr dX1_freeCount_1 (fun v1 hr => ?_)
  refine lv_iconst (v := (-1)) hx hb dX1_freeCount_4 (by decide) ?_
  obtain ⟨_, ho2, hr⟩ := gB_i hr
  obtain ⟨v4, hc3, hr⟩ := gB_i hr
  refine gRun_i (g_runV X hI (w_X2_count hc3) ho2 rfl hl (lw_V q808 q809 q810 q97 q811) rfl rfl hd_X2_count ⟨Nat.le_of_ble_eq_true rfl, Nat.le_of_ble_eq_true rfl⟩ (as := [.int (-1 : Int32)]) (rest := []) rfl rfl (Nat.le_of_ble_eq_true rfl) ⟨(Nat.le_refl _), (Nat.le_refl _)⟩ dX1_freeCount_5) (fun H locs hI => ?_)
  have hr := gS_i hr
  subst hr
  exact g_iret X hI rfl (Nat.le_refl _) (Nat.le_refl _) dX1_freeCount_8
abbrev rm_X5_value : Room := { frames := 0, cells := 0, slots := 0, locals := 0 }
theorem hd_X5_value : yX5_value.cls = RX5 ∧ yX5_value.cls ≠ "java/lang/invoke/MethodHandle" ∧ yX5_value.cls ≠ "java/lang/invoke/VarHandle" ∧ (parseMethodDescriptor yX5_value.desc).map (fun d => d.parameters.length) = some 1 := by decide +kernel
set_option maxHeartbeats 2000000 in
theorem w_X5_value {l : Launch} {x : gV} {base : Nat} {z0 : Nat} {z1 : Int32} {h : gH} {n : Nat} {res : Int32} (hr : f_X5_value z0 z1 h = some res) : gM l yX5_value (ws_ yX5_value cX5_value 2 (some .int)) rm_X5_value x base [.ref z0, .int z1] h n (some (.int res)) h n 0 0 := by
  refine g_met (cc := cX5_value) (nL := 2) (ret := (some .int)) (by decide) (Nat.le_of_ble_eq_true rfl) (fun p e s m below meth c ls X hnm hl hI => ?_)
  have hl : lv_has ls 2 [(0, .ref z0), (1, .int z1)] := hl
  have hx := X.1
  have hb := X.2.1
  unfold f_X5_value at hr
  refine lv_aload_n hx hb dX5_value_0 rfl (lv_at hl 0 rfl) ?_
  refine g_getA (C := RX5) (T := TX5) (N := 2) X hI in_X5 rfl 1 (by decide) q699 (fun _ h9 => h9) hr dX5_value_1 (fun v1 hr => ?_)
  refine lv_iload_n hx hb dX5_value_4 rfl (lv_at hl 1 rfl) ?_
  refine g_iald X hI hr dX5_value_5 (fun v2 hr => ?_)
  have hr := gS_i hr
  subst hr
  exact g_iret X hI rfl (Nat.le_refl _) (Nat.le_refl _) dX5_value_6
abbrev rm_X2_worthOfShare : Room := { frames := 4, cells := 0, slots := 0, locals := 85 }
theorem hd_X2_worthOfShare : yX2_worthOfShare.cls = RX2 ∧ yX2_worthOfShare.cls ≠ "java/lang/invoke/MethodHandle" ∧ yX2_worthOfShare.cls ≠ "java/lang/invoke/VarHandle" ∧ (parseMethodDescriptor yX2_worthOfShare.desc).map (fun d => d.parameters.length) = some 2 := by decide +kernel
set_option maxHeartbeats 2000000 in
theorem w_X2_worthOfShare_L5 {h : gH} {n : Nat} {z0 : Nat} {z1 : Int32} {z2 : Int32} {res : Int32} (X : gXX x base RX2 cX2_worthOfShare 5 (some .int) p l s m args meth c) : ∀ (k : Nat) {z3 : Int32} {z4 : Int32} {H : Heap} {locs : List Loc} {ls : Array Slot}, gL2 (f_X2_worthOfShare_L5 z0 z1 z2 h) k z3 z4 = some res → gI x base s.heap h n H locs → lv_has ls 5 [(0, .ref z0), (1, .int z1), (2, .int z2), (3, .int z3), (4, .int z4)] → W p l e rm_X2_worthOfShare s m args below meth c H locs 0 0 (MQ below (gQ x base (some (.int res)) h n) args s 0 0 (fun q => base ≤ q)) (F0 m 5 ls []) := by
  have hx := X.1
  have hb := X.2.1
  intro k
  induction k with
  | zero =>
    intros
    rename_i hr _ _
    exact nomatch (show (none : Option _) = some _ from hr)
  | succ k ih =>
    intro z3 z4 H locs ls hr hI hl
    replace hr : f_X2_worthOfShare_L5 z0 z1 z2 h (gL2 (f_X2_worthOfShare_L5 z0 z1 z2 h) k) z3 z4 = some res := hr
    unfold f_X2_worthOfShare_L5 at hr
    refine lv_iload hx hb dX2_worthOfShare_5 (lv_at hl 4 rfl) ?_
    refine lv_aload_n hx hb dX2_worthOfShare_7 rfl (lv_at hl 0 rfl) ?_
    obtain ⟨_, ho1, hr⟩ := gB_i hr
    obtain ⟨v3, hc2, hr⟩ := gB_i hr
    refine gRun_i (g_runV X hI (w_X2_cells hc2) ho1 rfl hl (lw_V q812 q687 q688 q97 q689) rfl rfl hd_X2_cells ⟨Nat.le_of_ble_eq_true rfl, Nat.le_of_ble_eq_true rfl⟩ (as := []) (rest := [.int z4]) rfl rfl (Nat.le_of_ble_eq_true rfl) ⟨(Nat.le_refl _), (Nat.le_refl _)⟩ dX2_worthOfShare_8) (fun H locs hI => ?_)
    refine lv_icmp_ge (tgt := 48) hx hb dX2_worthOfShare_11 (by decide) (fun c9 => ?_) (fun c9 => ?_)
    · replace hr := gIf_t c9 hr
      refine lv_iload_n hx hb dX2_worthOfShare_48 rfl (lv_at hl 3 rfl) ?_
      have hr := gS_i hr
      subst hr
      exact g_iret X hI rfl (Nat.le_refl _) (Nat.le_refl _) dX2_worthOfShare_49
    · replace hr := gIf_f c9 hr
      refine lv_iload_n hx hb dX2_worthOfShare_14 rfl (lv_at hl 3 rfl) ?_
      refine lv_aload_n hx hb dX2_worthOfShare_15 rfl (lv_at hl 0 rfl) ?_
      refine g_getA (C := RX2) (T := TX2) (N := 3) X hI in_X2 rfl 1 (by decide) q501 (fun _ h9 => h9) hr dX2_worthOfShare_16 (fun v4 hr => ?_)
      refine lv_iload hx hb dX2_worthOfShare_19 (lv_at hl 4 rfl) ?_
      refine g_iald X hI hr dX2_worthOfShare_21 (fun v5 hr => ?_)
      refine lv_iload_n hx hb dX2_worthOfShare_22 rfl (lv_at hl 2 rfl) ?_
      refine lv_icmp_ne (tgt := 39) hx hb dX2_worthOfShare_23 (by decide) (fun c9 => ?_) (fun c9 => ?_)
      · replace hr := gIf_f c9 hr
        refine lv_iconst (v := 0) hx hb dX2_worthOfShare_39 (by decide) ?_
        refine lv_iadd hx hb dX2_worthOfShare_40 ?_
        refine lv_istore_n (lv' := [(3, .int (z3 + (0 : Int32))), (0, .ref z0), (1, .int z1), (2, .int z2), (4, .int z4)]) hx hb dX2_worthOfShare_41 rfl hl (by decide) rfl (fun ls hl => ?_)
        refine lv_iinc (v := (z4 + (1 : Int32))) (lv' := [(4, .int (z4 + (1 : Int32))), (3, .int (z3 + (0 : Int32))), (0, .ref z0), (1, .int z1), (2, .int z2)]) hx hb dX2_worthOfShare_42 hl (k := 4) rfl (g_inc (by decide)) (by decide) rfl (fun ls hl => ?_)
        refine lv_goto (tgt := 5) hx hb dX2_worthOfShare_45 (by decide) ?_
        exact ih hr hI (lv_sub hl [2, 3, 4, 1, 0] rfl)
      · replace hr := gIf_t c9 hr
        refine lv_aload_n hx hb dX2_worthOfShare_26 rfl (lv_at hl 0 rfl) ?_
        refine lv_iload_n hx hb dX2_worthOfShare_27 rfl (lv_at hl 1 rfl) ?_
        obtain ⟨v7, hc6, hr⟩ := gB_i hr
        refine gRun_a (g_runV X hI (w_X2_sibling hc6) ho1 rfl hl (lw_V q665 q666 q667 q97 q668) rfl rfl hd_X2_sibling ⟨Nat.le_of_ble_eq_true rfl, Nat.le_of_ble_eq_true rfl⟩ (as := [.int z1]) (rest := [.int z3]) rfl rfl (Nat.le_of_ble_eq_true rfl) ⟨(Nat.le_refl _), (Nat.le_refl _)⟩ dX2_worthOfShare_28) (fun H locs hI => ?_)
        refine lv_iload hx hb dX2_worthOfShare_31 (lv_at hl 4 rfl) ?_
        obtain ⟨_, ho8, hr⟩ := gB_i hr
        obtain ⟨v10, hc9, hr⟩ := gB_i hr
        refine gRun_i (g_runV X hI (w_X5_value hc9) ho8 rfl hl (lw_V q829 q830 q831 q121 q832) rfl rfl hd_X5_value ⟨Nat.le_of_ble_eq_true rfl, Nat.le_of_ble_eq_true rfl⟩ (as := [.int z4]) (rest := [.int z3]) rfl rfl (Nat.le_of_ble_eq_true rfl) ⟨(Nat.le_refl _), (Nat.le_refl _)⟩ dX2_worthOfShare_33) (fun H locs hI => ?_)
        refine lv_goto (tgt := 40) hx hb dX2_worthOfShare_36 (by decide) ?_
        refine lv_iadd hx hb dX2_worthOfShare_40 ?_
        refine lv_istore_n (lv' := [(3, .int (z3 + v10)), (0, .ref z0), (1, .int z1), (2, .int z2), (4, .int z4)]) hx hb dX2_worthOfShare_41 rfl hl (by decide) rfl (fun ls hl => ?_)
        refine lv_iinc (v := (z4 + (1 : Int32))) (lv' := [(4, .int (z4 + (1 : Int32))), (3, .int (z3 + v10)), (0, .ref z0), (1, .int z1), (2, .int z2)]) hx hb dX2_worthOfShare_42 hl (k := 4) rfl (g_inc (by decide)) (by decide) rfl (fun ls hl => ?_)
        refine lv_goto (tgt := 5) hx hb dX2_worthOfShare_45 (by decide) ?_
        exact ih hr hI (lv_sub hl [2, 3, 4, 1, 0] rfl)
set_option maxHeartbeats 2000000 in
theorem w_X2_worthOfShare {l : Launch} {x : gV} {base : Nat} {z0 : Nat} {z1 : Int32} {z2 : Int32} {h : gH} {n : Nat} {res : Int32} (hr : f_X2_worthOfShare z0 z1 z2 h = some res) : gM l yX2_worthOfShare (ws_ yX2_worthOfShare cX2_worthOfShare 5 (some .int)) rm_X2_worthOfShare x base [.ref z0, .int z1, .int z2] h n (some (.int res)) h n 0 0 := by
  refine g_met (cc := cX2_worthOfShare) (nL := 5) (ret := (some .int)) (by decide) (Nat.le_of_ble_eq_true rfl) (fun p e s m below meth c ls X hnm hl hI => ?_)
  have hl : lv_has ls 5 [(0, .ref z0), (1, .int z1), (2, .int z2)] := hl
  have hx := X.1
  have hb := X.2.1
  unfold f_X2_worthOfShare at hr
  refine lv_iconst (v := 0) hx hb dX2_worthOfShare_0 (by decide) ?_
  refine lv_istore_n (lv' := [(3, .int (0 : Int32)), (0, .ref z0), (1, .int z1), (2, .int z2)]) hx hb dX2_worthOfShare_1 rfl hl (by decide) rfl (fun ls hl => ?_)
  refine lv_iconst (v := 0) hx hb dX2_worthOfShare_2 (by decide) ?_
  refine lv_istore (lv' := [(4, .int (0 : Int32)), (3, .int (0 : Int32)), (0, .ref z0), (1, .int z1), (2, .int z2)]) hx hb dX2_worthOfShare_3 hl (by decide) rfl (fun ls hl => ?_)
  exact w_X2_worthOfShare_L5 X gN hr hI (lv_sub hl [2, 3, 4, 1, 0] rfl)
abbrev rm_X2_welfare : Room := { frames := 5, cells := 0, slots := 0, locals := 109 }
theorem hd_X2_welfare : yX2_welfare.cls = RX2 ∧ yX2_welfare.cls ≠ "java/lang/invoke/MethodHandle" ∧ yX2_welfare.cls ≠ "java/lang/invoke/VarHandle" ∧ (parseMethodDescriptor yX2_welfare.desc).map (fun d => d.parameters.length) = some 1 := by decide +kernel
set_option maxHeartbeats 2000000 in
theorem w_X2_welfare {l : Launch} {x : gV} {base : Nat} {z0 : Nat} {z1 : Int32} {h : gH} {n : Nat} {res : Int32} (hr : f_X2_welfare z0 z1 h = some res) : gM l yX2_welfare (ws_ yX2_welfare cX2_welfare 2 (some .int)) rm_X2_welfare x base [.ref z0, .int z1] h n (some (.int res)) h n 0 0 := by
  refine g_met (cc := cX2_welfare) (nL := 2) (ret := (some .int)) (by decide) (Nat.le_of_ble_eq_true rfl) (fun p e s m below meth c ls X hnm hl hI => ?_)
  have hl : lv_has ls 2 [(0, .ref z0), (1, .int z1)] := hl
  have hx := X.1
  have hb := X.2.1
  unfold f_X2_welfare at hr
  refine lv_aload_n hx hb dX2_welfare_0 rfl (lv_at hl 0 rfl) ?_
  refine lv_iload_n hx hb dX2_welfare_1 rfl (lv_at hl 1 rfl) ?_
  refine lv_iload_n hx hb dX2_welfare_2 rfl (lv_at hl 1 rfl) ?_
  obtain ⟨_, ho1, hr⟩ := gB_i hr
  obtain ⟨v3, hc2, hr⟩ := gB_i hr
  refine gRun_i (g_runV X hI (w_X2_worthOfShare hc2) ho1 rfl hl (lw_V q825 q826 q827 q97 q828) rfl rfl hd_X2_worthOfShare ⟨Nat.le_of_ble_eq_true rfl, Nat.le_of_ble_eq_true rfl⟩ (as := [.int z1, .int z1]) (rest := []) rfl rfl (Nat.le_of_ble_eq_true rfl) ⟨(Nat.le_refl _), (Nat.le_refl _)⟩ dX2_welfare_3) (fun H locs hI => ?_)
  have hr := gS_i hr
  subst hr
  exact g_iret X hI rfl (Nat.le_refl _) (Nat.le_refl _) dX2_welfare_6
abbrev rm_X2_envies_2 : Room := { frames := 6, cells := 0, slots := 0, locals := 130 }
theorem hd_X2_envies_2 : yX2_envies_2.cls = RX2 ∧ yX2_envies_2.cls ≠ "java/lang/invoke/MethodHandle" ∧ yX2_envies_2.cls ≠ "java/lang/invoke/VarHandle" ∧ (parseMethodDescriptor yX2_envies_2.desc).map (fun d => d.parameters.length) = some 2 := by decide +kernel
set_option maxHeartbeats 2000000 in
theorem w_X2_envies_2 {l : Launch} {x : gV} {base : Nat} {z0 : Nat} {z1 : Int32} {z2 : Int32} {h : gH} {n : Nat} {res : Int32} (hr : f_X2_envies_2 z0 z1 z2 h = some res) : gM l yX2_envies_2 (ws_ yX2_envies_2 cX2_envies_2 3 (some .boolean)) rm_X2_envies_2 x base [.ref z0, .int z1, .int z2] h n (some (.int res)) h n 0 0 := by
  refine g_met (cc := cX2_envies_2) (nL := 3) (ret := (some .boolean)) (by decide) (Nat.le_of_ble_eq_true rfl) (fun p e s m below meth c ls X hnm hl hI => ?_)
  have hl : lv_has ls 3 [(0, .ref z0), (1, .int z1), (2, .int z2)] := hl
  have hx := X.1
  have hb := X.2.1
  unfold f_X2_envies_2 at hr
  refine lv_aload_n hx hb dX2_envies_2_0 rfl (lv_at hl 0 rfl) ?_
  refine lv_iload_n hx hb dX2_envies_2_1 rfl (lv_at hl 1 rfl) ?_
  refine lv_iload_n hx hb dX2_envies_2_2 rfl (lv_at hl 2 rfl) ?_
  obtain ⟨_, ho1, hr⟩ := gB_i hr
  obtain ⟨v3, hc2, hr⟩ := gB_i hr
  refine gRun_i (g_runV X hI (w_X2_worthOfShare hc2) ho1 rfl hl (lw_V q825 q826 q827 q97 q828) rfl rfl hd_X2_worthOfShare ⟨Nat.le_of_ble_eq_true rfl, Nat.le_of_ble_eq_true rfl⟩ (as := [.int z1, .int z2]) (rest := []) rfl rfl (Nat.le_of_ble_eq_true rfl) ⟨(Nat.le_refl _), (Nat.le_refl _)⟩ dX2_envies_2_3) (fun H locs hI => ?_)
  refine lv_aload_n hx hb dX2_envies_2_6 rfl (lv_at hl 0 rfl) ?_
  refine lv_iload_n hx hb dX2_envies_2_7 rfl (lv_at hl 1 rfl) ?_
  obtain ⟨v5, hc4, hr⟩ := gB_i hr
  refine gRun_i (g_runV X hI (w_X2_welfare hc4) ho1 rfl hl (lw_V q833 q834 q835 q97 q836) rfl rfl hd_X2_welfare ⟨Nat.le_of_ble_eq_true rfl, Nat.le_of_ble_eq_true rfl⟩ (as := [.int z1]) (rest := [.int v3]) rfl rfl (Nat.le_of_ble_eq_true rfl) ⟨(Nat.le_refl _), (Nat.le_refl _)⟩ dX2_envies_2_8) (fun H locs hI => ?_)
  refine lv_icmp_le (tgt := 18) hx hb dX2_envies_2_11 (by decide) (fun c9 => ?_) (fun c9 => ?_)
  · replace hr := gIf_t c9 hr
    refine lv_iconst (v := 0) hx hb dX2_envies_2_18 (by decide) ?_
    have hr := gS_i hr
    subst hr
    exact g_iret X hI (g_narZ (Or.inl rfl)) (Nat.le_refl _) (Nat.le_refl _) dX2_envies_2_19
  · replace hr := gIf_f c9 hr
    refine lv_iconst (v := 1) hx hb dX2_envies_2_14 (by decide) ?_
    refine lv_goto (tgt := 19) hx hb dX2_envies_2_15 (by decide) ?_
    have hr := gS_i hr
    subst hr
    exact g_iret X hI (g_narZ (Or.inr rfl)) (Nat.le_refl _) (Nat.le_refl _) dX2_envies_2_19
abbrev rm_X2_envies : Room := { frames := 7, cells := 0, slots := 0, locals := 152 }
theorem hd_X2_envies : yX2_envies.cls = RX2 ∧ yX2_envies.cls ≠ "java/lang/invoke/MethodHandle" ∧ yX2_envies.cls ≠ "java/lang/invoke/VarHandle" ∧ (parseMethodDescriptor yX2_envies.desc).map (fun d => d.parameters.length) = some 0 := by decide +kernel
set_option maxHeartbeats 2000000 in
theorem w_X2_envies_L4 {h : gH} {n : Nat} {z0 : Nat} {res : Int32} (X : gXX x base RX2 cX2_envies 3 (some .int) p l s m args meth c) : ∀ (k : Nat) {z1 : Int32} {z2 : Int32} {H : Heap} {locs : List Loc} {ls : Array Slot}, gL2 (f_X2_envies_L4 z0 h) k z1 z2 = some res → gI x base s.heap h n H locs → lv_has ls 3 [(0, .ref z0), (1, .int z1), (2, .int z2)] → W p l e rm_X2_envies s m args below meth c H locs 0 0 (MQ below (gQ x base (some (.int res)) h n) args s 0 0 (fun q => base ≤ q)) (F0 m 4 ls []) := by
  have hx := X.1
  have hb := X.2.1
  intro k
  induction k with
  | zero =>
    intros
    rename_i hr _ _
    exact nomatch (show (none : Option _) = some _ from hr)
  | succ k ih =>
    intro z1 z2 H locs ls hr hI hl
    replace hr : f_X2_envies_L4 z0 h (gL2 (f_X2_envies_L4 z0 h) k) z1 z2 = some res := hr
    unfold f_X2_envies_L4 at hr
    refine lv_iload_n hx hb dX2_envies_4 rfl (lv_at hl 2 rfl) ?_
    refine lv_aload_n hx hb dX2_envies_5 rfl (lv_at hl 0 rfl) ?_
    obtain ⟨_, ho1, hr⟩ := gB_i hr
    obtain ⟨v3, hc2, hr⟩ := gB_i hr
    refine gRun_i (g_runV X hI (w_X2_size hc2) ho1 rfl hl (lw_V q664 q643 q644 q97 q645) rfl rfl hd_X2_size ⟨Nat.le_of_ble_eq_true rfl, Nat.le_of_ble_eq_true rfl⟩ (as := []) (rest := [.int z2]) rfl rfl (Nat.le_of_ble_eq_true rfl) ⟨(Nat.le_refl _), (Nat.le_refl _)⟩ dX2_envies_6) (fun H locs hI => ?_)
    refine lv_aload_n hx hb dX2_envies_9 rfl (lv_at hl 0 rfl) ?_
    obtain ⟨v5, hc4, hr⟩ := gB_i hr
    refine gRun_i (g_runV X hI (w_X2_size hc4) ho1 rfl hl (lw_V q664 q643 q644 q97 q645) rfl rfl hd_X2_size ⟨Nat.le_of_ble_eq_true rfl, Nat.le_of_ble_eq_true rfl⟩ (as := []) (rest := [.int v3, .int z2]) rfl rfl (Nat.le_of_ble_eq_true rfl) ⟨(Nat.le_refl _), (Nat.le_refl _)⟩ dX2_envies_10) (fun H locs hI => ?_)
    refine lv_imul hx hb dX2_envies_13 ?_
    refine lv_icmp_ge (tgt := 50) hx hb dX2_envies_14 (by decide) (fun c9 => ?_) (fun c9 => ?_)
    · replace hr := gIf_t c9 hr
      refine lv_iload_n hx hb dX2_envies_50 rfl (lv_at hl 1 rfl) ?_
      have hr := gS_i hr
      subst hr
      exact g_iret X hI rfl (Nat.le_refl _) (Nat.le_refl _) dX2_envies_51
    · replace hr := gIf_f c9 hr
      refine lv_iload_n hx hb dX2_envies_17 rfl (lv_at hl 1 rfl) ?_
      refine lv_aload_n hx hb dX2_envies_18 rfl (lv_at hl 0 rfl) ?_
      refine lv_iload_n hx hb dX2_envies_19 rfl (lv_at hl 2 rfl) ?_
      refine lv_aload_n hx hb dX2_envies_20 rfl (lv_at hl 0 rfl) ?_
      obtain ⟨v7, hc6, hr⟩ := gB_i hr
      refine gRun_i (g_runV X hI (w_X2_size hc6) ho1 rfl hl (lw_V q664 q643 q644 q97 q645) rfl rfl hd_X2_size ⟨Nat.le_of_ble_eq_true rfl, Nat.le_of_ble_eq_true rfl⟩ (as := []) (rest := [.int z2, .ref z0, .int z1]) rfl rfl (Nat.le_of_ble_eq_true rfl) ⟨(Nat.le_refl _), (Nat.le_refl _)⟩ dX2_envies_21) (fun H locs hI => ?_)
      obtain ⟨c9, hr⟩ := gIf_o hr
      refine lv_idiv hx hb dX2_envies_24 c9 ?_
      refine lv_iload_n hx hb dX2_envies_25 rfl (lv_at hl 2 rfl) ?_
      refine lv_aload_n hx hb dX2_envies_26 rfl (lv_at hl 0 rfl) ?_
      obtain ⟨v9, hc8, hr⟩ := gB_i hr
      refine gRun_i (g_runV X hI (w_X2_size hc8) ho1 rfl hl (lw_V q664 q643 q644 q97 q645) rfl rfl hd_X2_size ⟨Nat.le_of_ble_eq_true rfl, Nat.le_of_ble_eq_true rfl⟩ (as := []) (rest := [.int z2, .int (z2 / v7), .ref z0, .int z1]) rfl rfl (Nat.le_of_ble_eq_true rfl) ⟨(Nat.le_refl _), (Nat.le_refl _)⟩ dX2_envies_27) (fun H locs hI => ?_)
      obtain ⟨c9, hr⟩ := gIf_o hr
      refine lv_irem hx hb dX2_envies_30 c9 ?_
      obtain ⟨v11, hc10, hr⟩ := gB_i hr
      refine gRun_i (g_runV X hI (w_X2_envies_2 hc10) ho1 rfl hl (lw_V q821 q822 q823 q97 q824) rfl rfl hd_X2_envies_2 ⟨Nat.le_of_ble_eq_true rfl, Nat.le_of_ble_eq_true rfl⟩ (as := [.int (z2 / v7), .int (z2 - z2 / v9 * v9)]) (rest := [.int z1]) rfl rfl (Nat.le_of_ble_eq_true rfl) ⟨(Nat.le_refl _), (Nat.le_refl _)⟩ dX2_envies_31) (fun H locs hI => ?_)
      refine lv_if_eq (tgt := 41) hx hb dX2_envies_34 (by decide) (fun c9 => ?_) (fun c9 => ?_)
      · replace hr := gIf_t c9 hr
        refine lv_iconst (v := 0) hx hb dX2_envies_41 (by decide) ?_
        refine lv_iadd hx hb dX2_envies_42 ?_
        refine lv_istore_n (lv' := [(1, .int (z1 + (0 : Int32))), (0, .ref z0), (2, .int z2)]) hx hb dX2_envies_43 rfl hl (by decide) rfl (fun ls hl => ?_)
        refine lv_iinc (v := (z2 + (1 : Int32))) (lv' := [(2, .int (z2 + (1 : Int32))), (1, .int (z1 + (0 : Int32))), (0, .ref z0)]) hx hb dX2_envies_44 hl (k := 2) rfl (g_inc (by decide)) (by decide) rfl (fun ls hl => ?_)
        refine lv_goto (tgt := 4) hx hb dX2_envies_47 (by decide) ?_
        exact ih hr hI (lv_sub hl [2, 1, 0] rfl)
      · replace hr := gIf_f c9 hr
        refine lv_iconst (v := 1) hx hb dX2_envies_37 (by decide) ?_
        refine lv_goto (tgt := 42) hx hb dX2_envies_38 (by decide) ?_
        refine lv_iadd hx hb dX2_envies_42 ?_
        refine lv_istore_n (lv' := [(1, .int (z1 + (1 : Int32))), (0, .ref z0), (2, .int z2)]) hx hb dX2_envies_43 rfl hl (by decide) rfl (fun ls hl => ?_)
        refine lv_iinc (v := (z2 + (1 : Int32))) (lv' := [(2, .int (z2 + (1 : Int32))), (1, .int (z1 + (1 : Int32))), (0, .ref z0)]) hx hb dX2_envies_44 hl (k := 2) rfl (g_inc (by decide)) (by decide) rfl (fun ls hl => ?_)
        refine lv_goto (tgt := 4) hx hb dX2_envies_47 (by decide) ?_
        exact ih hr hI (lv_sub hl [2, 1, 0] rfl)
set_option maxHeartbeats 2000000 in
theorem w_X2_envies {l : Launch} {x : gV} {base : Nat} {z0 : Nat} {h : gH} {n : Nat} {res : Int32} (hr : f_X2_envies z0 h = some res) : gM l yX2_envies (ws_ yX2_envies cX2_envies 3 (some .int)) rm_X2_envies x base [.ref z0] h n (some (.int res)) h n 0 0 := by
  refine g_met (cc := cX2_envies) (nL := 3) (ret := (some .int)) (by decide) (Nat.le_of_ble_eq_true rfl) (fun p e s m below meth c ls X hnm hl hI => ?_)
  have hl : lv_has ls 3 [(0, .ref z0)] := hl
  have hx := X.1
  have hb := X.2.1
  unfold f_X2_envies at hr
  refine lv_iconst (v := 0) hx hb dX2_envies_0 (by decide) ?_
  refine lv_istore_n (lv' := [(1, .int (0 : Int32)), (0, .ref z0)]) hx hb dX2_envies_1 rfl hl (by decide) rfl (fun ls hl => ?_)
  refine lv_iconst (v := 0) hx hb dX2_envies_2 (by decide) ?_
  refine lv_istore_n (lv' := [(2, .int (0 : Int32)), (1, .int (0 : Int32)), (0, .ref z0)]) hx hb dX2_envies_3 rfl hl (by decide) rfl (fun ls hl => ?_)
  exact w_X2_envies_L4 X gN hr hI (lv_sub hl [2, 1, 0] rfl)
abbrev rm_X1_envyCount : Room := { frames := 8, cells := 0, slots := 0, locals := 174 }
theorem hd_X1_envyCount : yX1_envyCount.cls = RX1 ∧ yX1_envyCount.cls ≠ "java/lang/invoke/MethodHandle" ∧ yX1_envyCount.cls ≠ "java/lang/invoke/VarHandle" ∧ (parseMethodDescriptor yX1_envyCount.desc).map (fun d => d.parameters.length) = some 0 := by decide +kernel
set_option maxHeartbeats 2000000 in
theorem w_X1_envyCount {l : Launch} {x : gV} {base : Nat} {z0 : Nat} {h : gH} {n : Nat} {res : Int32} (hr : f_X1_envyCount z0 h = some res) : gM l yX1_envyCount (ws_ yX1_envyCount cX1_envyCount 1 (some .int)) rm_X1_envyCount x base [.ref z0] h n (some (.int res)) h n 0 0 := by
  refine g_met (cc := cX1_envyCount) (nL := 1) (ret := (some .int)) (by decide) (Nat.le_of_ble_eq_true rfl) (fun p e s m below meth c ls X hnm hl hI => ?_)
  have hl : lv_has ls 1 [(0, .ref z0)] := hl
  have hx := X.1
  have hb := X.2.1
  unfold f_X1_envyCount at hr
  refine lv_aload_n hx hb dX1_envyCount_0 rfl (lv_at hl 0 rfl) ?_
  refine g_getA (C := RX1) (T := TX1) (N := 10) X hI in_X1 rfl 4 (by decide) q760 (fun _ h9 => h9) hr dX1_envyCount_1 (fun v1 hr => ?_)
  obtain ⟨_, ho2, hr⟩ := gB_i hr
  obtain ⟨v4, hc3, hr⟩ := gB_i hr
  refine gRun_i (g_runV X hI (w_X2_envies hc3) ho2 rfl hl (lw_V q817 q818 q819 q97 q820) rfl rfl hd_X2_envies ⟨Nat.le_of_ble_eq_true rfl, Nat.le_of_ble_eq_true rfl⟩ (as := []) (rest := []) rfl rfl (Nat.le_of_ble_eq_true rfl) ⟨(Nat.le_refl _), (Nat.le_refl _)⟩ dX1_envyCount_4) (fun H locs hI => ?_)
  have hr := gS_i hr
  subst hr
  exact g_iret X hI rfl (Nat.le_refl _) (Nat.le_refl _) dX1_envyCount_7
abbrev rm_X2_isMild : Room := { frames := 6, cells := 0, slots := 0, locals := 130 }
theorem hd_X2_isMild : yX2_isMild.cls = RX2 ∧ yX2_isMild.cls ≠ "java/lang/invoke/MethodHandle" ∧ yX2_isMild.cls ≠ "java/lang/invoke/VarHandle" ∧ (parseMethodDescriptor yX2_isMild.desc).map (fun d => d.parameters.length) = some 2 := by decide +kernel
set_option maxHeartbeats 2000000 in
theorem w_X2_isMild_L19 {h : gH} {n : Nat} {z0 : Nat} {z1 : Int32} {z2 : Int32} {z3 : Int32} {res : Int32} (X : gXX x base RX2 cX2_isMild 6 (some .boolean) p l s m args meth c) : ∀ (k : Nat) {z4 : Int32} {z5 : Int32} {H : Heap} {locs : List Loc} {ls : Array Slot}, gL2 (f_X2_isMild_L19 z0 z1 z2 z3 h) k z4 z5 = some res → gI x base s.heap h n H locs → lv_has ls 6 [(0, .ref z0), (1, .int z1), (2, .int z2), (3, .int z3), (4, .int z4), (5, .int z5)] → W p l e rm_X2_isMild s m args below meth c H locs 0 0 (MQ below (gQ x base (some (.int res)) h n) args s 0 0 (fun q => base ≤ q)) (F0 m 19 ls []) := by
  have hx := X.1
  have hb := X.2.1
  intro k
  induction k with
  | zero =>
    intros
    rename_i hr _ _
    exact nomatch (show (none : Option _) = some _ from hr)
  | succ k ih =>
    intro z4 z5 H locs ls hr hI hl
    replace hr : f_X2_isMild_L19 z0 z1 z2 z3 h (gL2 (f_X2_isMild_L19 z0 z1 z2 z3 h) k) z4 z5 = some res := hr
    unfold f_X2_isMild_L19 at hr
    refine lv_iload hx hb dX2_isMild_19 (lv_at hl 5 rfl) ?_
    refine lv_aload_n hx hb dX2_isMild_21 rfl (lv_at hl 0 rfl) ?_
    obtain ⟨_, ho6, hr⟩ := gB_i hr
    obtain ⟨v8, hc7, hr⟩ := gB_i hr
    refine gRun_i (g_runV X hI (w_X2_cells hc7) ho6 rfl hl (lw_V q812 q687 q688 q97 q689) rfl rfl hd_X2_cells ⟨Nat.le_of_ble_eq_true rfl, Nat.le_of_ble_eq_true rfl⟩ (as := []) (rest := [.int z5]) rfl rfl (Nat.le_of_ble_eq_true rfl) ⟨(Nat.le_refl _), (Nat.le_refl _)⟩ dX2_isMild_22) (fun H locs hI => ?_)
    refine lv_icmp_ge (tgt := 71) hx hb dX2_isMild_25 (by decide) (fun c9 => ?_) (fun c9 => ?_)
    · replace hr := gIf_t c9 hr
      refine lv_iload hx hb dX2_isMild_71 (lv_at hl 4 rfl) ?_
      obtain ⟨c9, hr⟩ := gIf_o hr
      have hr := gS_i hr
      subst hr
      exact g_iret X hI (g_narZ c9) (Nat.le_refl _) (Nat.le_refl _) dX2_isMild_73
    · replace hr := gIf_f c9 hr
      refine lv_iload hx hb dX2_isMild_28 (lv_at hl 4 rfl) ?_
      refine lv_if_ne (tgt := 71) hx hb dX2_isMild_30 (by decide) (fun c9 => ?_) (fun c9 => ?_)
      · replace hr := gIf_f c9 hr
        refine lv_iload hx hb dX2_isMild_71 (lv_at hl 4 rfl) ?_
        obtain ⟨c9, hr⟩ := gIf_o hr
        have hr := gS_i hr
        subst hr
        exact g_iret X hI (g_narZ c9) (Nat.le_refl _) (Nat.le_refl _) dX2_isMild_73
      · replace hr := gIf_t c9 hr
        refine lv_aload_n hx hb dX2_isMild_33 rfl (lv_at hl 0 rfl) ?_
        refine g_getA (C := RX2) (T := TX2) (N := 3) X hI in_X2 rfl 1 (by decide) q501 (fun _ h9 => h9) hr dX2_isMild_34 (fun v9 hr => ?_)
        refine lv_iload hx hb dX2_isMild_37 (lv_at hl 5 rfl) ?_
        refine g_iald X hI hr dX2_isMild_39 (fun v10 hr => ?_)
        refine lv_iload_n hx hb dX2_isMild_40 rfl (lv_at hl 2 rfl) ?_
        refine lv_icmp_ne (tgt := 62) hx hb dX2_isMild_41 (by decide) (fun c9 => ?_) (fun c9 => ?_)
        · replace hr := gIf_f c9 hr
          refine lv_iconst (v := 0) hx hb dX2_isMild_62 (by decide) ?_
          refine lv_istore (lv' := [(4, .int (0 : Int32)), (0, .ref z0), (1, .int z1), (2, .int z2), (3, .int z3), (5, .int z5)]) hx hb dX2_isMild_63 hl (by decide) rfl (fun ls hl => ?_)
          refine lv_iinc (v := (z5 + (1 : Int32))) (lv' := [(5, .int (z5 + (1 : Int32))), (4, .int (0 : Int32)), (0, .ref z0), (1, .int z1), (2, .int z2), (3, .int z3)]) hx hb dX2_isMild_65 hl (k := 5) rfl (g_inc (by decide)) (by decide) rfl (fun ls hl => ?_)
          refine lv_goto (tgt := 19) hx hb dX2_isMild_68 (by decide) ?_
          exact ih hr hI (lv_sub hl [2, 3, 4, 5, 1, 0] rfl)
        · replace hr := gIf_t c9 hr
          refine lv_aload_n hx hb dX2_isMild_44 rfl (lv_at hl 0 rfl) ?_
          refine lv_iload_n hx hb dX2_isMild_45 rfl (lv_at hl 1 rfl) ?_
          obtain ⟨v12, hc11, hr⟩ := gB_i hr
          refine gRun_a (g_runV X hI (w_X2_sibling hc11) ho6 rfl hl (lw_V q665 q666 q667 q97 q668) rfl rfl hd_X2_sibling ⟨Nat.le_of_ble_eq_true rfl, Nat.le_of_ble_eq_true rfl⟩ (as := [.int z1]) (rest := []) rfl rfl (Nat.le_of_ble_eq_true rfl) ⟨(Nat.le_refl _), (Nat.le_refl _)⟩ dX2_isMild_46) (fun H locs hI => ?_)
          refine lv_iload hx hb dX2_isMild_49 (lv_at hl 5 rfl) ?_
          obtain ⟨_, ho13, hr⟩ := gB_i hr
          obtain ⟨v15, hc14, hr⟩ := gB_i hr
          refine gRun_i (g_runV X hI (w_X5_value hc14) ho13 rfl hl (lw_V q829 q830 q831 q121 q832) rfl rfl hd_X5_value ⟨Nat.le_of_ble_eq_true rfl, Nat.le_of_ble_eq_true rfl⟩ (as := [.int z5]) (rest := []) rfl rfl (Nat.le_of_ble_eq_true rfl) ⟨(Nat.le_refl _), (Nat.le_refl _)⟩ dX2_isMild_51) (fun H locs hI => ?_)
          refine lv_iload_n hx hb dX2_isMild_54 rfl (lv_at hl 3 rfl) ?_
          refine lv_icmp_lt (tgt := 62) hx hb dX2_isMild_55 (by decide) (fun c9 => ?_) (fun c9 => ?_)
          · replace hr := gIf_t c9 hr
            refine lv_iconst (v := 0) hx hb dX2_isMild_62 (by decide) ?_
            refine lv_istore (lv' := [(4, .int (0 : Int32)), (0, .ref z0), (1, .int z1), (2, .int z2), (3, .int z3), (5, .int z5)]) hx hb dX2_isMild_63 hl (by decide) rfl (fun ls hl => ?_)
            refine lv_iinc (v := (z5 + (1 : Int32))) (lv' := [(5, .int (z5 + (1 : Int32))), (4, .int (0 : Int32)), (0, .ref z0), (1, .int z1), (2, .int z2), (3, .int z3)]) hx hb dX2_isMild_65 hl (k := 5) rfl (g_inc (by decide)) (by decide) rfl (fun ls hl => ?_)
            refine lv_goto (tgt := 19) hx hb dX2_isMild_68 (by decide) ?_
            exact ih hr hI (lv_sub hl [2, 3, 4, 5, 1, 0] rfl)
          · replace hr := gIf_f c9 hr
            refine lv_iconst (v := 1) hx hb dX2_isMild_58 (by decide) ?_
            refine lv_goto (tgt := 63) hx hb dX2_isMild_59 (by decide) ?_
            refine lv_istore (lv' := [(4, .int (1 : Int32)), (0, .ref z0), (1, .int z1), (2, .int z2), (3, .int z3), (5, .int z5)]) hx hb dX2_isMild_63 hl (by decide) rfl (fun ls hl => ?_)
            refine lv_iinc (v := (z5 + (1 : Int32))) (lv' := [(5, .int (z5 + (1 : Int32))), (4, .int (1 : Int32)), (0, .ref z0), (1, .int z1), (2, .int z2), (3, .int z3)]) hx hb dX2_isMild_65 hl (k := 5) rfl (g_inc (by decide)) (by decide) rfl (fun ls hl => ?_)
            refine lv_goto (tgt := 19) hx hb dX2_isMild_68 (by decide) ?_
            exact ih hr hI (lv_sub hl [2, 3, 4, 5, 1, 0] rfl)
set_option maxHeartbeats 2000000 in
theorem w_X2_isMild {l : Launch} {x : gV} {base : Nat} {z0 : Nat} {z1 : Int32} {z2 : Int32} {h : gH} {n : Nat} {res : Int32} (hr : f_X2_isMild z0 z1 z2 h = some res) : gM l yX2_isMild (ws_ yX2_isMild cX2_isMild 6 (some .boolean)) rm_X2_isMild x base [.ref z0, .int z1, .int z2] h n (some (.int res)) h n 0 0 := by
  refine g_met (cc := cX2_isMild) (nL := 6) (ret := (some .boolean)) (by decide) (Nat.le_of_ble_eq_true rfl) (fun p e s m below meth c ls X hnm hl hI => ?_)
  have hl : lv_has ls 6 [(0, .ref z0), (1, .int z1), (2, .int z2)] := hl
  have hx := X.1
  have hb := X.2.1
  unfold f_X2_isMild at hr
  refine lv_aload_n hx hb dX2_isMild_0 rfl (lv_at hl 0 rfl) ?_
  refine lv_iload_n hx hb dX2_isMild_1 rfl (lv_at hl 1 rfl) ?_
  refine lv_iload_n hx hb dX2_isMild_2 rfl (lv_at hl 2 rfl) ?_
  obtain ⟨_, ho1, hr⟩ := gB_i hr
  obtain ⟨v3, hc2, hr⟩ := gB_i hr
  refine gRun_i (g_runV X hI (w_X2_worthOfShare hc2) ho1 rfl hl (lw_V q825 q826 q827 q97 q828) rfl rfl hd_X2_worthOfShare ⟨Nat.le_of_ble_eq_true rfl, Nat.le_of_ble_eq_true rfl⟩ (as := [.int z1, .int z2]) (rest := []) rfl rfl (Nat.le_of_ble_eq_true rfl) ⟨(Nat.le_refl _), (Nat.le_refl _)⟩ dX2_isMild_3) (fun H locs hI => ?_)
  refine lv_aload_n hx hb dX2_isMild_6 rfl (lv_at hl 0 rfl) ?_
  refine lv_iload_n hx hb dX2_isMild_7 rfl (lv_at hl 1 rfl) ?_
  obtain ⟨v5, hc4, hr⟩ := gB_i hr
  refine gRun_i (g_runV X hI (w_X2_welfare hc4) ho1 rfl hl (lw_V q833 q834 q835 q97 q836) rfl rfl hd_X2_welfare ⟨Nat.le_of_ble_eq_true rfl, Nat.le_of_ble_eq_true rfl⟩ (as := [.int z1]) (rest := [.int v3]) rfl rfl (Nat.le_of_ble_eq_true rfl) ⟨(Nat.le_refl _), (Nat.le_refl _)⟩ dX2_isMild_8) (fun H locs hI => ?_)
  refine lv_isub hx hb dX2_isMild_11 ?_
  refine lv_istore_n (lv' := [(3, .int (v3 - v5)), (0, .ref z0), (1, .int z1), (2, .int z2)]) hx hb dX2_isMild_12 rfl hl (by decide) rfl (fun ls hl => ?_)
  refine lv_iconst (v := 0) hx hb dX2_isMild_13 (by decide) ?_
  refine lv_istore (lv' := [(4, .int (0 : Int32)), (3, .int (v3 - v5)), (0, .ref z0), (1, .int z1), (2, .int z2)]) hx hb dX2_isMild_14 hl (by decide) rfl (fun ls hl => ?_)
  refine lv_iconst (v := 0) hx hb dX2_isMild_16 (by decide) ?_
  refine lv_istore (lv' := [(5, .int (0 : Int32)), (4, .int (0 : Int32)), (3, .int (v3 - v5)), (0, .ref z0), (1, .int z1), (2, .int z2)]) hx hb dX2_isMild_17 hl (by decide) rfl (fun ls hl => ?_)
  exact w_X2_isMild_L19 X gN hr hI (lv_sub hl [3, 4, 5, 2, 1, 0] rfl)
abbrev rm_X1_strongEnvyCount : Room := { frames := 7, cells := 0, slots := 0, locals := 155 }
theorem hd_X1_strongEnvyCount : yX1_strongEnvyCount.cls = RX1 ∧ yX1_strongEnvyCount.cls ≠ "java/lang/invoke/MethodHandle" ∧ yX1_strongEnvyCount.cls ≠ "java/lang/invoke/VarHandle" ∧ (parseMethodDescriptor yX1_strongEnvyCount.desc).map (fun d => d.parameters.length) = some 0 := by decide +kernel
set_option maxHeartbeats 2000000 in
theorem w_X1_strongEnvyCount_L17 {h : gH} {n : Nat} {r4 : Int32 → Int32 → Option Int32} {z0 : Nat} {z2 : Int32} {res : Int32} (X : gXX x base RX1 cX1_strongEnvyCount 4 (some .int) p l s m args meth c) (Hr4 : ∀ {z1 : Int32} {z2 : Int32} {H : Heap} {locs : List Loc} {ls : Array Slot}, r4 z1 z2 = some res → gI x base s.heap h n H locs → lv_has ls 4 [(0, .ref z0), (1, .int z1), (2, .int z2)] → W p l e rm_X1_strongEnvyCount s m args below meth c H locs 0 0 (MQ below (gQ x base (some (.int res)) h n) args s 0 0 (fun q => base ≤ q)) (F0 m 4 ls [])) : ∀ (k : Nat) {z1 : Int32} {z3 : Int32} {H : Heap} {locs : List Loc} {ls : Array Slot}, gL2 (f_X1_strongEnvyCount_L17 r4 z0 z2 h) k z1 z3 = some res → gI x base s.heap h n H locs → lv_has ls 4 [(0, .ref z0), (1, .int z1), (2, .int z2), (3, .int z3)] → W p l e rm_X1_strongEnvyCount s m args below meth c H locs 0 0 (MQ below (gQ x base (some (.int res)) h n) args s 0 0 (fun q => base ≤ q)) (F0 m 17 ls []) := by
  have hx := X.1
  have hb := X.2.1
  intro k
  induction k with
  | zero =>
    intros
    rename_i hr _ _
    exact nomatch (show (none : Option _) = some _ from hr)
  | succ k ih =>
    intro z1 z3 H locs ls hr hI hl
    replace hr : f_X1_strongEnvyCount_L17 r4 z0 z2 h (gL2 (f_X1_strongEnvyCount_L17 r4 z0 z2 h) k) z1 z3 = some res := hr
    unfold f_X1_strongEnvyCount_L17 at hr
    refine lv_iload_n hx hb dX1_strongEnvyCount_17 rfl (lv_at hl 3 rfl) ?_
    refine lv_aload_n hx hb dX1_strongEnvyCount_18 rfl (lv_at hl 0 rfl) ?_
    refine g_getA (C := RX1) (T := TX1) (N := 10) X hI in_X1 rfl 4 (by decide) q760 (fun _ h9 => h9) hr dX1_strongEnvyCount_19 (fun v5 hr => ?_)
    obtain ⟨_, ho6, hr⟩ := gB_i hr
    obtain ⟨v8, hc7, hr⟩ := gB_i hr
    refine gRun_i (g_runV X hI (w_X2_size hc7) ho6 rfl hl (lw_V q642 q643 q644 q97 q645) rfl rfl hd_X2_size ⟨Nat.le_of_ble_eq_true rfl, Nat.le_of_ble_eq_true rfl⟩ (as := []) (rest := [.int z3]) rfl rfl (Nat.le_of_ble_eq_true rfl) ⟨(Nat.le_refl _), (Nat.le_refl _)⟩ dX1_strongEnvyCount_22) (fun H locs hI => ?_)
    refine lv_icmp_ge (tgt := 66) hx hb dX1_strongEnvyCount_25 (by decide) (fun c9 => ?_) (fun c9 => ?_)
    · replace hr := gIf_t c9 hr
      refine lv_iinc (v := (z2 + (1 : Int32))) (lv' := [(2, .int (z2 + (1 : Int32))), (0, .ref z0), (1, .int z1), (3, .int z3)]) hx hb dX1_strongEnvyCount_66 hl (k := 2) rfl (g_inc (by decide)) (by decide) rfl (fun ls hl => ?_)
      refine lv_goto (tgt := 4) hx hb dX1_strongEnvyCount_69 (by decide) ?_
      exact Hr4 hr hI (lv_sub hl [1, 2, 0] rfl)
    · replace hr := gIf_f c9 hr
      refine lv_iload_n hx hb dX1_strongEnvyCount_28 rfl (lv_at hl 1 rfl) ?_
      refine lv_aload_n hx hb dX1_strongEnvyCount_29 rfl (lv_at hl 0 rfl) ?_
      refine g_getA (C := RX1) (T := TX1) (N := 10) X hI in_X1 rfl 4 (by decide) q760 (fun _ h9 => h9) hr dX1_strongEnvyCount_30 (fun v9 hr => ?_)
      refine lv_iload_n hx hb dX1_strongEnvyCount_33 rfl (lv_at hl 2 rfl) ?_
      refine lv_iload_n hx hb dX1_strongEnvyCount_34 rfl (lv_at hl 3 rfl) ?_
      obtain ⟨_, ho10, hr⟩ := gB_i hr
      obtain ⟨v12, hc11, hr⟩ := gB_i hr
      refine gRun_i (g_runV X hI (w_X2_envies_2 hc11) ho10 rfl hl (lw_V q841 q822 q823 q97 q824) rfl rfl hd_X2_envies_2 ⟨Nat.le_of_ble_eq_true rfl, Nat.le_of_ble_eq_true rfl⟩ (as := [.int z2, .int z3]) (rest := [.int z1]) rfl rfl (Nat.le_of_ble_eq_true rfl) ⟨(Nat.le_refl _), (Nat.le_refl _)⟩ dX1_strongEnvyCount_35) (fun H locs hI => ?_)
      refine lv_if_eq (tgt := 57) hx hb dX1_strongEnvyCount_38 (by decide) (fun c9 => ?_) (fun c9 => ?_)
      · replace hr := gIf_t c9 hr
        refine lv_iconst (v := 0) hx hb dX1_strongEnvyCount_57 (by decide) ?_
        refine lv_iadd hx hb dX1_strongEnvyCount_58 ?_
        refine lv_istore_n (lv' := [(1, .int (z1 + (0 : Int32))), (0, .ref z0), (2, .int z2), (3, .int z3)]) hx hb dX1_strongEnvyCount_59 rfl hl (by decide) rfl (fun ls hl => ?_)
        refine lv_iinc (v := (z3 + (1 : Int32))) (lv' := [(3, .int (z3 + (1 : Int32))), (1, .int (z1 + (0 : Int32))), (0, .ref z0), (2, .int z2)]) hx hb dX1_strongEnvyCount_60 hl (k := 3) rfl (g_inc (by decide)) (by decide) rfl (fun ls hl => ?_)
        refine lv_goto (tgt := 17) hx hb dX1_strongEnvyCount_63 (by decide) ?_
        exact ih hr hI (lv_sub hl [2, 1, 3, 0] rfl)
      · replace hr := gIf_f c9 hr
        refine lv_aload_n hx hb dX1_strongEnvyCount_41 rfl (lv_at hl 0 rfl) ?_
        refine g_getA (C := RX1) (T := TX1) (N := 10) X hI in_X1 rfl 4 (by decide) q760 (fun _ h9 => h9) hr dX1_strongEnvyCount_42 (fun v13 hr => ?_)
        refine lv_iload_n hx hb dX1_strongEnvyCount_45 rfl (lv_at hl 2 rfl) ?_
        refine lv_iload_n hx hb dX1_strongEnvyCount_46 rfl (lv_at hl 3 rfl) ?_
        obtain ⟨_, ho14, hr⟩ := gB_i hr
        obtain ⟨v16, hc15, hr⟩ := gB_i hr
        refine gRun_i (g_runV X hI (w_X2_isMild hc15) ho14 rfl hl (lw_V q842 q843 q844 q97 q845) rfl rfl hd_X2_isMild ⟨Nat.le_of_ble_eq_true rfl, Nat.le_of_ble_eq_true rfl⟩ (as := [.int z2, .int z3]) (rest := [.int z1]) rfl rfl (Nat.le_of_ble_eq_true rfl) ⟨(Nat.le_refl _), (Nat.le_refl _)⟩ dX1_strongEnvyCount_47) (fun H locs hI => ?_)
        refine lv_if_ne (tgt := 57) hx hb dX1_strongEnvyCount_50 (by decide) (fun c9 => ?_) (fun c9 => ?_)
        · replace hr := gIf_f c9 hr
          refine lv_iconst (v := 0) hx hb dX1_strongEnvyCount_57 (by decide) ?_
          refine lv_iadd hx hb dX1_strongEnvyCount_58 ?_
          refine lv_istore_n (lv' := [(1, .int (z1 + (0 : Int32))), (0, .ref z0), (2, .int z2), (3, .int z3)]) hx hb dX1_strongEnvyCount_59 rfl hl (by decide) rfl (fun ls hl => ?_)
          refine lv_iinc (v := (z3 + (1 : Int32))) (lv' := [(3, .int (z3 + (1 : Int32))), (1, .int (z1 + (0 : Int32))), (0, .ref z0), (2, .int z2)]) hx hb dX1_strongEnvyCount_60 hl (k := 3) rfl (g_inc (by decide)) (by decide) rfl (fun ls hl => ?_)
          refine lv_goto (tgt := 17) hx hb dX1_strongEnvyCount_63 (by decide) ?_
          exact ih hr hI (lv_sub hl [2, 1, 3, 0] rfl)
        · replace hr := gIf_t c9 hr
          refine lv_iconst (v := 1) hx hb dX1_strongEnvyCount_53 (by decide) ?_
          refine lv_goto (tgt := 58) hx hb dX1_strongEnvyCount_54 (by decide) ?_
          refine lv_iadd hx hb dX1_strongEnvyCount_58 ?_
          refine lv_istore_n (lv' := [(1, .int (z1 + (1 : Int32))), (0, .ref z0), (2, .int z2), (3, .int z3)]) hx hb dX1_strongEnvyCount_59 rfl hl (by decide) rfl (fun ls hl => ?_)
          refine lv_iinc (v := (z3 + (1 : Int32))) (lv' := [(3, .int (z3 + (1 : Int32))), (1, .int (z1 + (1 : Int32))), (0, .ref z0), (2, .int z2)]) hx hb dX1_strongEnvyCount_60 hl (k := 3) rfl (g_inc (by decide)) (by decide) rfl (fun ls hl => ?_)
          refine lv_goto (tgt := 17) hx hb dX1_strongEnvyCount_63 (by decide) ?_
          exact ih hr hI (lv_sub hl [2, 1, 3, 0] rfl)
set_option maxHeartbeats 2000000 in
theorem w_X1_strongEnvyCount_L4 {h : gH} {n : Nat} {z0 : Nat} {res : Int32} (X : gXX x base RX1 cX1_strongEnvyCount 4 (some .int) p l s m args meth c) : ∀ (k : Nat) {z1 : Int32} {z2 : Int32} {H : Heap} {locs : List Loc} {ls : Array Slot}, gL2 (f_X1_strongEnvyCount_L4 z0 h) k z1 z2 = some res → gI x base s.heap h n H locs → lv_has ls 4 [(0, .ref z0), (1, .int z1), (2, .int z2)] → W p l e rm_X1_strongEnvyCount s m args below meth c H locs 0 0 (MQ below (gQ x base (some (.int res)) h n) args s 0 0 (fun q => base ≤ q)) (F0 m 4 ls []) := by
  have hx := X.1
  have hb := X.2.1
  intro k
  induction k with
  | zero =>
    intros
    rename_i hr _ _
    exact nomatch (show (none : Option _) = some _ from hr)
  | succ k ih =>
    intro z1 z2 H locs ls hr hI hl
    replace hr : f_X1_strongEnvyCount_L4 z0 h (gL2 (f_X1_strongEnvyCount_L4 z0 h) k) z1 z2 = some res := hr
    unfold f_X1_strongEnvyCount_L4 at hr
    refine lv_iload_n hx hb dX1_strongEnvyCount_4 rfl (lv_at hl 2 rfl) ?_
    refine lv_aload_n hx hb dX1_strongEnvyCount_5 rfl (lv_at hl 0 rfl) ?_
    refine g_getA (C := RX1) (T := TX1) (N := 10) X hI in_X1 rfl 4 (by decide) q760 (fun _ h9 => h9) hr dX1_strongEnvyCount_6 (fun v1 hr => ?_)
    obtain ⟨_, ho2, hr⟩ := gB_i hr
    obtain ⟨v4, hc3, hr⟩ := gB_i hr
    refine gRun_i (g_runV X hI (w_X2_size hc3) ho2 rfl hl (lw_V q642 q643 q644 q97 q645) rfl rfl hd_X2_size ⟨Nat.le_of_ble_eq_true rfl, Nat.le_of_ble_eq_true rfl⟩ (as := []) (rest := [.int z2]) rfl rfl (Nat.le_of_ble_eq_true rfl) ⟨(Nat.le_refl _), (Nat.le_refl _)⟩ dX1_strongEnvyCount_9) (fun H locs hI => ?_)
    refine lv_icmp_ge (tgt := 72) hx hb dX1_strongEnvyCount_12 (by decide) (fun c9 => ?_) (fun c9 => ?_)
    · replace hr := gIf_t c9 hr
      refine lv_iload_n hx hb dX1_strongEnvyCount_72 rfl (lv_at hl 1 rfl) ?_
      have hr := gS_i hr
      subst hr
      exact g_iret X hI rfl (Nat.le_refl _) (Nat.le_refl _) dX1_strongEnvyCount_73
    · replace hr := gIf_f c9 hr
      refine lv_iconst (v := 0) hx hb dX1_strongEnvyCount_15 (by decide) ?_
      refine lv_istore_n (lv' := [(3, .int (0 : Int32)), (0, .ref z0), (1, .int z1), (2, .int z2)]) hx hb dX1_strongEnvyCount_16 rfl hl (by decide) rfl (fun ls hl => ?_)
      exact w_X1_strongEnvyCount_L17 X ih gN hr hI (lv_sub hl [1, 2, 3, 0] rfl)
set_option maxHeartbeats 2000000 in
theorem w_X1_strongEnvyCount {l : Launch} {x : gV} {base : Nat} {z0 : Nat} {h : gH} {n : Nat} {res : Int32} (hr : f_X1_strongEnvyCount z0 h = some res) : gM l yX1_strongEnvyCount (ws_ yX1_strongEnvyCount cX1_strongEnvyCount 4 (some .int)) rm_X1_strongEnvyCount x base [.ref z0] h n (some (.int res)) h n 0 0 := by
  refine g_met (cc := cX1_strongEnvyCount) (nL := 4) (ret := (some .int)) (by decide) (Nat.le_of_ble_eq_true rfl) (fun p e s m below meth c ls X hnm hl hI => ?_)
  have hl : lv_has ls 4 [(0, .ref z0)] := hl
  have hx := X.1
  have hb := X.2.1
  unfold f_X1_strongEnvyCount at hr
  refine lv_iconst (v := 0) hx hb dX1_strongEnvyCount_0 (by decide) ?_
  refine lv_istore_n (lv' := [(1, .int (0 : Int32)), (0, .ref z0)]) hx hb dX1_strongEnvyCount_1 rfl hl (by decide) rfl (fun ls hl => ?_)
  refine lv_iconst (v := 0) hx hb dX1_strongEnvyCount_2 (by decide) ?_
  refine lv_istore_n (lv' := [(2, .int (0 : Int32)), (1, .int (0 : Int32)), (0, .ref z0)]) hx hb dX1_strongEnvyCount_3 rfl hl (by decide) rfl (fun ls hl => ?_)
  exact w_X1_strongEnvyCount_L4 X gN hr hI (lv_sub hl [2, 1, 0] rfl)
abbrev rm_X1_enviers : Room := { frames := 7, cells := 0, slots := 0, locals := 152 }
theorem hd_X1_enviers : yX1_enviers.cls = RX1 ∧ yX1_enviers.cls ≠ "java/lang/invoke/MethodHandle" ∧ yX1_enviers.cls ≠ "java/lang/invoke/VarHandle" ∧ (parseMethodDescriptor yX1_enviers.desc).map (fun d => d.parameters.length) = some 1 := by decide +kernel
set_option maxHeartbeats 2000000 in
theorem w_X1_enviers_L4 {h : gH} {n : Nat} {z0 : Nat} {z1 : Int32} {res : Int32} (X : gXX x base RX1 cX1_enviers 4 (some .int) p l s m args meth c) : ∀ (k : Nat) {z2 : Int32} {z3 : Int32} {H : Heap} {locs : List Loc} {ls : Array Slot}, gL2 (f_X1_enviers_L4 z0 z1 h) k z2 z3 = some res → gI x base s.heap h n H locs → lv_has ls 4 [(0, .ref z0), (1, .int z1), (2, .int z2), (3, .int z3)] → W p l e rm_X1_enviers s m args below meth c H locs 0 0 (MQ below (gQ x base (some (.int res)) h n) args s 0 0 (fun q => base ≤ q)) (F0 m 4 ls []) := by
  have hx := X.1
  have hb := X.2.1
  intro k
  induction k with
  | zero =>
    intros
    rename_i hr _ _
    exact nomatch (show (none : Option _) = some _ from hr)
  | succ k ih =>
    intro z2 z3 H locs ls hr hI hl
    replace hr : f_X1_enviers_L4 z0 z1 h (gL2 (f_X1_enviers_L4 z0 z1 h) k) z2 z3 = some res := hr
    unfold f_X1_enviers_L4 at hr
    refine lv_iload_n hx hb dX1_enviers_4 rfl (lv_at hl 3 rfl) ?_
    refine lv_aload_n hx hb dX1_enviers_5 rfl (lv_at hl 0 rfl) ?_
    refine g_getA (C := RX1) (T := TX1) (N := 10) X hI in_X1 rfl 4 (by decide) q760 (fun _ h9 => h9) hr dX1_enviers_6 (fun v1 hr => ?_)
    obtain ⟨_, ho2, hr⟩ := gB_i hr
    obtain ⟨v4, hc3, hr⟩ := gB_i hr
    refine gRun_i (g_runV X hI (w_X2_size hc3) ho2 rfl hl (lw_V q642 q643 q644 q97 q645) rfl rfl hd_X2_size ⟨Nat.le_of_ble_eq_true rfl, Nat.le_of_ble_eq_true rfl⟩ (as := []) (rest := [.int z3]) rfl rfl (Nat.le_of_ble_eq_true rfl) ⟨(Nat.le_refl _), (Nat.le_refl _)⟩ dX1_enviers_9) (fun H locs hI => ?_)
    refine lv_icmp_ge (tgt := 41) hx hb dX1_enviers_12 (by decide) (fun c9 => ?_) (fun c9 => ?_)
    · replace hr := gIf_t c9 hr
      refine lv_iload_n hx hb dX1_enviers_41 rfl (lv_at hl 2 rfl) ?_
      have hr := gS_i hr
      subst hr
      exact g_iret X hI rfl (Nat.le_refl _) (Nat.le_refl _) dX1_enviers_42
    · replace hr := gIf_f c9 hr
      refine lv_iload_n hx hb dX1_enviers_15 rfl (lv_at hl 2 rfl) ?_
      refine lv_aload_n hx hb dX1_enviers_16 rfl (lv_at hl 0 rfl) ?_
      refine g_getA (C := RX1) (T := TX1) (N := 10) X hI in_X1 rfl 4 (by decide) q760 (fun _ h9 => h9) hr dX1_enviers_17 (fun v5 hr => ?_)
      refine lv_iload_n hx hb dX1_enviers_20 rfl (lv_at hl 3 rfl) ?_
      refine lv_iload_n hx hb dX1_enviers_21 rfl (lv_at hl 1 rfl) ?_
      obtain ⟨_, ho6, hr⟩ := gB_i hr
      obtain ⟨v8, hc7, hr⟩ := gB_i hr
      refine gRun_i (g_runV X hI (w_X2_envies_2 hc7) ho6 rfl hl (lw_V q841 q822 q823 q97 q824) rfl rfl hd_X2_envies_2 ⟨Nat.le_of_ble_eq_true rfl, Nat.le_of_ble_eq_true rfl⟩ (as := [.int z3, .int z1]) (rest := [.int z2]) rfl rfl (Nat.le_of_ble_eq_true rfl) ⟨(Nat.le_refl _), (Nat.le_refl _)⟩ dX1_enviers_22) (fun H locs hI => ?_)
      refine lv_if_eq (tgt := 32) hx hb dX1_enviers_25 (by decide) (fun c9 => ?_) (fun c9 => ?_)
      · replace hr := gIf_t c9 hr
        refine lv_iconst (v := 0) hx hb dX1_enviers_32 (by decide) ?_
        refine lv_iadd hx hb dX1_enviers_33 ?_
        refine lv_istore_n (lv' := [(2, .int (z2 + (0 : Int32))), (0, .ref z0), (1, .int z1), (3, .int z3)]) hx hb dX1_enviers_34 rfl hl (by decide) rfl (fun ls hl => ?_)
        refine lv_iinc (v := (z3 + (1 : Int32))) (lv' := [(3, .int (z3 + (1 : Int32))), (2, .int (z2 + (0 : Int32))), (0, .ref z0), (1, .int z1)]) hx hb dX1_enviers_35 hl (k := 3) rfl (g_inc (by decide)) (by decide) rfl (fun ls hl => ?_)
        refine lv_goto (tgt := 4) hx hb dX1_enviers_38 (by decide) ?_
        exact ih hr hI (lv_sub hl [2, 3, 1, 0] rfl)
      · replace hr := gIf_f c9 hr
        refine lv_iconst (v := 1) hx hb dX1_enviers_28 (by decide) ?_
        refine lv_goto (tgt := 33) hx hb dX1_enviers_29 (by decide) ?_
        refine lv_iadd hx hb dX1_enviers_33 ?_
        refine lv_istore_n (lv' := [(2, .int (z2 + (1 : Int32))), (0, .ref z0), (1, .int z1), (3, .int z3)]) hx hb dX1_enviers_34 rfl hl (by decide) rfl (fun ls hl => ?_)
        refine lv_iinc (v := (z3 + (1 : Int32))) (lv' := [(3, .int (z3 + (1 : Int32))), (2, .int (z2 + (1 : Int32))), (0, .ref z0), (1, .int z1)]) hx hb dX1_enviers_35 hl (k := 3) rfl (g_inc (by decide)) (by decide) rfl (fun ls hl => ?_)
        refine lv_goto (tgt := 4) hx hb dX1_enviers_38 (by decide) ?_
        exact ih hr hI (lv_sub hl [2, 3, 1, 0] rfl)
set_option maxHeartbeats 2000000 in
theorem w_X1_enviers {l : Launch} {x : gV} {base : Nat} {z0 : Nat} {z1 : Int32} {h : gH} {n : Nat} {res : Int32} (hr : f_X1_enviers z0 z1 h = some res) : gM l yX1_enviers (ws_ yX1_enviers cX1_enviers 4 (some .int)) rm_X1_enviers x base [.ref z0, .int z1] h n (some (.int res)) h n 0 0 := by
  refine g_met (cc := cX1_enviers) (nL := 4) (ret := (some .int)) (by decide) (Nat.le_of_ble_eq_true rfl) (fun p e s m below meth c ls X hnm hl hI => ?_)
  have hl : lv_has ls 4 [(0, .ref z0), (1, .int z1)] := hl
  have hx := X.1
  have hb := X.2.1
  unfold f_X1_enviers at hr
  refine lv_iconst (v := 0) hx hb dX1_enviers_0 (by decide) ?_
  refine lv_istore_n (lv' := [(2, .int (0 : Int32)), (0, .ref z0), (1, .int z1)]) hx hb dX1_enviers_1 rfl hl (by decide) rfl (fun ls hl => ?_)
  refine lv_iconst (v := 0) hx hb dX1_enviers_2 (by decide) ?_
  refine lv_istore_n (lv' := [(3, .int (0 : Int32)), (2, .int (0 : Int32)), (0, .ref z0), (1, .int z1)]) hx hb dX1_enviers_3 rfl hl (by decide) rfl (fun ls hl => ?_)
  exact w_X1_enviers_L4 X gN hr hI (lv_sub hl [2, 3, 1, 0] rfl)
abbrev rm_X1_mostEnvied : Room := { frames := 8, cells := 0, slots := 0, locals := 175 }
theorem hd_X1_mostEnvied : yX1_mostEnvied.cls = RX1 ∧ yX1_mostEnvied.cls ≠ "java/lang/invoke/MethodHandle" ∧ yX1_mostEnvied.cls ≠ "java/lang/invoke/VarHandle" ∧ (parseMethodDescriptor yX1_mostEnvied.desc).map (fun d => d.parameters.length) = some 0 := by decide +kernel
set_option maxHeartbeats 2000000 in
theorem w_X1_mostEnvied_L4 {h : gH} {n : Nat} {z0 : Nat} {res : Int32} (X : gXX x base RX1 cX1_mostEnvied 3 (some .int) p l s m args meth c) : ∀ (k : Nat) {z1 : Int32} {z2 : Int32} {H : Heap} {locs : List Loc} {ls : Array Slot}, gL2 (f_X1_mostEnvied_L4 z0 h) k z1 z2 = some res → gI x base s.heap h n H locs → lv_has ls 3 [(0, .ref z0), (1, .int z1), (2, .int z2)] → W p l e rm_X1_mostEnvied s m args below meth c H locs 0 0 (MQ below (gQ x base (some (.int res)) h n) args s 0 0 (fun q => base ≤ q)) (F0 m 4 ls []) := by
  have hx := X.1
  have hb := X.2.1
  intro k
  induction k with
  | zero =>
    intros
    rename_i hr _ _
    exact nomatch (show (none : Option _) = some _ from hr)
  | succ k ih =>
    intro z1 z2 H locs ls hr hI hl
    replace hr : f_X1_mostEnvied_L4 z0 h (gL2 (f_X1_mostEnvied_L4 z0 h) k) z1 z2 = some res := hr
    unfold f_X1_mostEnvied_L4 at hr
    refine lv_iload_n hx hb dX1_mostEnvied_4 rfl (lv_at hl 2 rfl) ?_
    refine lv_aload_n hx hb dX1_mostEnvied_5 rfl (lv_at hl 0 rfl) ?_
    refine g_getA (C := RX1) (T := TX1) (N := 10) X hI in_X1 rfl 4 (by decide) q760 (fun _ h9 => h9) hr dX1_mostEnvied_6 (fun v1 hr => ?_)
    obtain ⟨_, ho2, hr⟩ := gB_i hr
    obtain ⟨v4, hc3, hr⟩ := gB_i hr
    refine gRun_i (g_runV X hI (w_X2_size hc3) ho2 rfl hl (lw_V q642 q643 q644 q97 q645) rfl rfl hd_X2_size ⟨Nat.le_of_ble_eq_true rfl, Nat.le_of_ble_eq_true rfl⟩ (as := []) (rest := [.int z2]) rfl rfl (Nat.le_of_ble_eq_true rfl) ⟨(Nat.le_refl _), (Nat.le_refl _)⟩ dX1_mostEnvied_9) (fun H locs hI => ?_)
    refine lv_icmp_ge (tgt := 40) hx hb dX1_mostEnvied_12 (by decide) (fun c9 => ?_) (fun c9 => ?_)
    · replace hr := gIf_t c9 hr
      refine lv_iload_n hx hb dX1_mostEnvied_40 rfl (lv_at hl 1 rfl) ?_
      have hr := gS_i hr
      subst hr
      exact g_iret X hI rfl (Nat.le_refl _) (Nat.le_refl _) dX1_mostEnvied_41
    · replace hr := gIf_f c9 hr
      refine lv_aload_n hx hb dX1_mostEnvied_15 rfl (lv_at hl 0 rfl) ?_
      refine lv_iload_n hx hb dX1_mostEnvied_16 rfl (lv_at hl 2 rfl) ?_
      obtain ⟨_, ho5, hr⟩ := gB_i hr
      obtain ⟨v7, hc6, hr⟩ := gB_i hr
      refine gRun_i (g_runV X hI (w_X1_enviers hc6) ho5 rfl hl (lw_V q850 q852 qs6 q96 q853) rfl rfl hd_X1_enviers ⟨Nat.le_of_ble_eq_true rfl, Nat.le_of_ble_eq_true rfl⟩ (as := [.int z2]) (rest := []) rfl rfl (Nat.le_of_ble_eq_true rfl) ⟨(Nat.le_refl _), (Nat.le_refl _)⟩ dX1_mostEnvied_17) (fun H locs hI => ?_)
      refine lv_aload_n hx hb dX1_mostEnvied_20 rfl (lv_at hl 0 rfl) ?_
      refine lv_iload_n hx hb dX1_mostEnvied_21 rfl (lv_at hl 1 rfl) ?_
      obtain ⟨v9, hc8, hr⟩ := gB_i hr
      refine gRun_i (g_runV X hI (w_X1_enviers hc8) ho5 rfl hl (lw_V q850 q852 qs6 q96 q853) rfl rfl hd_X1_enviers ⟨Nat.le_of_ble_eq_true rfl, Nat.le_of_ble_eq_true rfl⟩ (as := [.int z1]) (rest := [.int v7]) rfl rfl (Nat.le_of_ble_eq_true rfl) ⟨(Nat.le_refl _), (Nat.le_refl _)⟩ dX1_mostEnvied_22) (fun H locs hI => ?_)
      refine lv_icmp_le (tgt := 32) hx hb dX1_mostEnvied_25 (by decide) (fun c9 => ?_) (fun c9 => ?_)
      · replace hr := gIf_t c9 hr
        refine lv_iload_n hx hb dX1_mostEnvied_32 rfl (lv_at hl 1 rfl) ?_
        refine lv_istore_n (lv' := [(1, .int z1), (0, .ref z0), (2, .int z2)]) hx hb dX1_mostEnvied_33 rfl hl (by decide) rfl (fun ls hl => ?_)
        refine lv_iinc (v := (z2 + (1 : Int32))) (lv' := [(2, .int (z2 + (1 : Int32))), (1, .int z1), (0, .ref z0)]) hx hb dX1_mostEnvied_34 hl (k := 2) rfl (g_inc (by decide)) (by decide) rfl (fun ls hl => ?_)
        refine lv_goto (tgt := 4) hx hb dX1_mostEnvied_37 (by decide) ?_
        exact ih hr hI (lv_sub hl [2, 1, 0] rfl)
      · replace hr := gIf_f c9 hr
        refine lv_iload_n hx hb dX1_mostEnvied_28 rfl (lv_at hl 2 rfl) ?_
        refine lv_goto (tgt := 33) hx hb dX1_mostEnvied_29 (by decide) ?_
        refine lv_istore_n (lv' := [(1, .int z2), (0, .ref z0), (2, .int z2)]) hx hb dX1_mostEnvied_33 rfl hl (by decide) rfl (fun ls hl => ?_)
        refine lv_iinc (v := (z2 + (1 : Int32))) (lv' := [(2, .int (z2 + (1 : Int32))), (1, .int z2), (0, .ref z0)]) hx hb dX1_mostEnvied_34 hl (k := 2) rfl (g_inc (by decide)) (by decide) rfl (fun ls hl => ?_)
        refine lv_goto (tgt := 4) hx hb dX1_mostEnvied_37 (by decide) ?_
        exact ih hr hI (lv_sub hl [2, 1, 0] rfl)
set_option maxHeartbeats 2000000 in
theorem w_X1_mostEnvied {l : Launch} {x : gV} {base : Nat} {z0 : Nat} {h : gH} {n : Nat} {res : Int32} (hr : f_X1_mostEnvied z0 h = some res) : gM l yX1_mostEnvied (ws_ yX1_mostEnvied cX1_mostEnvied 3 (some .int)) rm_X1_mostEnvied x base [.ref z0] h n (some (.int res)) h n 0 0 := by
  refine g_met (cc := cX1_mostEnvied) (nL := 3) (ret := (some .int)) (by decide) (Nat.le_of_ble_eq_true rfl) (fun p e s m below meth c ls X hnm hl hI => ?_)
  have hl : lv_has ls 3 [(0, .ref z0)] := hl
  have hx := X.1
  have hb := X.2.1
  unfold f_X1_mostEnvied at hr
  refine lv_iconst (v := 0) hx hb dX1_mostEnvied_0 (by decide) ?_
  refine lv_istore_n (lv' := [(1, .int (0 : Int32)), (0, .ref z0)]) hx hb dX1_mostEnvied_1 rfl hl (by decide) rfl (fun ls hl => ?_)
  refine lv_iconst (v := 1) hx hb dX1_mostEnvied_2 (by decide) ?_
  refine lv_istore_n (lv' := [(2, .int (1 : Int32)), (1, .int (0 : Int32)), (0, .ref z0)]) hx hb dX1_mostEnvied_3 rfl hl (by decide) rfl (fun ls hl => ?_)
  exact w_X1_mostEnvied_L4 X gN hr hI (lv_sub hl [2, 1, 0] rfl)
abbrev rm_X5_worth : Room := { frames := 0, cells := 0, slots := 0, locals := 0 }
theorem hd_X5_worth : yX5_worth.cls = RX5 ∧ yX5_worth.cls ≠ "java/lang/invoke/MethodHandle" ∧ yX5_worth.cls ≠ "java/lang/invoke/VarHandle" ∧ (parseMethodDescriptor yX5_worth.desc).map (fun d => d.parameters.length) = some 2 := by decide +kernel
set_option maxHeartbeats 2000000 in
theorem w_X5_worth_L5 {h : gH} {n : Nat} {z0 : Nat} {z2 : Int32} {res : Int32} (X : gXX x base RX5 cX5_worth 5 (some .int) p l s m args meth c) : ∀ (k : Nat) {z3 : Int32} {z4 : Int32} {H : Heap} {locs : List Loc} {ls : Array Slot}, gL2 (f_X5_worth_L5 z0 z2 h) k z3 z4 = some res → gI x base s.heap h n H locs → lv_has ls 5 [(0, .ref z0), (2, .int z2), (3, .int z3), (4, .int z4)] → W p l e rm_X5_worth s m args below meth c H locs 0 0 (MQ below (gQ x base (some (.int res)) h n) args s 0 0 (fun q => base ≤ q)) (F0 m 5 ls []) := by
  have hx := X.1
  have hb := X.2.1
  intro k
  induction k with
  | zero =>
    intros
    rename_i hr _ _
    exact nomatch (show (none : Option _) = some _ from hr)
  | succ k ih =>
    intro z3 z4 H locs ls hr hI hl
    replace hr : f_X5_worth_L5 z0 z2 h (gL2 (f_X5_worth_L5 z0 z2 h) k) z3 z4 = some res := hr
    unfold f_X5_worth_L5 at hr
    refine lv_iload hx hb dX5_worth_5 (lv_at hl 3 rfl) ?_
    refine lv_iload_n hx hb dX5_worth_7 rfl (lv_at hl 1 rfl) ?_
    refine lv_icmp_gt (tgt := 27) hx hb dX5_worth_8 (by decide) (fun c9 => ?_) (fun c9 => ?_)
    · replace hr := gIf_t c9 hr
      refine lv_iload_n hx hb dX5_worth_27 rfl (lv_at hl 2 rfl) ?_
      have hr := gS_i hr
      subst hr
      exact g_iret X hI rfl (Nat.le_refl _) (Nat.le_refl _) dX5_worth_28
    · replace hr := gIf_f c9 hr
      refine lv_iload_n hx hb dX5_worth_11 rfl (lv_at hl 2 rfl) ?_
      refine lv_aload_n hx hb dX5_worth_12 rfl (lv_at hl 0 rfl) ?_
      refine g_getA (C := RX5) (T := TX5) (N := 2) X hI in_X5 rfl 1 (by decide) q699 (fun _ h9 => h9) hr dX5_worth_13 (fun v1 hr => ?_)
      refine lv_iload hx hb dX5_worth_16 (lv_at hl 3 rfl) ?_
      refine g_iald X hI hr dX5_worth_18 (fun v2 hr => ?_)
      refine lv_iadd hx hb dX5_worth_19 ?_
      refine lv_istore_n (lv' := [(3, .int (z3 + v2)), (0, .ref z0), (2, .int z2), (4, .int z4)]) hx hb dX5_worth_20 rfl hl (by decide) rfl (fun ls hl => ?_)
      refine lv_iinc (v := (z4 + (1 : Int32))) (lv' := [(4, .int (z4 + (1 : Int32))), (3, .int (z3 + v2)), (0, .ref z0), (2, .int z2)]) hx hb dX5_worth_21 hl (k := 3) rfl (g_inc (by decide)) (by decide) rfl (fun ls hl => ?_)
      refine lv_goto (tgt := 5) hx hb dX5_worth_24 (by decide) ?_
      exact ih hr hI (lv_sub hl [2, 3, 1, 0] rfl)
set_option maxHeartbeats 2000000 in
theorem w_X5_worth {l : Launch} {x : gV} {base : Nat} {z0 : Nat} {z1 : Int32} {z2 : Int32} {h : gH} {n : Nat} {res : Int32} (hr : f_X5_worth z0 z1 z2 h = some res) : gM l yX5_worth (ws_ yX5_worth cX5_worth 5 (some .int)) rm_X5_worth x base [.ref z0, .int z1, .int z2] h n (some (.int res)) h n 0 0 := by
  refine g_met (cc := cX5_worth) (nL := 5) (ret := (some .int)) (by decide) (Nat.le_of_ble_eq_true rfl) (fun p e s m below meth c ls X hnm hl hI => ?_)
  have hl : lv_has ls 5 [(0, .ref z0), (1, .int z1), (2, .int z2)] := hl
  have hx := X.1
  have hb := X.2.1
  unfold f_X5_worth at hr
  refine lv_iconst (v := 0) hx hb dX5_worth_0 (by decide) ?_
  refine lv_istore_n (lv' := [(3, .int (0 : Int32)), (0, .ref z0), (1, .int z1), (2, .int z2)]) hx hb dX5_worth_1 rfl hl (by decide) rfl (fun ls hl => ?_)
  refine lv_iload_n hx hb dX5_worth_2 rfl (lv_at hl 2 rfl) ?_
  refine lv_istore (lv' := [(4, .int z1), (3, .int (0 : Int32)), (0, .ref z0), (1, .int z1), (2, .int z2)]) hx hb dX5_worth_3 hl (by decide) rfl (fun ls hl => ?_)
  exact w_X5_worth_L5 X gN hr hI (lv_sub hl [2, 4, 1, 0] rfl)
abbrev rm_X5_total : Room := { frames := 1, cells := 0, slots := 0, locals := 24 }
theorem hd_X5_total : yX5_total.cls = RX5 ∧ yX5_total.cls ≠ "java/lang/invoke/MethodHandle" ∧ yX5_total.cls ≠ "java/lang/invoke/VarHandle" ∧ (parseMethodDescriptor yX5_total.desc).map (fun d => d.parameters.length) = some 0 := by decide +kernel
set_option maxHeartbeats 2000000 in
theorem w_X5_total {l : Launch} {x : gV} {base : Nat} {z0 : Nat} {h : gH} {n : Nat} {res : Int32} (hr : f_X5_total z0 h = some res) : gM l yX5_total (ws_ yX5_total cX5_total 1 (some .int)) rm_X5_total x base [.ref z0] h n (some (.int res)) h n 0 0 := by
  refine g_met (cc := cX5_total) (nL := 1) (ret := (some .int)) (by decide) (Nat.le_of_ble_eq_true rfl) (fun p e s m below meth c ls X hnm hl hI => ?_)
  have hl : lv_has ls 1 [(0, .ref z0)] := hl
  have hx := X.1
  have hb := X.2.1
  unfold f_X5_total at hr
  refine lv_aload_n hx hb dX5_total_0 rfl (lv_at hl 0 rfl) ?_
  refine lv_iconst (v := 0) hx hb dX5_total_1 (by decide) ?_
  refine lv_aload_n hx hb dX5_total_2 rfl (lv_at hl 0 rfl) ?_
  refine g_getA (C := RX5) (T := TX5) (N := 2) X hI in_X5 rfl 1 (by decide) q699 (fun _ h9 => h9) hr dX5_total_3 (fun v1 hr => ?_)
  refine g_alen X hI (t := 0) rfl hr dX5_total_6 (fun v2 hr => ?_)
  refine lv_iconst (v := 1) hx hb dX5_total_7 (by decide) ?_
  refine lv_isub hx hb dX5_total_8 ?_
  obtain ⟨_, ho3, hr⟩ := gB_i hr
  obtain ⟨v5, hc4, hr⟩ := gB_i hr
  refine gRun_i (g_runV X hI (w_X5_worth hc4) ho3 rfl hl (lw_V q870 q871 q872 q121 q873) rfl rfl hd_X5_worth ⟨Nat.le_of_ble_eq_true rfl, Nat.le_of_ble_eq_true rfl⟩ (as := [.int (0 : Int32), .int (v2 - (1 : Int32))]) (rest := []) rfl rfl (Nat.le_of_ble_eq_true rfl) ⟨(Nat.le_refl _), (Nat.le_refl _)⟩ dX5_total_9) (fun H locs hI => ?_)
  have hr := gS_i hr
  subst hr
  exact g_iret X hI rfl (Nat.le_refl _) (Nat.le_refl _) dX5_total_12
abbrev rm_X2_isSatisfied : Room := { frames := 6, cells := 0, slots := 0, locals := 130 }
theorem hd_X2_isSatisfied : yX2_isSatisfied.cls = RX2 ∧ yX2_isSatisfied.cls ≠ "java/lang/invoke/MethodHandle" ∧ yX2_isSatisfied.cls ≠ "java/lang/invoke/VarHandle" ∧ (parseMethodDescriptor yX2_isSatisfied.desc).map (fun d => d.parameters.length) = some 1 := by decide +kernel
set_option maxHeartbeats 2000000 in
theorem w_X2_isSatisfied {l : Launch} {x : gV} {base : Nat} {z0 : Nat} {z1 : Int32} {h : gH} {n : Nat} {res : Int32} (hr : f_X2_isSatisfied z0 z1 h = some res) : gM l yX2_isSatisfied (ws_ yX2_isSatisfied cX2_isSatisfied 2 (some .boolean)) rm_X2_isSatisfied x base [.ref z0, .int z1] h n (some (.int res)) h n 0 0 := by
  refine g_met (cc := cX2_isSatisfied) (nL := 2) (ret := (some .boolean)) (by decide) (Nat.le_of_ble_eq_true rfl) (fun p e s m below meth c ls X hnm hl hI => ?_)
  have hl : lv_has ls 2 [(0, .ref z0), (1, .int z1)] := hl
  have hx := X.1
  have hb := X.2.1
  unfold f_X2_isSatisfied at hr
  refine lv_aload_n hx hb dX2_isSatisfied_0 rfl (lv_at hl 0 rfl) ?_
  refine lv_iload_n hx hb dX2_isSatisfied_1 rfl (lv_at hl 1 rfl) ?_
  obtain ⟨_, ho1, hr⟩ := gB_i hr
  obtain ⟨v3, hc2, hr⟩ := gB_i hr
  refine gRun_i (g_runV X hI (w_X2_welfare hc2) ho1 rfl hl (lw_V q833 q834 q835 q97 q836) rfl rfl hd_X2_welfare ⟨Nat.le_of_ble_eq_true rfl, Nat.le_of_ble_eq_true rfl⟩ (as := [.int z1]) (rest := []) rfl rfl (Nat.le_of_ble_eq_true rfl) ⟨(Nat.le_refl _), (Nat.le_refl _)⟩ dX2_isSatisfied_2) (fun H locs hI => ?_)
  refine lv_aload_n hx hb dX2_isSatisfied_5 rfl (lv_at hl 0 rfl) ?_
  obtain ⟨v5, hc4, hr⟩ := gB_i hr
  refine gRun_i (g_runV X hI (w_X2_size hc4) ho1 rfl hl (lw_V q664 q643 q644 q97 q645) rfl rfl hd_X2_size ⟨Nat.le_of_ble_eq_true rfl, Nat.le_of_ble_eq_true rfl⟩ (as := []) (rest := [.int v3]) rfl rfl (Nat.le_of_ble_eq_true rfl) ⟨(Nat.le_refl _), (Nat.le_refl _)⟩ dX2_isSatisfied_6) (fun H locs hI => ?_)
  refine lv_imul hx hb dX2_isSatisfied_9 ?_
  refine lv_aload_n hx hb dX2_isSatisfied_10 rfl (lv_at hl 0 rfl) ?_
  refine lv_iload_n hx hb dX2_isSatisfied_11 rfl (lv_at hl 1 rfl) ?_
  obtain ⟨v7, hc6, hr⟩ := gB_i hr
  refine gRun_a (g_runV X hI (w_X2_sibling hc6) ho1 rfl hl (lw_V q665 q666 q667 q97 q668) rfl rfl hd_X2_sibling ⟨Nat.le_of_ble_eq_true rfl, Nat.le_of_ble_eq_true rfl⟩ (as := [.int z1]) (rest := [.int (v3 * v5)]) rfl rfl (Nat.le_of_ble_eq_true rfl) ⟨(Nat.le_refl _), (Nat.le_refl _)⟩ dX2_isSatisfied_12) (fun H locs hI => ?_)
  obtain ⟨_, ho8, hr⟩ := gB_i hr
  obtain ⟨v10, hc9, hr⟩ := gB_i hr
  refine gRun_i (g_runV X hI (w_X5_total hc9) ho8 rfl hl (lw_V q866 q867 q868 q121 q869) rfl rfl hd_X5_total ⟨Nat.le_of_ble_eq_true rfl, Nat.le_of_ble_eq_true rfl⟩ (as := []) (rest := [.int (v3 * v5)]) rfl rfl (Nat.le_of_ble_eq_true rfl) ⟨(Nat.le_refl _), (Nat.le_refl _)⟩ dX2_isSatisfied_15) (fun H locs hI => ?_)
  refine lv_icmp_lt (tgt := 25) hx hb dX2_isSatisfied_18 (by decide) (fun c9 => ?_) (fun c9 => ?_)
  · replace hr := gIf_t c9 hr
    refine lv_iconst (v := 0) hx hb dX2_isSatisfied_25 (by decide) ?_
    have hr := gS_i hr
    subst hr
    exact g_iret X hI (g_narZ (Or.inl rfl)) (Nat.le_refl _) (Nat.le_refl _) dX2_isSatisfied_26
  · replace hr := gIf_f c9 hr
    refine lv_iconst (v := 1) hx hb dX2_isSatisfied_21 (by decide) ?_
    refine lv_goto (tgt := 26) hx hb dX2_isSatisfied_22 (by decide) ?_
    have hr := gS_i hr
    subst hr
    exact g_iret X hI (g_narZ (Or.inr rfl)) (Nat.le_refl _) (Nat.le_refl _) dX2_isSatisfied_26
abbrev rm_X2_satisfied : Room := { frames := 7, cells := 0, slots := 0, locals := 151 }
theorem hd_X2_satisfied : yX2_satisfied.cls = RX2 ∧ yX2_satisfied.cls ≠ "java/lang/invoke/MethodHandle" ∧ yX2_satisfied.cls ≠ "java/lang/invoke/VarHandle" ∧ (parseMethodDescriptor yX2_satisfied.desc).map (fun d => d.parameters.length) = some 0 := by decide +kernel
set_option maxHeartbeats 2000000 in
theorem w_X2_satisfied_L4 {h : gH} {n : Nat} {z0 : Nat} {res : Int32} (X : gXX x base RX2 cX2_satisfied 3 (some .int) p l s m args meth c) : ∀ (k : Nat) {z1 : Int32} {z2 : Int32} {H : Heap} {locs : List Loc} {ls : Array Slot}, gL2 (f_X2_satisfied_L4 z0 h) k z1 z2 = some res → gI x base s.heap h n H locs → lv_has ls 3 [(0, .ref z0), (1, .int z1), (2, .int z2)] → W p l e rm_X2_satisfied s m args below meth c H locs 0 0 (MQ below (gQ x base (some (.int res)) h n) args s 0 0 (fun q => base ≤ q)) (F0 m 4 ls []) := by
  have hx := X.1
  have hb := X.2.1
  intro k
  induction k with
  | zero =>
    intros
    rename_i hr _ _
    exact nomatch (show (none : Option _) = some _ from hr)
  | succ k ih =>
    intro z1 z2 H locs ls hr hI hl
    replace hr : f_X2_satisfied_L4 z0 h (gL2 (f_X2_satisfied_L4 z0 h) k) z1 z2 = some res := hr
    unfold f_X2_satisfied_L4 at hr
    refine lv_iload_n hx hb dX2_satisfied_4 rfl (lv_at hl 2 rfl) ?_
    refine lv_aload_n hx hb dX2_satisfied_5 rfl (lv_at hl 0 rfl) ?_
    obtain ⟨_, ho1, hr⟩ := gB_i hr
    obtain ⟨v3, hc2, hr⟩ := gB_i hr
    refine gRun_i (g_runV X hI (w_X2_size hc2) ho1 rfl hl (lw_V q664 q643 q644 q97 q645) rfl rfl hd_X2_size ⟨Nat.le_of_ble_eq_true rfl, Nat.le_of_ble_eq_true rfl⟩ (as := []) (rest := [.int z2]) rfl rfl (Nat.le_of_ble_eq_true rfl) ⟨(Nat.le_refl _), (Nat.le_refl _)⟩ dX2_satisfied_6) (fun H locs hI => ?_)
    refine lv_icmp_ge (tgt := 34) hx hb dX2_satisfied_9 (by decide) (fun c9 => ?_) (fun c9 => ?_)
    · replace hr := gIf_t c9 hr
      refine lv_iload_n hx hb dX2_satisfied_34 rfl (lv_at hl 1 rfl) ?_
      have hr := gS_i hr
      subst hr
      exact g_iret X hI rfl (Nat.le_refl _) (Nat.le_refl _) dX2_satisfied_35
    · replace hr := gIf_f c9 hr
      refine lv_iload_n hx hb dX2_satisfied_12 rfl (lv_at hl 1 rfl) ?_
      refine lv_aload_n hx hb dX2_satisfied_13 rfl (lv_at hl 0 rfl) ?_
      refine lv_iload_n hx hb dX2_satisfied_14 rfl (lv_at hl 2 rfl) ?_
      obtain ⟨v5, hc4, hr⟩ := gB_i hr
      refine gRun_i (g_runV X hI (w_X2_isSatisfied hc4) ho1 rfl hl (lw_V q862 q863 q864 q97 q865) rfl rfl hd_X2_isSatisfied ⟨Nat.le_of_ble_eq_true rfl, Nat.le_of_ble_eq_true rfl⟩ (as := [.int z2]) (rest := [.int z1]) rfl rfl (Nat.le_of_ble_eq_true rfl) ⟨(Nat.le_refl _), (Nat.le_refl _)⟩ dX2_satisfied_15) (fun H locs hI => ?_)
      refine lv_if_eq (tgt := 25) hx hb dX2_satisfied_18 (by decide) (fun c9 => ?_) (fun c9 => ?_)
      · replace hr := gIf_t c9 hr
        refine lv_iconst (v := 0) hx hb dX2_satisfied_25 (by decide) ?_
        refine lv_iadd hx hb dX2_satisfied_26 ?_
        refine lv_istore_n (lv' := [(1, .int (z1 + (0 : Int32))), (0, .ref z0), (2, .int z2)]) hx hb dX2_satisfied_27 rfl hl (by decide) rfl (fun ls hl => ?_)
        refine lv_iinc (v := (z2 + (1 : Int32))) (lv' := [(2, .int (z2 + (1 : Int32))), (1, .int (z1 + (0 : Int32))), (0, .ref z0)]) hx hb dX2_satisfied_28 hl (k := 2) rfl (g_inc (by decide)) (by decide) rfl (fun ls hl => ?_)
        refine lv_goto (tgt := 4) hx hb dX2_satisfied_31 (by decide) ?_
        exact ih hr hI (lv_sub hl [2, 1, 0] rfl)
      · replace hr := gIf_f c9 hr
        refine lv_iconst (v := 1) hx hb dX2_satisfied_21 (by decide) ?_
        refine lv_goto (tgt := 26) hx hb dX2_satisfied_22 (by decide) ?_
        refine lv_iadd hx hb dX2_satisfied_26 ?_
        refine lv_istore_n (lv' := [(1, .int (z1 + (1 : Int32))), (0, .ref z0), (2, .int z2)]) hx hb dX2_satisfied_27 rfl hl (by decide) rfl (fun ls hl => ?_)
        refine lv_iinc (v := (z2 + (1 : Int32))) (lv' := [(2, .int (z2 + (1 : Int32))), (1, .int (z1 + (1 : Int32))), (0, .ref z0)]) hx hb dX2_satisfied_28 hl (k := 2) rfl (g_inc (by decide)) (by decide) rfl (fun ls hl => ?_)
        refine lv_goto (tgt := 4) hx hb dX2_satisfied_31 (by decide) ?_
        exact ih hr hI (lv_sub hl [2, 1, 0] rfl)
set_option maxHeartbeats 2000000 in
theorem w_X2_satisfied {l : Launch} {x : gV} {base : Nat} {z0 : Nat} {h : gH} {n : Nat} {res : Int32} (hr : f_X2_satisfied z0 h = some res) : gM l yX2_satisfied (ws_ yX2_satisfied cX2_satisfied 3 (some .int)) rm_X2_satisfied x base [.ref z0] h n (some (.int res)) h n 0 0 := by
  refine g_met (cc := cX2_satisfied) (nL := 3) (ret := (some .int)) (by decide) (Nat.le_of_ble_eq_true rfl) (fun p e s m below meth c ls X hnm hl hI => ?_)
  have hl : lv_has ls 3 [(0, .ref z0)] := hl
  have hx := X.1
  have hb := X.2.1
  unfold f_X2_satisfied at hr
  refine lv_iconst (v := 0) hx hb dX2_satisfied_0 (by decide) ?_
  refine lv_istore_n (lv' := [(1, .int (0 : Int32)), (0, .ref z0)]) hx hb dX2_satisfied_1 rfl hl (by decide) rfl (fun ls hl => ?_)
  refine lv_iconst (v := 0) hx hb dX2_satisfied_2 (by decide) ?_
  refine lv_istore_n (lv' := [(2, .int (0 : Int32)), (1, .int (0 : Int32)), (0, .ref z0)]) hx hb dX2_satisfied_3 rfl hl (by decide) rfl (fun ls hl => ?_)
  exact w_X2_satisfied_L4 X gN hr hI (lv_sub hl [2, 1, 0] rfl)
abbrev rm_X1_satisfiedCount : Room := { frames := 8, cells := 0, slots := 0, locals := 173 }
theorem hd_X1_satisfiedCount : yX1_satisfiedCount.cls = RX1 ∧ yX1_satisfiedCount.cls ≠ "java/lang/invoke/MethodHandle" ∧ yX1_satisfiedCount.cls ≠ "java/lang/invoke/VarHandle" ∧ (parseMethodDescriptor yX1_satisfiedCount.desc).map (fun d => d.parameters.length) = some 0 := by decide +kernel
set_option maxHeartbeats 2000000 in
theorem w_X1_satisfiedCount {l : Launch} {x : gV} {base : Nat} {z0 : Nat} {h : gH} {n : Nat} {res : Int32} (hr : f_X1_satisfiedCount z0 h = some res) : gM l yX1_satisfiedCount (ws_ yX1_satisfiedCount cX1_satisfiedCount 1 (some .int)) rm_X1_satisfiedCount x base [.ref z0] h n (some (.int res)) h n 0 0 := by
  refine g_met (cc := cX1_satisfiedCount) (nL := 1) (ret := (some .int)) (by decide) (Nat.le_of_ble_eq_true rfl) (fun p e s m below meth c ls X hnm hl hI => ?_)
  have hl : lv_has ls 1 [(0, .ref z0)] := hl
  have hx := X.1
  have hb := X.2.1
  unfold f_X1_satisfiedCount at hr
  refine lv_aload_n hx hb dX1_satisfiedCount_0 rfl (lv_at hl 0 rfl) ?_
  refine g_getA (C := RX1) (T := TX1) (N := 10) X hI in_X1 rfl 4 (by decide) q760 (fun _ h9 => h9) hr dX1_satisfiedCount_1 (fun v1 hr => ?_)
  obtain ⟨_, ho2, hr⟩ := gB_i hr
  obtain ⟨v4, hc3, hr⟩ := gB_i hr
  refine gRun_i (g_runV X hI (w_X2_satisfied hc3) ho2 rfl hl (lw_V q858 q859 q860 q97 q861) rfl rfl hd_X2_satisfied ⟨Nat.le_of_ble_eq_true rfl, Nat.le_of_ble_eq_true rfl⟩ (as := []) (rest := []) rfl rfl (Nat.le_of_ble_eq_true rfl) ⟨(Nat.le_refl _), (Nat.le_refl _)⟩ dX1_satisfiedCount_4) (fun H locs hI => ?_)
  have hr := gS_i hr
  subst hr
  exact g_iret X hI rfl (Nat.le_refl _) (Nat.le_refl _) dX1_satisfiedCount_7
abbrev rm_X1_totalWelfare : Room := { frames := 6, cells := 0, slots := 0, locals := 130 }
theorem hd_X1_totalWelfare : yX1_totalWelfare.cls = RX1 ∧ yX1_totalWelfare.cls ≠ "java/lang/invoke/MethodHandle" ∧ yX1_totalWelfare.cls ≠ "java/lang/invoke/VarHandle" ∧ (parseMethodDescriptor yX1_totalWelfare.desc).map (fun d => d.parameters.length) = some 0 := by decide +kernel
set_option maxHeartbeats 2000000 in
theorem w_X1_totalWelfare_L4 {h : gH} {n : Nat} {z0 : Nat} {res : Int32} (X : gXX x base RX1 cX1_totalWelfare 3 (some .int) p l s m args meth c) : ∀ (k : Nat) {z1 : Int32} {z2 : Int32} {H : Heap} {locs : List Loc} {ls : Array Slot}, gL2 (f_X1_totalWelfare_L4 z0 h) k z1 z2 = some res → gI x base s.heap h n H locs → lv_has ls 3 [(0, .ref z0), (1, .int z1), (2, .int z2)] → W p l e rm_X1_totalWelfare s m args below meth c H locs 0 0 (MQ below (gQ x base (some (.int res)) h n) args s 0 0 (fun q => base ≤ q)) (F0 m 4 ls []) := by
  have hx := X.1
  have hb := X.2.1
  intro k
  induction k with
  | zero =>
    intros
    rename_i hr _ _
    exact nomatch (show (none : Option _) = some _ from hr)
  | succ k ih =>
    intro z1 z2 H locs ls hr hI hl
    replace hr : f_X1_totalWelfare_L4 z0 h (gL2 (f_X1_totalWelfare_L4 z0 h) k) z1 z2 = some res := hr
    unfold f_X1_totalWelfare_L4 at hr
    refine lv_iload_n hx hb dX1_totalWelfare_4 rfl (lv_at hl 2 rfl) ?_
    refine lv_aload_n hx hb dX1_totalWelfare_5 rfl (lv_at hl 0 rfl) ?_
    refine g_getA (C := RX1) (T := TX1) (N := 10) X hI in_X1 rfl 4 (by decide) q760 (fun _ h9 => h9) hr dX1_totalWelfare_6 (fun v1 hr => ?_)
    obtain ⟨_, ho2, hr⟩ := gB_i hr
    obtain ⟨v4, hc3, hr⟩ := gB_i hr
    refine gRun_i (g_runV X hI (w_X2_size hc3) ho2 rfl hl (lw_V q642 q643 q644 q97 q645) rfl rfl hd_X2_size ⟨Nat.le_of_ble_eq_true rfl, Nat.le_of_ble_eq_true rfl⟩ (as := []) (rest := [.int z2]) rfl rfl (Nat.le_of_ble_eq_true rfl) ⟨(Nat.le_refl _), (Nat.le_refl _)⟩ dX1_totalWelfare_9) (fun H locs hI => ?_)
    refine lv_icmp_ge (tgt := 32) hx hb dX1_totalWelfare_12 (by decide) (fun c9 => ?_) (fun c9 => ?_)
    · replace hr := gIf_t c9 hr
      refine lv_iload_n hx hb dX1_totalWelfare_32 rfl (lv_at hl 1 rfl) ?_
      have hr := gS_i hr
      subst hr
      exact g_iret X hI rfl (Nat.le_refl _) (Nat.le_refl _) dX1_totalWelfare_33
    · replace hr := gIf_f c9 hr
      refine lv_iload_n hx hb dX1_totalWelfare_15 rfl (lv_at hl 1 rfl) ?_
      refine lv_aload_n hx hb dX1_totalWelfare_16 rfl (lv_at hl 0 rfl) ?_
      refine g_getA (C := RX1) (T := TX1) (N := 10) X hI in_X1 rfl 4 (by decide) q760 (fun _ h9 => h9) hr dX1_totalWelfare_17 (fun v5 hr => ?_)
      refine lv_iload_n hx hb dX1_totalWelfare_20 rfl (lv_at hl 2 rfl) ?_
      obtain ⟨_, ho6, hr⟩ := gB_i hr
      obtain ⟨v8, hc7, hr⟩ := gB_i hr
      refine gRun_i (g_runV X hI (w_X2_welfare hc7) ho6 rfl hl (lw_V q878 q834 q835 q97 q836) rfl rfl hd_X2_welfare ⟨Nat.le_of_ble_eq_true rfl, Nat.le_of_ble_eq_true rfl⟩ (as := [.int z2]) (rest := [.int z1]) rfl rfl (Nat.le_of_ble_eq_true rfl) ⟨(Nat.le_refl _), (Nat.le_refl _)⟩ dX1_totalWelfare_21) (fun H locs hI => ?_)
      refine lv_iadd hx hb dX1_totalWelfare_24 ?_
      refine lv_istore_n (lv' := [(1, .int (z1 + v8)), (0, .ref z0), (2, .int z2)]) hx hb dX1_totalWelfare_25 rfl hl (by decide) rfl (fun ls hl => ?_)
      refine lv_iinc (v := (z2 + (1 : Int32))) (lv' := [(2, .int (z2 + (1 : Int32))), (1, .int (z1 + v8)), (0, .ref z0)]) hx hb dX1_totalWelfare_26 hl (k := 2) rfl (g_inc (by decide)) (by decide) rfl (fun ls hl => ?_)
      refine lv_goto (tgt := 4) hx hb dX1_totalWelfare_29 (by decide) ?_
      exact ih hr hI (lv_sub hl [2, 1, 0] rfl)
set_option maxHeartbeats 2000000 in
theorem w_X1_totalWelfare {l : Launch} {x : gV} {base : Nat} {z0 : Nat} {h : gH} {n : Nat} {res : Int32} (hr : f_X1_totalWelfare z0 h = some res) : gM l yX1_totalWelfare (ws_ yX1_totalWelfare cX1_totalWelfare 3 (some .int)) rm_X1_totalWelfare x base [.ref z0] h n (some (.int res)) h n 0 0 := by
  refine g_met (cc := cX1_totalWelfare) (nL := 3) (ret := (some .int)) (by decide) (Nat.le_of_ble_eq_true rfl) (fun p e s m below meth c ls X hnm hl hI => ?_)
  have hl : lv_has ls 3 [(0, .ref z0)] := hl
  have hx := X.1
  have hb := X.2.1
  unfold f_X1_totalWelfare at hr
  refine lv_iconst (v := 0) hx hb dX1_totalWelfare_0 (by decide) ?_
  refine lv_istore_n (lv' := [(1, .int (0 : Int32)), (0, .ref z0)]) hx hb dX1_totalWelfare_1 rfl hl (by decide) rfl (fun ls hl => ?_)
  refine lv_iconst (v := 0) hx hb dX1_totalWelfare_2 (by decide) ?_
  refine lv_istore_n (lv' := [(2, .int (0 : Int32)), (1, .int (0 : Int32)), (0, .ref z0)]) hx hb dX1_totalWelfare_3 rfl hl (by decide) rfl (fun ls hl => ?_)
  exact w_X1_totalWelfare_L4 X gN hr hI (lv_sub hl [2, 1, 0] rfl)
abbrev rm_X2_leastWelfare : Room := { frames := 6, cells := 0, slots := 0, locals := 130 }
theorem hd_X2_leastWelfare : yX2_leastWelfare.cls = RX2 ∧ yX2_leastWelfare.cls ≠ "java/lang/invoke/MethodHandle" ∧ yX2_leastWelfare.cls ≠ "java/lang/invoke/VarHandle" ∧ (parseMethodDescriptor yX2_leastWelfare.desc).map (fun d => d.parameters.length) = some 0 := by decide +kernel
set_option maxHeartbeats 2000000 in
theorem w_X2_leastWelfare_L8 {h : gH} {n : Nat} {z0 : Nat} {res : Int32} (X : gXX x base RX2 cX2_leastWelfare 3 (some .int) p l s m args meth c) : ∀ (k : Nat) {z1 : Int32} {z2 : Int32} {H : Heap} {locs : List Loc} {ls : Array Slot}, gL2 (f_X2_leastWelfare_L8 z0 h) k z1 z2 = some res → gI x base s.heap h n H locs → lv_has ls 3 [(0, .ref z0), (1, .int z1), (2, .int z2)] → W p l e rm_X2_leastWelfare s m args below meth c H locs 0 0 (MQ below (gQ x base (some (.int res)) h n) args s 0 0 (fun q => base ≤ q)) (F0 m 8 ls []) := by
  have hx := X.1
  have hb := X.2.1
  intro k
  induction k with
  | zero =>
    intros
    rename_i hr _ _
    exact nomatch (show (none : Option _) = some _ from hr)
  | succ k ih =>
    intro z1 z2 H locs ls hr hI hl
    replace hr : f_X2_leastWelfare_L8 z0 h (gL2 (f_X2_leastWelfare_L8 z0 h) k) z1 z2 = some res := hr
    unfold f_X2_leastWelfare_L8 at hr
    refine lv_iload_n hx hb dX2_leastWelfare_8 rfl (lv_at hl 2 rfl) ?_
    refine lv_aload_n hx hb dX2_leastWelfare_9 rfl (lv_at hl 0 rfl) ?_
    obtain ⟨_, ho4, hr⟩ := gB_i hr
    obtain ⟨v6, hc5, hr⟩ := gB_i hr
    refine gRun_i (g_runV X hI (w_X2_size hc5) ho4 rfl hl (lw_V q664 q643 q644 q97 q645) rfl rfl hd_X2_size ⟨Nat.le_of_ble_eq_true rfl, Nat.le_of_ble_eq_true rfl⟩ (as := []) (rest := [.int z2]) rfl rfl (Nat.le_of_ble_eq_true rfl) ⟨(Nat.le_refl _), (Nat.le_refl _)⟩ dX2_leastWelfare_10) (fun H locs hI => ?_)
    refine lv_icmp_ge (tgt := 32) hx hb dX2_leastWelfare_13 (by decide) (fun c9 => ?_) (fun c9 => ?_)
    · replace hr := gIf_t c9 hr
      refine lv_iload_n hx hb dX2_leastWelfare_32 rfl (lv_at hl 1 rfl) ?_
      have hr := gS_i hr
      subst hr
      exact g_iret X hI rfl (Nat.le_refl _) (Nat.le_refl _) dX2_leastWelfare_33
    · replace hr := gIf_f c9 hr
      refine lv_iload_n hx hb dX2_leastWelfare_16 rfl (lv_at hl 1 rfl) ?_
      refine lv_aload_n hx hb dX2_leastWelfare_17 rfl (lv_at hl 0 rfl) ?_
      refine lv_iload_n hx hb dX2_leastWelfare_18 rfl (lv_at hl 2 rfl) ?_
      obtain ⟨v8, hc7, hr⟩ := gB_i hr
      refine gRun_i (g_runV X hI (w_X2_welfare hc7) ho4 rfl hl (lw_V q833 q834 q835 q97 q836) rfl rfl hd_X2_welfare ⟨Nat.le_of_ble_eq_true rfl, Nat.le_of_ble_eq_true rfl⟩ (as := [.int z2]) (rest := [.int z1]) rfl rfl (Nat.le_of_ble_eq_true rfl) ⟨(Nat.le_refl _), (Nat.le_refl _)⟩ dX2_leastWelfare_19) (fun H locs hI => ?_)
      refine va_mmin hx hb (X.2.2.1.trans hl.1.symm) X.2.2.2.2.1 (X.w q887) (X.w q282) (X.w q110) (X.w q283) (Nat.le_of_ble_eq_true rfl) (Nat.le_of_ble_eq_true rfl) (Nat.le_refl _) (Nat.le_refl _) dX2_leastWelfare_22 ?_
      refine lv_istore_n (lv' := [(1, .int (if v8 < z1 then v8 else z1)), (0, .ref z0), (2, .int z2)]) hx hb dX2_leastWelfare_25 rfl hl (by decide) rfl (fun ls hl => ?_)
      refine lv_iinc (v := (z2 + (1 : Int32))) (lv' := [(2, .int (z2 + (1 : Int32))), (1, .int (if v8 < z1 then v8 else z1)), (0, .ref z0)]) hx hb dX2_leastWelfare_26 hl (k := 2) rfl (g_inc (by decide)) (by decide) rfl (fun ls hl => ?_)
      refine lv_goto (tgt := 8) hx hb dX2_leastWelfare_29 (by decide) ?_
      exact ih hr hI (lv_sub hl [2, 1, 0] rfl)
set_option maxHeartbeats 2000000 in
theorem w_X2_leastWelfare {l : Launch} {x : gV} {base : Nat} {z0 : Nat} {h : gH} {n : Nat} {res : Int32} (hr : f_X2_leastWelfare z0 h = some res) : gM l yX2_leastWelfare (ws_ yX2_leastWelfare cX2_leastWelfare 3 (some .int)) rm_X2_leastWelfare x base [.ref z0] h n (some (.int res)) h n 0 0 := by
  refine g_met (cc := cX2_leastWelfare) (nL := 3) (ret := (some .int)) (by decide) (Nat.le_of_ble_eq_true rfl) (fun p e s m below meth c ls X hnm hl hI => ?_)
  have hl : lv_has ls 3 [(0, .ref z0)] := hl
  have hx := X.1
  have hb := X.2.1
  unfold f_X2_leastWelfare at hr
  refine lv_aload_n hx hb dX2_leastWelfare_0 rfl (lv_at hl 0 rfl) ?_
  refine lv_iconst (v := 0) hx hb dX2_leastWelfare_1 (by decide) ?_
  obtain ⟨_, ho1, hr⟩ := gB_i hr
  obtain ⟨v3, hc2, hr⟩ := gB_i hr
  refine gRun_i (g_runV X hI (w_X2_welfare hc2) ho1 rfl hl (lw_V q833 q834 q835 q97 q836) rfl rfl hd_X2_welfare ⟨Nat.le_of_ble_eq_true rfl, Nat.le_of_ble_eq_true rfl⟩ (as := [.int (0 : Int32)]) (rest := []) rfl rfl (Nat.le_of_ble_eq_true rfl) ⟨(Nat.le_refl _), (Nat.le_refl _)⟩ dX2_leastWelfare_2) (fun H locs hI => ?_)
  refine lv_istore_n (lv' := [(1, .int v3), (0, .ref z0)]) hx hb dX2_leastWelfare_5 rfl hl (by decide) rfl (fun ls hl => ?_)
  refine lv_iconst (v := 1) hx hb dX2_leastWelfare_6 (by decide) ?_
  refine lv_istore_n (lv' := [(2, .int (1 : Int32)), (1, .int v3), (0, .ref z0)]) hx hb dX2_leastWelfare_7 rfl hl (by decide) rfl (fun ls hl => ?_)
  exact w_X2_leastWelfare_L8 X gN hr hI (lv_sub hl [2, 1, 0] rfl)
abbrev rm_X1_leastWelfare : Room := { frames := 7, cells := 0, slots := 0, locals := 152 }
theorem hd_X1_leastWelfare : yX1_leastWelfare.cls = RX1 ∧ yX1_leastWelfare.cls ≠ "java/lang/invoke/MethodHandle" ∧ yX1_leastWelfare.cls ≠ "java/lang/invoke/VarHandle" ∧ (parseMethodDescriptor yX1_leastWelfare.desc).map (fun d => d.parameters.length) = some 0 := by decide +kernel
set_option maxHeartbeats 2000000 in
theorem w_X1_leastWelfare {l : Launch} {x : gV} {base : Nat} {z0 : Nat} {h : gH} {n : Nat} {res : Int32} (hr : f_X1_leastWelfare z0 h = some res) : gM l yX1_leastWelfare (ws_ yX1_leastWelfare cX1_leastWelfare 1 (some .int)) rm_X1_leastWelfare x base [.ref z0] h n (some (.int res)) h n 0 0 := by
  refine g_met (cc := cX1_leastWelfare) (nL := 1) (ret := (some .int)) (by decide) (Nat.le_of_ble_eq_true rfl) (fun p e s m below meth c ls X hnm hl hI => ?_)
  have hl : lv_has ls 1 [(0, .ref z0)] := hl
  have hx := X.1
  have hb := X.2.1
  unfold f_X1_leastWelfare at hr
  refine lv_aload_n hx hb dX1_leastWelfare_0 rfl (lv_at hl 0 rfl) ?_
  refine g_getA (C := RX1) (T := TX1) (N := 10) X hI in_X1 rfl 4 (by decide) q760 (fun _ h9 => h9) hr dX1_leastWelfare_1 (fun v1 hr => ?_)
  obtain ⟨_, ho2, hr⟩ := gB_i hr
  obtain ⟨v4, hc3, hr⟩ := gB_i hr
  refine gRun_i (g_runV X hI (w_X2_leastWelfare hc3) ho2 rfl hl (lw_V q883 q884 q885 q97 q886) rfl rfl hd_X2_leastWelfare ⟨Nat.le_of_ble_eq_true rfl, Nat.le_of_ble_eq_true rfl⟩ (as := []) (rest := []) rfl rfl (Nat.le_of_ble_eq_true rfl) ⟨(Nat.le_refl _), (Nat.le_refl _)⟩ dX1_leastWelfare_4) (fun H locs hI => ?_)
  have hr := gS_i hr
  subst hr
  exact g_iret X hI rfl (Nat.le_refl _) (Nat.le_refl _) dX1_leastWelfare_7
abbrev rm_X1_welfareProduct : Room := { frames := 6, cells := 0, slots := 0, locals := 130 }
theorem hd_X1_welfareProduct : yX1_welfareProduct.cls = RX1 ∧ yX1_welfareProduct.cls ≠ "java/lang/invoke/MethodHandle" ∧ yX1_welfareProduct.cls ≠ "java/lang/invoke/VarHandle" ∧ (parseMethodDescriptor yX1_welfareProduct.desc).map (fun d => d.parameters.length) = some 0 := by decide +kernel
set_option maxHeartbeats 2000000 in
theorem w_X1_welfareProduct_L4 {h : gH} {n : Nat} {z0 : Nat} {res : Int64} (X : gXX x base RX1 cX1_welfareProduct 4 (some .long) p l s m args meth c) : ∀ (k : Nat) {z1 : Int64} {z3 : Int32} {H : Heap} {locs : List Loc} {ls : Array Slot}, gL2 (f_X1_welfareProduct_L4 z0 h) k z1 z3 = some res → gI x base s.heap h n H locs → lv_has ls 4 [(0, .ref z0), (1, .long z1), (3, .int z3)] → W p l e rm_X1_welfareProduct s m args below meth c H locs 0 0 (MQ below (gQ x base (some (.long res)) h n) args s 0 0 (fun q => base ≤ q)) (F0 m 4 ls []) := by
  have hx := X.1
  have hb := X.2.1
  intro k
  induction k with
  | zero =>
    intros
    rename_i hr _ _
    exact nomatch (show (none : Option _) = some _ from hr)
  | succ k ih =>
    intro z1 z3 H locs ls hr hI hl
    replace hr : f_X1_welfareProduct_L4 z0 h (gL2 (f_X1_welfareProduct_L4 z0 h) k) z1 z3 = some res := hr
    unfold f_X1_welfareProduct_L4 at hr
    refine lv_iload_n hx hb dX1_welfareProduct_4 rfl (lv_at hl 2 rfl) ?_
    refine lv_aload_n hx hb dX1_welfareProduct_5 rfl (lv_at hl 0 rfl) ?_
    refine g_getA (C := RX1) (T := TX1) (N := 10) X hI in_X1 rfl 4 (by decide) q760 (fun _ h9 => h9) hr dX1_welfareProduct_6 (fun v1 hr => ?_)
    obtain ⟨_, ho2, hr⟩ := gB_i hr
    obtain ⟨v4, hc3, hr⟩ := gB_i hr
    refine gRun_i (g_runV X hI (w_X2_size hc3) ho2 rfl hl (lw_V q642 q643 q644 q97 q645) rfl rfl hd_X2_size ⟨Nat.le_of_ble_eq_true rfl, Nat.le_of_ble_eq_true rfl⟩ (as := []) (rest := [.int z3]) rfl rfl (Nat.le_of_ble_eq_true rfl) ⟨(Nat.le_refl _), (Nat.le_refl _)⟩ dX1_welfareProduct_9) (fun H locs hI => ?_)
    refine lv_icmp_ge (tgt := 33) hx hb dX1_welfareProduct_12 (by decide) (fun c9 => ?_) (fun c9 => ?_)
    · replace hr := gIf_t c9 hr
      refine lv_lload_n hx hb dX1_welfareProduct_33 rfl (lv_at hl 1 rfl) ?_
      have hr := gS_i hr
      subst hr
      exact g_lret X hI (Nat.le_refl _) (Nat.le_refl _) dX1_welfareProduct_34
    · replace hr := gIf_f c9 hr
      refine lv_lload_n hx hb dX1_welfareProduct_15 rfl (lv_at hl 1 rfl) ?_
      refine lv_aload_n hx hb dX1_welfareProduct_16 rfl (lv_at hl 0 rfl) ?_
      refine g_getA (C := RX1) (T := TX1) (N := 10) X hI in_X1 rfl 4 (by decide) q760 (fun _ h9 => h9) hr dX1_welfareProduct_17 (fun v5 hr => ?_)
      refine lv_iload_n hx hb dX1_welfareProduct_20 rfl (lv_at hl 2 rfl) ?_
      obtain ⟨_, ho6, hr⟩ := gB_i hr
      obtain ⟨v8, hc7, hr⟩ := gB_i hr
      refine gRun_i (g_runV X hI (w_X2_welfare hc7) ho6 rfl hl (lw_V q878 q834 q835 q97 q836) rfl rfl hd_X2_welfare ⟨Nat.le_of_ble_eq_true rfl, Nat.le_of_ble_eq_true rfl⟩ (as := [.int z3]) (rest := [.long z1]) rfl rfl (Nat.le_of_ble_eq_true rfl) ⟨(Nat.le_refl _), (Nat.le_refl _)⟩ dX1_welfareProduct_21) (fun H locs hI => ?_)
      refine lv_i2l hx hb dX1_welfareProduct_24 rfl ?_
      refine lv_lmul hx hb dX1_welfareProduct_25 ?_
      refine lv_lstore_n (lv' := [(1, .long (z1 * v8.toInt64)), (0, .ref z0), (3, .int z3)]) hx hb dX1_welfareProduct_26 rfl hl (by decide) rfl (fun ls hl => ?_)
      refine lv_iinc (v := (z3 + (1 : Int32))) (lv' := [(3, .int (z3 + (1 : Int32))), (1, .long (z1 * v8.toInt64)), (0, .ref z0)]) hx hb dX1_welfareProduct_27 hl (k := 2) rfl (g_inc (by decide)) (by decide) rfl (fun ls hl => ?_)
      refine lv_goto (tgt := 4) hx hb dX1_welfareProduct_30 (by decide) ?_
      exact ih hr hI (lv_sub hl [2, 1, 0] rfl)
set_option maxHeartbeats 2000000 in
theorem w_X1_welfareProduct {l : Launch} {x : gV} {base : Nat} {z0 : Nat} {h : gH} {n : Nat} {res : Int64} (hr : f_X1_welfareProduct z0 h = some res) : gM l yX1_welfareProduct (ws_ yX1_welfareProduct cX1_welfareProduct 4 (some .long)) rm_X1_welfareProduct x base [.ref z0] h n (some (.long res)) h n 0 0 := by
  refine g_met (cc := cX1_welfareProduct) (nL := 4) (ret := (some .long)) (by decide) (Nat.le_of_ble_eq_true rfl) (fun p e s m below meth c ls X hnm hl hI => ?_)
  have hl : lv_has ls 4 [(0, .ref z0)] := hl
  have hx := X.1
  have hb := X.2.1
  unfold f_X1_welfareProduct at hr
  refine lv_lconst (v := 1) hx hb dX1_welfareProduct_0 (by decide) ?_
  refine lv_lstore_n (lv' := [(1, .long (1 : Int64)), (0, .ref z0)]) hx hb dX1_welfareProduct_1 rfl hl (by decide) rfl (fun ls hl => ?_)
  refine lv_iconst (v := 0) hx hb dX1_welfareProduct_2 (by decide) ?_
  refine lv_istore_n (lv' := [(3, .int (0 : Int32)), (1, .long (1 : Int64)), (0, .ref z0)]) hx hb dX1_welfareProduct_3 rfl hl (by decide) rfl (fun ls hl => ?_)
  exact w_X1_welfareProduct_L4 X gN hr hI (lv_sub hl [2, 1, 0] rfl)
abbrev rm_X1_greatestValue : Room := { frames := 4, cells := 0, slots := 0, locals := 85 }
theorem hd_X1_greatestValue : yX1_greatestValue.cls = RX1 ∧ yX1_greatestValue.cls ≠ "java/lang/invoke/MethodHandle" ∧ yX1_greatestValue.cls ≠ "java/lang/invoke/VarHandle" ∧ (parseMethodDescriptor yX1_greatestValue.desc).map (fun d => d.parameters.length) = some 1 := by decide +kernel
set_option maxHeartbeats 2000000 in
theorem w_X1_greatestValue_L4 {h : gH} {n : Nat} {z0 : Nat} {z1 : Int32} {res : Int32} (X : gXX x base RX1 cX1_greatestValue 4 (some .int) p l s m args meth c) : ∀ (k : Nat) {z2 : Int32} {z3 : Int32} {H : Heap} {locs : List Loc} {ls : Array Slot}, gL2 (f_X1_greatestValue_L4 z0 z1 h) k z2 z3 = some res → gI x base s.heap h n H locs → lv_has ls 4 [(0, .ref z0), (1, .int z1), (2, .int z2), (3, .int z3)] → W p l e rm_X1_greatestValue s m args below meth c H locs 0 0 (MQ below (gQ x base (some (.int res)) h n) args s 0 0 (fun q => base ≤ q)) (F0 m 4 ls []) := by
  have hx := X.1
  have hb := X.2.1
  intro k
  induction k with
  | zero =>
    intros
    rename_i hr _ _
    exact nomatch (show (none : Option _) = some _ from hr)
  | succ k ih =>
    intro z2 z3 H locs ls hr hI hl
    replace hr : f_X1_greatestValue_L4 z0 z1 h (gL2 (f_X1_greatestValue_L4 z0 z1 h) k) z2 z3 = some res := hr
    unfold f_X1_greatestValue_L4 at hr
    refine lv_iload_n hx hb dX1_greatestValue_4 rfl (lv_at hl 3 rfl) ?_
    refine lv_aload_n hx hb dX1_greatestValue_5 rfl (lv_at hl 0 rfl) ?_
    refine g_getA (C := RX1) (T := TX1) (N := 10) X hI in_X1 rfl 4 (by decide) q760 (fun _ h9 => h9) hr dX1_greatestValue_6 (fun v1 hr => ?_)
    obtain ⟨_, ho2, hr⟩ := gB_i hr
    obtain ⟨v4, hc3, hr⟩ := gB_i hr
    refine gRun_i (g_runV X hI (w_X2_size hc3) ho2 rfl hl (lw_V q642 q643 q644 q97 q645) rfl rfl hd_X2_size ⟨Nat.le_of_ble_eq_true rfl, Nat.le_of_ble_eq_true rfl⟩ (as := []) (rest := [.int z3]) rfl rfl (Nat.le_of_ble_eq_true rfl) ⟨(Nat.le_refl _), (Nat.le_refl _)⟩ dX1_greatestValue_9) (fun H locs hI => ?_)
    refine lv_icmp_ge (tgt := 38) hx hb dX1_greatestValue_12 (by decide) (fun c9 => ?_) (fun c9 => ?_)
    · replace hr := gIf_t c9 hr
      refine lv_iload_n hx hb dX1_greatestValue_38 rfl (lv_at hl 2 rfl) ?_
      have hr := gS_i hr
      subst hr
      exact g_iret X hI rfl (Nat.le_refl _) (Nat.le_refl _) dX1_greatestValue_39
    · replace hr := gIf_f c9 hr
      refine lv_iload_n hx hb dX1_greatestValue_15 rfl (lv_at hl 2 rfl) ?_
      refine lv_aload_n hx hb dX1_greatestValue_16 rfl (lv_at hl 0 rfl) ?_
      refine g_getA (C := RX1) (T := TX1) (N := 10) X hI in_X1 rfl 4 (by decide) q760 (fun _ h9 => h9) hr dX1_greatestValue_17 (fun v5 hr => ?_)
      refine lv_iload_n hx hb dX1_greatestValue_20 rfl (lv_at hl 3 rfl) ?_
      obtain ⟨_, ho6, hr⟩ := gB_i hr
      obtain ⟨v8, hc7, hr⟩ := gB_i hr
      refine gRun_a (g_runV X hI (w_X2_sibling hc7) ho6 rfl hl (lw_V q900 q666 q667 q97 q668) rfl rfl hd_X2_sibling ⟨Nat.le_of_ble_eq_true rfl, Nat.le_of_ble_eq_true rfl⟩ (as := [.int z3]) (rest := [.int z2]) rfl rfl (Nat.le_of_ble_eq_true rfl) ⟨(Nat.le_refl _), (Nat.le_refl _)⟩ dX1_greatestValue_21) (fun H locs hI => ?_)
      refine lv_iload_n hx hb dX1_greatestValue_24 rfl (lv_at hl 1 rfl) ?_
      obtain ⟨_, ho9, hr⟩ := gB_i hr
      obtain ⟨v11, hc10, hr⟩ := gB_i hr
      refine gRun_i (g_runV X hI (w_X5_value hc10) ho9 rfl hl (lw_V q901 q830 q831 q121 q832) rfl rfl hd_X5_value ⟨Nat.le_of_ble_eq_true rfl, Nat.le_of_ble_eq_true rfl⟩ (as := [.int z1]) (rest := [.int z2]) rfl rfl (Nat.le_of_ble_eq_true rfl) ⟨(Nat.le_refl _), (Nat.le_refl _)⟩ dX1_greatestValue_25) (fun H locs hI => ?_)
      refine va_mmax hx hb (X.2.2.1.trans hl.1.symm) X.2.2.2.2.1 (X.w q902) (X.w q264) (X.w q110) (X.w q265) (Nat.le_of_ble_eq_true rfl) (Nat.le_of_ble_eq_true rfl) (Nat.le_refl _) (Nat.le_refl _) dX1_greatestValue_28 ?_
      refine lv_istore_n (lv' := [(2, .int (if z2 < v11 then v11 else z2)), (0, .ref z0), (1, .int z1), (3, .int z3)]) hx hb dX1_greatestValue_31 rfl hl (by decide) rfl (fun ls hl => ?_)
      refine lv_iinc (v := (z3 + (1 : Int32))) (lv' := [(3, .int (z3 + (1 : Int32))), (2, .int (if z2 < v11 then v11 else z2)), (0, .ref z0), (1, .int z1)]) hx hb dX1_greatestValue_32 hl (k := 3) rfl (g_inc (by decide)) (by decide) rfl (fun ls hl => ?_)
      refine lv_goto (tgt := 4) hx hb dX1_greatestValue_35 (by decide) ?_
      exact ih hr hI (lv_sub hl [2, 3, 1, 0] rfl)
set_option maxHeartbeats 2000000 in
theorem w_X1_greatestValue {l : Launch} {x : gV} {base : Nat} {z0 : Nat} {z1 : Int32} {h : gH} {n : Nat} {res : Int32} (hr : f_X1_greatestValue z0 z1 h = some res) : gM l yX1_greatestValue (ws_ yX1_greatestValue cX1_greatestValue 4 (some .int)) rm_X1_greatestValue x base [.ref z0, .int z1] h n (some (.int res)) h n 0 0 := by
  refine g_met (cc := cX1_greatestValue) (nL := 4) (ret := (some .int)) (by decide) (Nat.le_of_ble_eq_true rfl) (fun p e s m below meth c ls X hnm hl hI => ?_)
  have hl : lv_has ls 4 [(0, .ref z0), (1, .int z1)] := hl
  have hx := X.1
  have hb := X.2.1
  unfold f_X1_greatestValue at hr
  refine lv_iconst (v := 0) hx hb dX1_greatestValue_0 (by decide) ?_
  refine lv_istore_n (lv' := [(2, .int (0 : Int32)), (0, .ref z0), (1, .int z1)]) hx hb dX1_greatestValue_1 rfl hl (by decide) rfl (fun ls hl => ?_)
  refine lv_iconst (v := 0) hx hb dX1_greatestValue_2 (by decide) ?_
  refine lv_istore_n (lv' := [(3, .int (0 : Int32)), (2, .int (0 : Int32)), (0, .ref z0), (1, .int z1)]) hx hb dX1_greatestValue_3 rfl hl (by decide) rfl (fun ls hl => ?_)
  exact w_X1_greatestValue_L4 X gN hr hI (lv_sub hl [2, 3, 1, 0] rfl)
abbrev rm_X1_greatestTotalWelfare : Room := { frames := 5, cells := 0, slots := 0, locals := 108 }
theorem hd_X1_greatestTotalWelfare : yX1_greatestTotalWelfare.cls = RX1 ∧ yX1_greatestTotalWelfare.cls ≠ "java/lang/invoke/MethodHandle" ∧ yX1_greatestTotalWelfare.cls ≠ "java/lang/invoke/VarHandle" ∧ (parseMethodDescriptor yX1_greatestTotalWelfare.desc).map (fun d => d.parameters.length) = some 0 := by decide +kernel
set_option maxHeartbeats 2000000 in
theorem w_X1_greatestTotalWelfare_L4 {h : gH} {n : Nat} {z0 : Nat} {res : Int32} (X : gXX x base RX1 cX1_greatestTotalWelfare 3 (some .int) p l s m args meth c) : ∀ (k : Nat) {z1 : Int32} {z2 : Int32} {H : Heap} {locs : List Loc} {ls : Array Slot}, gL2 (f_X1_greatestTotalWelfare_L4 z0 h) k z1 z2 = some res → gI x base s.heap h n H locs → lv_has ls 3 [(0, .ref z0), (1, .int z1), (2, .int z2)] → W p l e rm_X1_greatestTotalWelfare s m args below meth c H locs 0 0 (MQ below (gQ x base (some (.int res)) h n) args s 0 0 (fun q => base ≤ q)) (F0 m 4 ls []) := by
  have hx := X.1
  have hb := X.2.1
  intro k
  induction k with
  | zero =>
    intros
    rename_i hr _ _
    exact nomatch (show (none : Option _) = some _ from hr)
  | succ k ih =>
    intro z1 z2 H locs ls hr hI hl
    replace hr : f_X1_greatestTotalWelfare_L4 z0 h (gL2 (f_X1_greatestTotalWelfare_L4 z0 h) k) z1 z2 = some res := hr
    unfold f_X1_greatestTotalWelfare_L4 at hr
    refine lv_iload_n hx hb dX1_greatestTotalWelfare_4 rfl (lv_at hl 2 rfl) ?_
    refine lv_aload_n hx hb dX1_greatestTotalWelfare_5 rfl (lv_at hl 0 rfl) ?_
    refine g_getA (C := RX1) (T := TX1) (N := 10) X hI in_X1 rfl 4 (by decide) q760 (fun _ h9 => h9) hr dX1_greatestTotalWelfare_6 (fun v1 hr => ?_)
    obtain ⟨_, ho2, hr⟩ := gB_i hr
    obtain ⟨v4, hc3, hr⟩ := gB_i hr
    refine gRun_i (g_runV X hI (w_X2_cells hc3) ho2 rfl hl (lw_V q686 q687 q688 q97 q689) rfl rfl hd_X2_cells ⟨Nat.le_of_ble_eq_true rfl, Nat.le_of_ble_eq_true rfl⟩ (as := []) (rest := [.int z2]) rfl rfl (Nat.le_of_ble_eq_true rfl) ⟨(Nat.le_refl _), (Nat.le_refl _)⟩ dX1_greatestTotalWelfare_9) (fun H locs hI => ?_)
    refine lv_icmp_ge (tgt := 29) hx hb dX1_greatestTotalWelfare_12 (by decide) (fun c9 => ?_) (fun c9 => ?_)
    · replace hr := gIf_t c9 hr
      refine lv_iload_n hx hb dX1_greatestTotalWelfare_29 rfl (lv_at hl 1 rfl) ?_
      have hr := gS_i hr
      subst hr
      exact g_iret X hI rfl (Nat.le_refl _) (Nat.le_refl _) dX1_greatestTotalWelfare_30
    · replace hr := gIf_f c9 hr
      refine lv_iload_n hx hb dX1_greatestTotalWelfare_15 rfl (lv_at hl 1 rfl) ?_
      refine lv_aload_n hx hb dX1_greatestTotalWelfare_16 rfl (lv_at hl 0 rfl) ?_
      refine lv_iload_n hx hb dX1_greatestTotalWelfare_17 rfl (lv_at hl 2 rfl) ?_
      obtain ⟨_, ho5, hr⟩ := gB_i hr
      obtain ⟨v7, hc6, hr⟩ := gB_i hr
      refine gRun_i (g_runV X hI (w_X1_greatestValue hc6) ho5 rfl hl (lw_V q896 q898 qs7 q96 q899) rfl rfl hd_X1_greatestValue ⟨Nat.le_of_ble_eq_true rfl, Nat.le_of_ble_eq_true rfl⟩ (as := [.int z2]) (rest := [.int z1]) rfl rfl (Nat.le_of_ble_eq_true rfl) ⟨(Nat.le_refl _), (Nat.le_refl _)⟩ dX1_greatestTotalWelfare_18) (fun H locs hI => ?_)
      refine lv_iadd hx hb dX1_greatestTotalWelfare_21 ?_
      refine lv_istore_n (lv' := [(1, .int (z1 + v7)), (0, .ref z0), (2, .int z2)]) hx hb dX1_greatestTotalWelfare_22 rfl hl (by decide) rfl (fun ls hl => ?_)
      refine lv_iinc (v := (z2 + (1 : Int32))) (lv' := [(2, .int (z2 + (1 : Int32))), (1, .int (z1 + v7)), (0, .ref z0)]) hx hb dX1_greatestTotalWelfare_23 hl (k := 2) rfl (g_inc (by decide)) (by decide) rfl (fun ls hl => ?_)
      refine lv_goto (tgt := 4) hx hb dX1_greatestTotalWelfare_26 (by decide) ?_
      exact ih hr hI (lv_sub hl [2, 1, 0] rfl)
set_option maxHeartbeats 2000000 in
theorem w_X1_greatestTotalWelfare {l : Launch} {x : gV} {base : Nat} {z0 : Nat} {h : gH} {n : Nat} {res : Int32} (hr : f_X1_greatestTotalWelfare z0 h = some res) : gM l yX1_greatestTotalWelfare (ws_ yX1_greatestTotalWelfare cX1_greatestTotalWelfare 3 (some .int)) rm_X1_greatestTotalWelfare x base [.ref z0] h n (some (.int res)) h n 0 0 := by
  refine g_met (cc := cX1_greatestTotalWelfare) (nL := 3) (ret := (some .int)) (by decide) (Nat.le_of_ble_eq_true rfl) (fun p e s m below meth c ls X hnm hl hI => ?_)
  have hl : lv_has ls 3 [(0, .ref z0)] := hl
  have hx := X.1
  have hb := X.2.1
  unfold f_X1_greatestTotalWelfare at hr
  refine lv_iconst (v := 0) hx hb dX1_greatestTotalWelfare_0 (by decide) ?_
  refine lv_istore_n (lv' := [(1, .int (0 : Int32)), (0, .ref z0)]) hx hb dX1_greatestTotalWelfare_1 rfl hl (by decide) rfl (fun ls hl => ?_)
  refine lv_iconst (v := 0) hx hb dX1_greatestTotalWelfare_2 (by decide) ?_
  refine lv_istore_n (lv' := [(2, .int (0 : Int32)), (1, .int (0 : Int32)), (0, .ref z0)]) hx hb dX1_greatestTotalWelfare_3 rfl hl (by decide) rfl (fun ls hl => ?_)
  exact w_X1_greatestTotalWelfare_L4 X gN hr hI (lv_sub hl [2, 1, 0] rfl)
abbrev rm_X8_init : Room := { frames := 1, cells := 1, slots := 64, locals := 24 }
theorem hd_X8_init : yX8_init.cls ≠ "java/lang/invoke/MethodHandle" ∧ yX8_init.cls ≠ "java/lang/invoke/VarHandle" ∧ (parseMethodDescriptor yX8_init.desc).map (fun d => d.parameters.length) = some 2 := by decide +kernel
set_option maxHeartbeats 2000000 in
theorem w_X8_init {l : Launch} {x : gV} {base : Nat} (hst : l.stackTraces = false) {z0 : Nat} {z1 : Nat} {z2 : Int32} {h : gH} {n : Nat} {res : gH × Nat} (hr : f_X8_init z0 z1 z2 h n = some res) : gM l yX8_init (ws_ yX8_init cX8_init 3 none) rm_X8_init x base [.ref z0, .ref z1, .int z2] h n none res.1 res.2 1 64 := by
  refine g_met (cc := cX8_init) (nL := 3) (ret := none) (by decide) (Nat.le_of_ble_eq_true rfl) (fun p e s m below meth c ls X hnm hl hI => ?_)
  have hl : lv_has ls 3 [(0, .ref z0), (1, .ref z1), (2, .int z2)] := hl
  have hx := X.1
  have hb := X.2.1
  have hcc : 0 + 1 ≤ 1 ∧ 0 + 64 ≤ 64 := ⟨Nat.le_refl _, Nat.le_refl _⟩
  unfold f_X8_init at hr
  refine lv_aload_n hx hb dX8_init_0 rfl (lv_at hl 0 rfl) ?_
  refine W.objInit hx hb X.2.2.2.2.1 (X.w q912) (X.w q140) (X.w q141) rfl (by rw [X.2.2.1]; exact hl.1) rfl dX8_init_1 (Nat.le_of_ble_eq_true rfl) (Nat.le_of_ble_eq_true rfl) ?_
  refine W.eq (g2 := F0 m 4 ls []) rfl ?_
  refine lv_aload_n hx hb dX8_init_4 rfl (lv_at hl 0 rfl) ?_
  refine lv_aload_n hx hb dX8_init_5 rfl (lv_at hl 1 rfl) ?_
  refine g_putF (C := RX8) (T := TX8) (N := 3) (v := .ref z1) (ty := (.object "CakeDivision$State")) X hI in_X8 tyX8 tyX8_ok nmX8 rfl 1 (by decide) q914 (fun _ h9 => h9) rfl hnm rfl (by decide +kernel) rfl rfl hr dX8_init_6 (fun h1 H locs hI hr => ?_)
  refine lv_aload_n hx hb dX8_init_9 rfl (lv_at hl 0 rfl) ?_
  refine lv_iload_n hx hb dX8_init_10 rfl (lv_at hl 2 rfl) ?_
  obtain ⟨c9, hr⟩ := gIf_o hr
  refine g_putF (C := RX8) (T := TX8) (N := 3) (v := .int z2) (ty := .boolean) X hI in_X8 tyX8 tyX8_ok nmX8 rfl 2 (by decide) q915 (fun _ h9 => h9) rfl hnm rfl (by decide +kernel) (g_narZ c9) (g_fitZ c9) hr dX8_init_11 (fun h2 H locs hI hr => ?_)
  refine lv_aload_n hx hb dX8_init_14 rfl (lv_at hl 0 rfl) ?_
  refine lv_bipush (v := 64) hx hb dX8_init_15 (by decide) ?_
  refine g_newI (t := 0) (b := 64) (atype := .int) X hI q512 rfl rfl (by decide) (show 0 + 1 ≤ 1 from by omega) (show 0 + 64 ≤ 64 from by omega) hr dX8_init_17 (fun q3 h4 n5 H locs hI hr => ?_)
  refine g_putF (C := RX8) (T := TX8) (N := 3) (v := .ref q3) (ty := (.array .int)) X hI in_X8 tyX8 tyX8_ok nmX8 rfl 0 (by decide) q913 (fun _ h9 => h9) rfl hnm rfl (by decide +kernel) rfl rfl hr dX8_init_19 (fun h6 H locs hI hr => ?_)
  have hr := gS_i hr
  subst hr
  exact g_vret X hI (show (0 + 1) ≤ 1 from by omega) (show (0 + 64) ≤ 64 from by omega) dX8_init_22
abbrev rm_X8_combine : Room := { frames := 1, cells := 0, slots := 0, locals := 24 }
theorem hd_X8_combine : yX8_combine.cls = RX8 ∧ yX8_combine.cls ≠ "java/lang/invoke/MethodHandle" ∧ yX8_combine.cls ≠ "java/lang/invoke/VarHandle" ∧ (parseMethodDescriptor yX8_combine.desc).map (fun d => d.parameters.length) = some 2 := by decide +kernel
set_option maxHeartbeats 2000000 in
theorem w_X8_combine {l : Launch} {x : gV} {base : Nat} {z0 : Nat} {z1 : Int32} {z2 : Int32} {h : gH} {n : Nat} {res : Int32} (hr : f_X8_combine z0 z1 z2 h = some res) : gM l yX8_combine (ws_ yX8_combine cX8_combine 3 (some .int)) rm_X8_combine x base [.ref z0, .int z1, .int z2] h n (some (.int res)) h n 0 0 := by
  refine g_met (cc := cX8_combine) (nL := 3) (ret := (some .int)) (by decide) (Nat.le_of_ble_eq_true rfl) (fun p e s m below meth c ls X hnm hl hI => ?_)
  have hl : lv_has ls 3 [(0, .ref z0), (1, .int z1), (2, .int z2)] := hl
  have hx := X.1
  have hb := X.2.1
  unfold f_X8_combine at hr
  refine lv_aload_n hx hb dX8_combine_0 rfl (lv_at hl 0 rfl) ?_
  refine g_getI (C := RX8) (T := TX8) (N := 3) X hI in_X8 rfl 2 (by decide) q915 (fun _ h9 => h9) hr dX8_combine_1 (fun v1 hr => ?_)
  refine lv_if_eq (tgt := 13) hx hb dX8_combine_4 (by decide) (fun c9 => ?_) (fun c9 => ?_)
  · replace hr := gIf_t c9 hr
    refine lv_iload_n hx hb dX8_combine_13 rfl (lv_at hl 1 rfl) ?_
    refine lv_iload_n hx hb dX8_combine_14 rfl (lv_at hl 2 rfl) ?_
    refine va_mmin hx hb (X.2.2.1.trans hl.1.symm) X.2.2.2.2.1 (X.w q942) (X.w q282) (X.w q110) (X.w q283) (Nat.le_of_ble_eq_true rfl) (Nat.le_of_ble_eq_true rfl) (Nat.le_refl _) (Nat.le_refl _) dX8_combine_15 ?_
    have hr := gS_i hr
    subst hr
    exact g_iret X hI rfl (Nat.le_refl _) (Nat.le_refl _) dX8_combine_18
  · replace hr := gIf_f c9 hr
    refine lv_iload_n hx hb dX8_combine_7 rfl (lv_at hl 1 rfl) ?_
    refine lv_iload_n hx hb dX8_combine_8 rfl (lv_at hl 2 rfl) ?_
    refine lv_iadd hx hb dX8_combine_9 ?_
    refine lv_goto (tgt := 18) hx hb dX8_combine_10 (by decide) ?_
    have hr := gS_i hr
    subst hr
    exact g_iret X hI rfl (Nat.le_refl _) (Nat.le_refl _) dX8_combine_18
abbrev rm_X8_value : Room := { frames := 4, cells := 0, slots := 0, locals := 85 }
theorem hd_X8_value : yX8_value.cls = RX8 ∧ yX8_value.cls ≠ "java/lang/invoke/MethodHandle" ∧ yX8_value.cls ≠ "java/lang/invoke/VarHandle" ∧ (parseMethodDescriptor yX8_value.desc).map (fun d => d.parameters.length) = some 3 := by decide +kernel
set_option maxHeartbeats 2000000 in
theorem w_X8_value_L55 {h : gH} {n : Nat} {r30 : Int32 → Int32 → Option Int32} {z0 : Nat} {z1 : Nat} {z2 : Int32} {z3 : Int32} {z5 : Int32} {z6 : Int32} {res : Int32} (X : gXX x base RX8 cX8_value 10 (some .int) p l s m args meth c) (Hr30 : ∀ {z4 : Int32} {z5 : Int32} {H : Heap} {locs : List Loc} {ls : Array Slot}, r30 z4 z5 = some res → gI x base s.heap h n H locs → lv_has ls 10 [(0, .ref z0), (1, .ref z1), (2, .int z2), (3, .int z3), (4, .int z4), (5, .int z5)] → W p l e rm_X8_value s m args below meth c H locs 0 0 (MQ below (gQ x base (some (.int res)) h n) args s 0 0 (fun q => base ≤ q)) (F0 m 30 ls [])) : ∀ (k : Nat) {z4 : Int32} {z7 : Int32} {H : Heap} {locs : List Loc} {ls : Array Slot}, gL2 (f_X8_value_L55 r30 z0 z1 z2 z3 z5 z6 h) k z4 z7 = some res → gI x base s.heap h n H locs → lv_has ls 10 [(0, .ref z0), (1, .ref z1), (2, .int z2), (3, .int z3), (4, .int z4), (5, .int z5), (6, .int z6), (7, .int z7)] → W p l e rm_X8_value s m args below meth c H locs 0 0 (MQ below (gQ x base (some (.int res)) h n) args s 0 0 (fun q => base ≤ q)) (F0 m 55 ls []) := by
  have hx := X.1
  have hb := X.2.1
  intro k
  induction k with
  | zero =>
    intros
    rename_i hr _ _
    exact nomatch (show (none : Option _) = some _ from hr)
  | succ k ih =>
    intro z4 z7 H locs ls hr hI hl
    replace hr : f_X8_value_L55 r30 z0 z1 z2 z3 z5 z6 h (gL2 (f_X8_value_L55 r30 z0 z1 z2 z3 z5 z6 h) k) z4 z7 = some res := hr
    unfold f_X8_value_L55 at hr
    refine lv_iload hx hb dX8_value_55 (lv_at hl 7 rfl) ?_
    refine lv_iload_n hx hb dX8_value_57 rfl (lv_at hl 3 rfl) ?_
    refine lv_icmp_gt (tgt := 126) hx hb dX8_value_58 (by decide) (fun c9 => ?_) (fun c9 => ?_)
    · replace hr := gIf_t c9 hr
      refine lv_iinc (v := (z5 + (1 : Int32))) (lv' := [(5, .int (z5 + (1 : Int32))), (0, .ref z0), (1, .ref z1), (2, .int z2), (3, .int z3), (4, .int z4), (6, .int z6), (7, .int z7)]) hx hb dX8_value_126 hl (k := 5) rfl (g_inc (by decide)) (by decide) rfl (fun ls hl => ?_)
      refine lv_goto (tgt := 30) hx hb dX8_value_129 (by decide) ?_
      exact Hr30 hr hI (lv_sub hl [1, 2, 3, 4, 5, 0] rfl)
    · replace hr := gIf_f c9 hr
      refine lv_iload hx hb dX8_value_61 (lv_at hl 6 rfl) ?_
      refine lv_iload_n hx hb dX8_value_63 rfl (lv_at hl 2 rfl) ?_
      refine lv_icmp_eq (tgt := 126) hx hb dX8_value_64 (by decide) (fun c9 => ?_) (fun c9 => ?_)
      · replace hr := gIf_t c9 hr
        refine lv_iinc (v := (z5 + (1 : Int32))) (lv' := [(5, .int (z5 + (1 : Int32))), (0, .ref z0), (1, .ref z1), (2, .int z2), (3, .int z3), (4, .int z4), (6, .int z6), (7, .int z7)]) hx hb dX8_value_126 hl (k := 5) rfl (g_inc (by decide)) (by decide) rfl (fun ls hl => ?_)
        refine lv_goto (tgt := 30) hx hb dX8_value_129 (by decide) ?_
        exact Hr30 hr hI (lv_sub hl [1, 2, 3, 4, 5, 0] rfl)
      · replace hr := gIf_f c9 hr
        refine lv_aload_n hx hb dX8_value_67 rfl (lv_at hl 1 rfl) ?_
        refine lv_iload hx hb dX8_value_68 (lv_at hl 6 rfl) ?_
        refine g_aaldG X hI hr dX8_value_70 (fun v5 hr => ?_)
        refine lv_iload hx hb dX8_value_71 (lv_at hl 7 rfl) ?_
        refine g_iald X hI hr dX8_value_73 (fun v6 hr => ?_)
        refine lv_istore (lv' := [(8, .int v6), (0, .ref z0), (1, .ref z1), (2, .int z2), (3, .int z3), (4, .int z4), (5, .int z5), (6, .int z6), (7, .int z7)]) hx hb dX8_value_74 hl (by decide) rfl (fun ls hl => ?_)
        refine lv_iload hx hb dX8_value_76 (lv_at hl 0 rfl) ?_
        refine lv_iconst (v := (-1)) hx hb dX8_value_78 (by decide) ?_
        refine lv_icmp_ne (tgt := 86) hx hb dX8_value_79 (by decide) (fun c9 => ?_) (fun c9 => ?_)
        · replace hr := gIf_f c9 hr
          refine lv_aload_n hx hb dX8_value_86 rfl (lv_at hl 1 rfl) ?_
          refine lv_iload hx hb dX8_value_87 (lv_at hl 0 rfl) ?_
          refine lv_aload_n hx hb dX8_value_89 rfl (lv_at hl 1 rfl) ?_
          refine g_getA (C := RX8) (T := TX8) (N := 3) X hI in_X8 rfl 1 (by decide) q914 (fun _ h9 => h9) hr dX8_value_90 (fun v7 hr => ?_)
          refine lv_iload hx hb dX8_value_93 (lv_at hl 6 rfl) ?_
          obtain ⟨_, ho8, hr⟩ := gB_i hr
          obtain ⟨v10, hc9, hr⟩ := gB_i hr
          refine gRun_a (g_runV X hI (w_X2_sibling hc9) ho8 rfl hl (lw_V q936 q666 q667 q97 q668) rfl rfl hd_X2_sibling ⟨Nat.le_of_ble_eq_true rfl, Nat.le_of_ble_eq_true rfl⟩ (as := [.int z5]) (rest := [.int v6, .ref z0]) rfl rfl (Nat.le_of_ble_eq_true rfl) ⟨(Nat.le_refl _), (Nat.le_refl _)⟩ dX8_value_95) (fun H locs hI => ?_)
          refine lv_iload hx hb dX8_value_98 (lv_at hl 8 rfl) ?_
          refine lv_iload_n hx hb dX8_value_100 rfl (lv_at hl 4 rfl) ?_
          refine lv_iconst (v := 1) hx hb dX8_value_101 (by decide) ?_
          refine lv_isub hx hb dX8_value_102 ?_
          obtain ⟨_, ho11, hr⟩ := gB_i hr
          obtain ⟨v13, hc12, hr⟩ := gB_i hr
          refine gRun_i (g_runV X hI (w_X5_worth hc12) ho11 rfl hl (lw_V q937 q871 q872 q121 q873) rfl rfl hd_X5_worth ⟨Nat.le_of_ble_eq_true rfl, Nat.le_of_ble_eq_true rfl⟩ (as := [.int z7, .int (z3 - (1 : Int32))]) (rest := [.int v6, .ref z0]) rfl rfl (Nat.le_of_ble_eq_true rfl) ⟨(Nat.le_refl _), (Nat.le_refl _)⟩ dX8_value_103) (fun H locs hI => ?_)
          obtain ⟨_, ho14, hr⟩ := gB_i hr
          obtain ⟨v16, hc15, hr⟩ := gB_i hr
          refine gRun_i (g_runV X hI (w_X8_combine hc15) ho14 rfl hl (lw_V q938 q940 qs9 q128 q941) rfl rfl hd_X8_combine ⟨Nat.le_of_ble_eq_true rfl, Nat.le_of_ble_eq_true rfl⟩ (as := [.int v6, .int v13]) (rest := []) rfl rfl (Nat.le_of_ble_eq_true rfl) ⟨(Nat.le_refl _), (Nat.le_refl _)⟩ dX8_value_106) (fun H locs hI => ?_)
          refine lv_istore (lv' := [(9, .int v16), (8, .int v6), (0, .ref z0), (1, .ref z1), (2, .int z2), (3, .int z3), (4, .int z4), (5, .int z5), (6, .int z6), (7, .int z7)]) hx hb dX8_value_109 hl (by decide) rfl (fun ls hl => ?_)
          refine lv_iload hx hb dX8_value_111 (lv_at hl 6 rfl) ?_
          refine lv_iload hx hb dX8_value_113 (lv_at hl 0 rfl) ?_
          refine va_mmax hx hb (X.2.2.1.trans hl.1.symm) X.2.2.2.2.1 (X.w q943) (X.w q264) (X.w q110) (X.w q265) (Nat.le_of_ble_eq_true rfl) (Nat.le_of_ble_eq_true rfl) (Nat.le_refl _) (Nat.le_refl _) dX8_value_115 ?_
          refine lv_istore (lv' := [(4, .int (if z4 < v16 then v16 else z4)), (9, .int v16), (8, .int v6), (0, .ref z0), (1, .ref z1), (2, .int z2), (3, .int z3), (5, .int z5), (6, .int z6), (7, .int z7)]) hx hb dX8_value_118 hl (by decide) rfl (fun ls hl => ?_)
          refine lv_iinc (v := (z7 + (1 : Int32))) (lv' := [(7, .int (z7 + (1 : Int32))), (4, .int (if z4 < v16 then v16 else z4)), (9, .int v16), (8, .int v6), (0, .ref z0), (1, .ref z1), (2, .int z2), (3, .int z3), (5, .int z5), (6, .int z6)]) hx hb dX8_value_120 hl (k := 9) rfl (g_inc (by decide)) (by decide) rfl (fun ls hl => ?_)
          refine lv_goto (tgt := 55) hx hb dX8_value_123 (by decide) ?_
          exact ih hr hI (lv_sub hl [4, 5, 6, 7, 1, 8, 9, 0] rfl)
        · replace hr := gIf_t c9 hr
          refine lv_iconst (v := (-1)) hx hb dX8_value_82 (by decide) ?_
          refine lv_goto (tgt := 109) hx hb dX8_value_83 (by decide) ?_
          refine lv_istore (lv' := [(9, .int (-1 : Int32)), (8, .int v6), (0, .ref z0), (1, .ref z1), (2, .int z2), (3, .int z3), (4, .int z4), (5, .int z5), (6, .int z6), (7, .int z7)]) hx hb dX8_value_109 hl (by decide) rfl (fun ls hl => ?_)
          refine lv_iload hx hb dX8_value_111 (lv_at hl 6 rfl) ?_
          refine lv_iload hx hb dX8_value_113 (lv_at hl 0 rfl) ?_
          refine va_mmax hx hb (X.2.2.1.trans hl.1.symm) X.2.2.2.2.1 (X.w q943) (X.w q264) (X.w q110) (X.w q265) (Nat.le_of_ble_eq_true rfl) (Nat.le_of_ble_eq_true rfl) (Nat.le_refl _) (Nat.le_refl _) dX8_value_115 ?_
          refine lv_istore (lv' := [(4, .int (if z4 < (-1 : Int32) then (-1 : Int32) else z4)), (9, .int (-1 : Int32)), (8, .int v6), (0, .ref z0), (1, .ref z1), (2, .int z2), (3, .int z3), (5, .int z5), (6, .int z6), (7, .int z7)]) hx hb dX8_value_118 hl (by decide) rfl (fun ls hl => ?_)
          refine lv_iinc (v := (z7 + (1 : Int32))) (lv' := [(7, .int (z7 + (1 : Int32))), (4, .int (if z4 < (-1 : Int32) then (-1 : Int32) else z4)), (9, .int (-1 : Int32)), (8, .int v6), (0, .ref z0), (1, .ref z1), (2, .int z2), (3, .int z3), (5, .int z5), (6, .int z6)]) hx hb dX8_value_120 hl (k := 9) rfl (g_inc (by decide)) (by decide) rfl (fun ls hl => ?_)
          refine lv_goto (tgt := 55) hx hb dX8_value_123 (by decide) ?_
          exact ih hr hI (lv_sub hl [4, 5, 6, 7, 1, 8, 9, 0] rfl)
set_option maxHeartbeats 2000000 in
theorem w_X8_value_L30 {h : gH} {n : Nat} {z0 : Nat} {z1 : Nat} {z2 : Int32} {z3 : Int32} {res : Int32} (X : gXX x base RX8 cX8_value 10 (some .int) p l s m args meth c) : ∀ (k : Nat) {z4 : Int32} {z5 : Int32} {H : Heap} {locs : List Loc} {ls : Array Slot}, gL2 (f_X8_value_L30 z0 z1 z2 z3 h) k z4 z5 = some res → gI x base s.heap h n H locs → lv_has ls 10 [(0, .ref z0), (1, .ref z1), (2, .int z2), (3, .int z3), (4, .int z4), (5, .int z5)] → W p l e rm_X8_value s m args below meth c H locs 0 0 (MQ below (gQ x base (some (.int res)) h n) args s 0 0 (fun q => base ≤ q)) (F0 m 30 ls []) := by
  have hx := X.1
  have hb := X.2.1
  intro k
  induction k with
  | zero =>
    intros
    rename_i hr _ _
    exact nomatch (show (none : Option _) = some _ from hr)
  | succ k ih =>
    intro z4 z5 H locs ls hr hI hl
    replace hr : f_X8_value_L30 z0 z1 z2 z3 h (gL2 (f_X8_value_L30 z0 z1 z2 z3 h) k) z4 z5 = some res := hr
    unfold f_X8_value_L30 at hr
    refine lv_iload hx hb dX8_value_30 (lv_at hl 5 rfl) ?_
    refine lv_aload_n hx hb dX8_value_32 rfl (lv_at hl 0 rfl) ?_
    refine g_getA (C := RX8) (T := TX8) (N := 3) X hI in_X8 rfl 1 (by decide) q914 (fun _ h9 => h9) hr dX8_value_33 (fun v1 hr => ?_)
    obtain ⟨_, ho2, hr⟩ := gB_i hr
    obtain ⟨v4, hc3, hr⟩ := gB_i hr
    refine gRun_i (g_runV X hI (w_X2_size hc3) ho2 rfl hl (lw_V q928 q643 q644 q97 q645) rfl rfl hd_X2_size ⟨Nat.le_of_ble_eq_true rfl, Nat.le_of_ble_eq_true rfl⟩ (as := []) (rest := [.int z5]) rfl rfl (Nat.le_of_ble_eq_true rfl) ⟨(Nat.le_refl _), (Nat.le_refl _)⟩ dX8_value_36) (fun H locs hI => ?_)
    refine lv_icmp_ge (tgt := 132) hx hb dX8_value_39 (by decide) (fun c9 => ?_) (fun c9 => ?_)
    · replace hr := gIf_t c9 hr
      refine lv_iload hx hb dX8_value_132 (lv_at hl 4 rfl) ?_
      have hr := gS_i hr
      subst hr
      exact g_iret X hI rfl (Nat.le_refl _) (Nat.le_refl _) dX8_value_134
    · replace hr := gIf_f c9 hr
      refine lv_iload_n hx hb dX8_value_42 rfl (lv_at hl 2 rfl) ?_
      refine lv_iconst (v := 1) hx hb dX8_value_43 (by decide) ?_
      refine lv_iload hx hb dX8_value_44 (lv_at hl 5 rfl) ?_
      refine lv_ishl hx hb dX8_value_46 ?_
      refine lv_iconst (v := (-1)) hx hb dX8_value_47 (by decide) ?_
      refine lv_ixor hx hb dX8_value_48 ?_
      refine lv_iand hx hb dX8_value_49 ?_
      refine lv_istore (lv' := [(6, .int (z2 &&& (((1 : Int32) <<< (z5 &&& 31)) ^^^ (-1 : Int32)))), (0, .ref z0), (1, .ref z1), (2, .int z2), (3, .int z3), (4, .int z4), (5, .int z5)]) hx hb dX8_value_50 hl (by decide) rfl (fun ls hl => ?_)
      refine lv_iconst (v := 0) hx hb dX8_value_52 (by decide) ?_
      refine lv_istore (lv' := [(7, .int (0 : Int32)), (6, .int (z2 &&& (((1 : Int32) <<< (z5 &&& 31)) ^^^ (-1 : Int32)))), (0, .ref z0), (1, .ref z1), (2, .int z2), (3, .int z3), (4, .int z4), (5, .int z5)]) hx hb dX8_value_53 hl (by decide) rfl (fun ls hl => ?_)
      exact w_X8_value_L55 X ih gN hr hI (lv_sub hl [2, 3, 4, 5, 6, 7, 1, 0] rfl)
set_option maxHeartbeats 2000000 in
theorem w_X8_value_J25 {h : gH} {n : Nat} {z0 : Nat} {z1 : Nat} {z2 : Int32} {z3 : Int32} {s0 : Int32} {res : Int32} (X : gXX x base RX8 cX8_value 10 (some .int) p l s m args meth c) {H : Heap} {locs : List Loc} {ls : Array Slot} (hr : f_X8_value_J25 z0 z1 z2 z3 s0 h = some res) (hI : gI x base s.heap h n H locs) (hl : lv_has ls 10 [(0, .ref z0), (1, .ref z1), (2, .int z2), (3, .int z3)]) : W p l e rm_X8_value s m args below meth c H locs 0 0 (MQ below (gQ x base (some (.int res)) h n) args s 0 0 (fun q => base ≤ q)) (F0 m 25 ls [.int s0]) := by
  have hx := X.1
  have hb := X.2.1
  unfold f_X8_value_J25 at hr
  refine lv_istore (lv' := [(4, .int s0), (0, .ref z0), (1, .ref z1), (2, .int z2), (3, .int z3)]) hx hb dX8_value_25 hl (by decide) rfl (fun ls hl => ?_)
  refine lv_iconst (v := 0) hx hb dX8_value_27 (by decide) ?_
  refine lv_istore (lv' := [(5, .int (0 : Int32)), (4, .int s0), (0, .ref z0), (1, .ref z1), (2, .int z2), (3, .int z3)]) hx hb dX8_value_28 hl (by decide) rfl (fun ls hl => ?_)
  exact w_X8_value_L30 X gN hr hI (lv_sub hl [2, 3, 4, 5, 1, 0] rfl)
set_option maxHeartbeats 2000000 in
theorem w_X8_value_J24 {h : gH} {n : Nat} {z0 : Nat} {z1 : Nat} {z2 : Int32} {z3 : Int32} {res : Int32} (X : gXX x base RX8 cX8_value 10 (some .int) p l s m args meth c) {H : Heap} {locs : List Loc} {ls : Array Slot} (hr : f_X8_value_J24 z0 z1 z2 z3 h = some res) (hI : gI x base s.heap h n H locs) (hl : lv_has ls 10 [(0, .ref z0), (1, .ref z1), (2, .int z2), (3, .int z3)]) : W p l e rm_X8_value s m args below meth c H locs 0 0 (MQ below (gQ x base (some (.int res)) h n) args s 0 0 (fun q => base ≤ q)) (F0 m 24 ls []) := by
  have hx := X.1
  have hb := X.2.1
  unfold f_X8_value_J24 at hr
  refine lv_iconst (v := (-1)) hx hb dX8_value_24 (by decide) ?_
  exact w_X8_value_J25 X hr hI (lv_sub hl [0, 1, 2, 3] rfl)
set_option maxHeartbeats 2000000 in
theorem w_X8_value {l : Launch} {x : gV} {base : Nat} {z0 : Nat} {z1 : Nat} {z2 : Int32} {z3 : Int32} {h : gH} {n : Nat} {res : Int32} (hr : f_X8_value z0 z1 z2 z3 h = some res) : gM l yX8_value (ws_ yX8_value cX8_value 10 (some .int)) rm_X8_value x base [.ref z0, .ref z1, .int z2, .int z3] h n (some (.int res)) h n 0 0 := by
  refine g_met (cc := cX8_value) (nL := 10) (ret := (some .int)) (by decide) (Nat.le_of_ble_eq_true rfl) (fun p e s m below meth c ls X hnm hl hI => ?_)
  have hl : lv_has ls 10 [(0, .ref z0), (1, .ref z1), (2, .int z2), (3, .int z3)] := hl
  have hx := X.1
  have hb := X.2.1
  unfold f_X8_value at hr
  refine lv_iload_n hx hb dX8_value_0 rfl (lv_at hl 2 rfl) ?_
  refine lv_if_ne (tgt := 24) hx hb dX8_value_1 (by decide) (fun c9 => ?_) (fun c9 => ?_)
  · replace hr := gIf_f c9 hr
    exact w_X8_value_J24 X hr hI (lv_sub hl [0, 1, 2, 3] rfl)
  · replace hr := gIf_t c9 hr
    refine lv_iload_n hx hb dX8_value_4 rfl (lv_at hl 3 rfl) ?_
    refine lv_if_ne (tgt := 24) hx hb dX8_value_5 (by decide) (fun c9 => ?_) (fun c9 => ?_)
    · replace hr := gIf_f c9 hr
      exact w_X8_value_J24 X hr hI (lv_sub hl [0, 1, 2, 3] rfl)
    · replace hr := gIf_t c9 hr
      refine lv_aload_n hx hb dX8_value_8 rfl (lv_at hl 0 rfl) ?_
      refine g_getI (C := RX8) (T := TX8) (N := 3) X hI in_X8 rfl 2 (by decide) q915 (fun _ h9 => h9) hr dX8_value_9 (fun v17 hr => ?_)
      refine lv_if_eq (tgt := 19) hx hb dX8_value_12 (by decide) (fun c9 => ?_) (fun c9 => ?_)
      · replace hr := gIf_t c9 hr
        refine lv_ldc (v := 2147483647) hx hb X.2.2.2.2.1 (X.w q935) dX8_value_19 ?_
        refine lv_goto (tgt := 25) hx hb dX8_value_21 (by decide) ?_
        exact w_X8_value_J25 X hr hI (lv_sub hl [0, 1, 2, 3] rfl)
      · replace hr := gIf_f c9 hr
        refine lv_iconst (v := 0) hx hb dX8_value_15 (by decide) ?_
        refine lv_goto (tgt := 25) hx hb dX8_value_16 (by decide) ?_
        exact w_X8_value_J25 X hr hI (lv_sub hl [0, 1, 2, 3] rfl)
abbrev rm_X8_run : Room := { frames := 5, cells := 65, slots := 1664, locals := 114 }
theorem hd_X8_run : yX8_run.cls = RX8 ∧ yX8_run.cls ≠ "java/lang/invoke/MethodHandle" ∧ yX8_run.cls ≠ "java/lang/invoke/VarHandle" ∧ (parseMethodDescriptor yX8_run.desc).map (fun d => d.parameters.length) = some 0 := by decide +kernel
set_option maxHeartbeats 2000000 in
theorem w_X8_run_J71 {h : gH} {n : Nat} {r34 : Int32 → gH → Option (Int32 × gH × Nat)} {z0 : Nat} {z1 : Int32} {z2 : Int32} {z3 : Nat} {b34 : Nat} {d34 : Nat} {z4 : Int32} {res : Int32 × gH × Nat} (X : gXX x base RX8 cX8_run 6 (some .int) p l s m args meth c) (hst : l.stackTraces = false) (Hr34 : ∀ {z4 : Int32} {h : gH} {H : Heap} {locs : List Loc} {ls : Array Slot} {cells slots : Nat}, r34 z4 h = some res → gI x base s.heap h n H locs → lv_has ls 6 [(0, .ref z0), (1, .int z1), (2, .int z2), (3, .ref z3), (4, .int z4)] → (cells + b34 ≤ 65 ∧ slots + d34 ≤ 1664) → W p l e rm_X8_run s m args below meth c H locs cells slots (MQ below (gQ x base (some (.int res.1)) res.2.1 res.2.2) args s 65 1664 (fun q => base ≤ q)) (F0 m 34 ls [])) {H : Heap} {locs : List Loc} {ls : Array Slot} {cells slots : Nat} (hr : f_X8_run_J71 r34 z0 z1 z2 z3 z4 h n = some res) (hI : gI x base s.heap h n H locs) (hl : lv_has ls 6 [(0, .ref z0), (1, .int z1), (2, .int z2), (3, .ref z3), (4, .int z4)]) (hcc : cells + (0 + b34) ≤ 65 ∧ slots + (0 + d34) ≤ 1664) : W p l e rm_X8_run s m args below meth c H locs cells slots (MQ below (gQ x base (some (.int res.1)) res.2.1 res.2.2) args s 65 1664 (fun q => base ≤ q)) (F0 m 71 ls []) := by
  have hx := X.1
  have hb := X.2.1
  unfold f_X8_run_J71 at hr
  refine lv_aload_n hx hb dX8_run_71 rfl (lv_at hl 0 rfl) ?_
  refine g_getA (C := RX8) (T := TX8) (N := 3) X hI in_X8 rfl 0 (by decide) q913 (fun _ h9 => h9) hr dX8_run_72 (fun v14 hr => ?_)
  refine lv_iload hx hb dX8_run_75 (lv_at hl 4 rfl) ?_
  refine lv_aload_n hx hb dX8_run_77 rfl (lv_at hl 3 rfl) ?_
  refine lv_iload hx hb dX8_run_78 (lv_at hl 4 rfl) ?_
  refine g_aaldG X hI hr dX8_run_80 (fun v15 hr => ?_)
  refine lv_iload_n hx hb dX8_run_81 rfl (lv_at hl 1 rfl) ?_
  refine g_iald X hI hr dX8_run_82 (fun v16 hr => ?_)
  refine g_iast X hI hr dX8_run_83 (fun h17 H locs hI hr => ?_)
  refine lv_iinc (v := (z4 + (1 : Int32))) (lv' := [(4, .int (z4 + (1 : Int32))), (0, .ref z0), (1, .int z1), (2, .int z2), (3, .ref z3)]) hx hb dX8_run_84 hl (k := 4) rfl (g_inc (by decide)) (by decide) rfl (fun ls hl => ?_)
  refine lv_goto (tgt := 34) hx hb dX8_run_87 (by decide) ?_
  exact Hr34 hr hI (lv_sub hl [1, 2, 3, 4, 0] rfl) (by omega)
set_option maxHeartbeats 2000000 in
theorem w_X8_run_L43 {n : Nat} {r34 : Int32 → gH → Option (Int32 × gH × Nat)} {z0 : Nat} {z1 : Int32} {z2 : Int32} {z3 : Nat} {b34 : Nat} {d34 : Nat} {z4 : Int32} {res : Int32 × gH × Nat} (X : gXX x base RX8 cX8_run 6 (some .int) p l s m args meth c) (hst : l.stackTraces = false) (Hr34 : ∀ {z4 : Int32} {h : gH} {H : Heap} {locs : List Loc} {ls : Array Slot} {cells slots : Nat}, r34 z4 h = some res → gI x base s.heap h n H locs → lv_has ls 6 [(0, .ref z0), (1, .int z1), (2, .int z2), (3, .ref z3), (4, .int z4)] → (cells + b34 ≤ 65 ∧ slots + d34 ≤ 1664) → W p l e rm_X8_run s m args below meth c H locs cells slots (MQ below (gQ x base (some (.int res.1)) res.2.1 res.2.2) args s 65 1664 (fun q => base ≤ q)) (F0 m 34 ls [])) : ∀ (k : Nat) {z5 : Int32} {h : gH} {H : Heap} {locs : List Loc} {ls : Array Slot} {cells slots : Nat}, gL2 (f_X8_run_L43 r34 z0 z1 z2 z3 z4 n) k z5 h = some res → gI x base s.heap h n H locs → lv_has ls 6 [(0, .ref z0), (1, .int z1), (2, .int z2), (3, .ref z3), (4, .int z4), (5, .int z5)] → (cells + (k * 0 + (0 + b34)) ≤ 65 ∧ slots + (k * 0 + (0 + d34)) ≤ 1664) → W p l e rm_X8_run s m args below meth c H locs cells slots (MQ below (gQ x base (some (.int res.1)) res.2.1 res.2.2) args s 65 1664 (fun q => base ≤ q)) (F0 m 43 ls []) := by
  have hx := X.1
  have hb := X.2.1
  intro k
  induction k with
  | zero =>
    intros
    rename_i hr _ _ _
    exact nomatch (show (none : Option _) = some _ from hr)
  | succ k ih =>
    intro z5 h H locs ls cells slots hr hI hl hcc
    replace hr : f_X8_run_L43 r34 z0 z1 z2 z3 z4 n (gL2 (f_X8_run_L43 r34 z0 z1 z2 z3 z4 n) k) z5 h = some res := hr
    unfold f_X8_run_L43 at hr
    refine lv_iload hx hb dX8_run_43 (lv_at hl 5 rfl) ?_
    refine lv_iload_n hx hb dX8_run_45 rfl (lv_at hl 1 rfl) ?_
    refine lv_icmp_gt (tgt := 71) hx hb dX8_run_46 (by decide) (fun c9 => ?_) (fun c9 => ?_)
    · replace hr := gIf_t c9 hr
      exact w_X8_run_J71 X hst Hr34 hr hI (lv_sub hl [0, 1, 2, 3, 4] rfl) (by omega)
    · replace hr := gIf_f c9 hr
      refine lv_aload_n hx hb dX8_run_49 rfl (lv_at hl 3 rfl) ?_
      refine lv_iload hx hb dX8_run_50 (lv_at hl 4 rfl) ?_
      refine g_aaldG X hI hr dX8_run_52 (fun v18 hr => ?_)
      refine lv_iload hx hb dX8_run_53 (lv_at hl 5 rfl) ?_
      refine lv_aload_n hx hb dX8_run_55 rfl (lv_at hl 0 rfl) ?_
      refine lv_aload_n hx hb dX8_run_56 rfl (lv_at hl 3 rfl) ?_
      refine lv_iload hx hb dX8_run_57 (lv_at hl 4 rfl) ?_
      refine lv_iload hx hb dX8_run_59 (lv_at hl 5 rfl) ?_
      obtain ⟨_, ho19, hr⟩ := gB_i hr
      obtain ⟨v21, hc20, hr⟩ := gB_i hr
      refine gRun_i (g_runV X hI (w_X8_value hc20) ho19 rfl hl (lw_V q931 q933 qs8 q128 q934) rfl rfl hd_X8_value ⟨Nat.le_of_ble_eq_true rfl, Nat.le_of_ble_eq_true rfl⟩ (as := [.ref z3, .int z4, .int z5]) (rest := [.int z5, .ref v18]) rfl rfl (Nat.le_of_ble_eq_true rfl) ⟨(show cells + 0 ≤ 65 from by omega), (show slots + 0 ≤ 1664 from by omega)⟩ dX8_run_61) (fun H locs hI => ?_)
      refine g_iast X hI hr dX8_run_64 (fun h22 H locs hI hr => ?_)
      refine lv_iinc (v := (z5 + (1 : Int32))) (lv' := [(5, .int (z5 + (1 : Int32))), (0, .ref z0), (1, .int z1), (2, .int z2), (3, .ref z3), (4, .int z4)]) hx hb dX8_run_65 hl (k := 5) rfl (g_inc (by decide)) (by decide) rfl (fun ls hl => ?_)
      refine lv_goto (tgt := 43) hx hb dX8_run_68 (by decide) ?_
      exact ih hr hI (lv_sub hl [1, 2, 3, 4, 5, 0] rfl) (by omega)
set_option maxHeartbeats 2000000 in
theorem w_X8_run_L34 {n : Nat} {z0 : Nat} {z1 : Int32} {z2 : Int32} {z3 : Nat} {res : Int32 × gH × Nat} (X : gXX x base RX8 cX8_run 6 (some .int) p l s m args meth c) (hst : l.stackTraces = false) : ∀ (k : Nat) {z4 : Int32} {h : gH} {H : Heap} {locs : List Loc} {ls : Array Slot} {cells slots : Nat}, gL2 (f_X8_run_L34 z0 z1 z2 z3 n) k z4 h = some res → gI x base s.heap h n H locs → lv_has ls 6 [(0, .ref z0), (1, .int z1), (2, .int z2), (3, .ref z3), (4, .int z4)] → (cells + (k * 0 + (0)) ≤ 65 ∧ slots + (k * 0 + (0)) ≤ 1664) → W p l e rm_X8_run s m args below meth c H locs cells slots (MQ below (gQ x base (some (.int res.1)) res.2.1 res.2.2) args s 65 1664 (fun q => base ≤ q)) (F0 m 34 ls []) := by
  have hx := X.1
  have hb := X.2.1
  intro k
  induction k with
  | zero =>
    intros
    rename_i hr _ _ _
    exact nomatch (show (none : Option _) = some _ from hr)
  | succ k ih =>
    intro z4 h H locs ls cells slots hr hI hl hcc
    replace hr : f_X8_run_L34 z0 z1 z2 z3 n (gL2 (f_X8_run_L34 z0 z1 z2 z3 n) k) z4 h = some res := hr
    unfold f_X8_run_L34 at hr
    refine lv_iload hx hb dX8_run_34 (lv_at hl 4 rfl) ?_
    refine lv_iload_n hx hb dX8_run_36 rfl (lv_at hl 2 rfl) ?_
    refine lv_icmp_gt (tgt := 90) hx hb dX8_run_37 (by decide) (fun c9 => ?_) (fun c9 => ?_)
    · replace hr := gIf_t c9 hr
      refine lv_aload_n hx hb dX8_run_90 rfl (lv_at hl 0 rfl) ?_
      refine g_getA (C := RX8) (T := TX8) (N := 3) X hI in_X8 rfl 0 (by decide) q913 (fun _ h9 => h9) hr dX8_run_91 (fun v12 hr => ?_)
      refine lv_iload_n hx hb dX8_run_94 rfl (lv_at hl 2 rfl) ?_
      refine g_iald X hI hr dX8_run_95 (fun v13 hr => ?_)
      have hr := gS_i hr
      subst hr
      exact g_iret X hI rfl (show cells ≤ 65 from by omega) (show slots ≤ 1664 from by omega) dX8_run_96
    · replace hr := gIf_f c9 hr
      refine lv_iconst (v := 0) hx hb dX8_run_40 (by decide) ?_
      refine lv_istore (lv' := [(5, .int (0 : Int32)), (0, .ref z0), (1, .int z1), (2, .int z2), (3, .ref z3), (4, .int z4)]) hx hb dX8_run_41 hl (by decide) rfl (fun ls hl => ?_)
      exact w_X8_run_L43 X hst ih gN hr hI (lv_sub hl [1, 2, 3, 4, 5, 0] rfl) (by omega)
set_option maxHeartbeats 2000000 in
theorem w_X8_run {l : Launch} {x : gV} {base : Nat} (hst : l.stackTraces = false) {z0 : Nat} {h : gH} {n : Nat} {res : Int32 × gH × Nat} (hr : f_X8_run z0 h n = some res) : gM l yX8_run (ws_ yX8_run cX8_run 6 (some .int)) rm_X8_run x base [.ref z0] h n (some (.int res.1)) res.2.1 res.2.2 65 1664 := by
  refine g_met (cc := cX8_run) (nL := 6) (ret := (some .int)) (by decide) (Nat.le_of_ble_eq_true rfl) (fun p e s m below meth c ls X hnm hl hI => ?_)
  have hl : lv_has ls 6 [(0, .ref z0)] := hl
  have hx := X.1
  have hb := X.2.1
  have hcc : 0 + 65 ≤ 65 ∧ 0 + 1664 ≤ 1664 := ⟨Nat.le_refl _, Nat.le_refl _⟩
  unfold f_X8_run at hr
  refine lv_aload_n hx hb dX8_run_0 rfl (lv_at hl 0 rfl) ?_
  refine g_getA (C := RX8) (T := TX8) (N := 3) X hI in_X8 rfl 1 (by decide) q914 (fun _ h9 => h9) hr dX8_run_1 (fun v1 hr => ?_)
  obtain ⟨_, ho2, hr⟩ := gB_i hr
  obtain ⟨v4, hc3, hr⟩ := gB_i hr
  refine gRun_i (g_runV X hI (w_X2_cells hc3) ho2 rfl hl (lw_V q927 q687 q688 q97 q689) rfl rfl hd_X2_cells ⟨Nat.le_of_ble_eq_true rfl, Nat.le_of_ble_eq_true rfl⟩ (as := []) (rest := []) rfl rfl (Nat.le_of_ble_eq_true rfl) ⟨(show 0 + 0 ≤ 65 from by omega), (show 0 + 0 ≤ 1664 from by omega)⟩ dX8_run_4) (fun H locs hI => ?_)
  refine lv_istore_n (lv' := [(1, .int v4), (0, .ref z0)]) hx hb dX8_run_7 rfl hl (by decide) rfl (fun ls hl => ?_)
  refine lv_iconst (v := 1) hx hb dX8_run_8 (by decide) ?_
  refine lv_aload_n hx hb dX8_run_9 rfl (lv_at hl 1 rfl) ?_
  refine g_getA (C := RX8) (T := TX8) (N := 3) X hI in_X8 rfl 1 (by decide) q914 (fun _ h9 => h9) hr dX8_run_10 (fun v5 hr => ?_)
  obtain ⟨_, ho6, hr⟩ := gB_i hr
  obtain ⟨v8, hc7, hr⟩ := gB_i hr
  refine gRun_i (g_runV X hI (w_X2_size hc7) ho6 rfl hl (lw_V q928 q643 q644 q97 q645) rfl rfl hd_X2_size ⟨Nat.le_of_ble_eq_true rfl, Nat.le_of_ble_eq_true rfl⟩ (as := []) (rest := [.int (1 : Int32)]) rfl rfl (Nat.le_of_ble_eq_true rfl) ⟨(show (0 + 0) + 0 ≤ 65 from by omega), (show (0 + 0) + 0 ≤ 1664 from by omega)⟩ dX8_run_13) (fun H locs hI => ?_)
  refine lv_ishl hx hb dX8_run_16 ?_
  refine lv_iconst (v := 1) hx hb dX8_run_17 (by decide) ?_
  refine lv_isub hx hb dX8_run_18 ?_
  refine lv_istore_n (lv' := [(2, .int (((1 : Int32) <<< (v8 &&& 31)) - (1 : Int32))), (1, .int v4), (0, .ref z0)]) hx hb dX8_run_19 rfl hl (by decide) rfl (fun ls hl => ?_)
  refine lv_iload_n hx hb dX8_run_20 rfl (lv_at hl 0 rfl) ?_
  refine lv_iconst (v := 1) hx hb dX8_run_21 (by decide) ?_
  refine lv_iadd hx hb dX8_run_22 ?_
  refine lv_iload_n hx hb dX8_run_23 rfl (lv_at hl 1 rfl) ?_
  refine lv_iconst (v := 1) hx hb dX8_run_24 (by decide) ?_
  refine lv_iadd hx hb dX8_run_25 ?_
  refine g_newG (b1 := 64) (b2 := 25) X hI q929 (by decide) q512 (by decide) (by decide) (show ((0 + 0) + 0) + (1 + 64) ≤ 65 from by omega) (show ((0 + 0) + 0) + (64 + 64 * 25) ≤ 1664 from by omega) hr dX8_run_26 (fun q9 h10 n11 H locs hI hr => ?_)
  refine lv_astore_n (lv' := [(3, .ref q9), (2, .int (((1 : Int32) <<< (v8 &&& 31)) - (1 : Int32))), (1, .int v4), (0, .ref z0)]) hx hb dX8_run_30 rfl hl (by decide) rfl (fun ls hl => ?_)
  refine lv_iconst (v := 0) hx hb dX8_run_31 (by decide) ?_
  refine lv_istore (lv' := [(4, .int (0 : Int32)), (3, .ref q9), (2, .int (((1 : Int32) <<< (v8 &&& 31)) - (1 : Int32))), (1, .int v4), (0, .ref z0)]) hx hb dX8_run_32 hl (by decide) rfl (fun ls hl => ?_)
  exact w_X8_run_L34 X hst gN hr hI (lv_sub hl [4, 3, 2, 1, 0] rfl) (by omega)
abbrev rm_X1_greatestContiguousWelfare : Room := { frames := 6, cells := 67, slots := 1731, locals := 139 }
theorem hd_X1_greatestContiguousWelfare : yX1_greatestContiguousWelfare.cls = RX1 ∧ yX1_greatestContiguousWelfare.cls ≠ "java/lang/invoke/MethodHandle" ∧ yX1_greatestContiguousWelfare.cls ≠ "java/lang/invoke/VarHandle" ∧ (parseMethodDescriptor yX1_greatestContiguousWelfare.desc).map (fun d => d.parameters.length) = some 0 := by decide +kernel
set_option maxHeartbeats 2000000 in
theorem w_X1_greatestContiguousWelfare {l : Launch} {x : gV} {base : Nat} (hst : l.stackTraces = false) {z0 : Nat} {h : gH} {n : Nat} {res : Int32 × gH × Nat} (hr : f_X1_greatestContiguousWelfare z0 h n = some res) : gM l yX1_greatestContiguousWelfare (ws_ yX1_greatestContiguousWelfare cX1_greatestContiguousWelfare 1 (some .int)) rm_X1_greatestContiguousWelfare x base [.ref z0] h n (some (.int res.1)) res.2.1 res.2.2 67 1731 := by
  refine g_met (cc := cX1_greatestContiguousWelfare) (nL := 1) (ret := (some .int)) (by decide) (Nat.le_of_ble_eq_true rfl) (fun p e s m below meth c ls X hnm hl hI => ?_)
  have hl : lv_has ls 1 [(0, .ref z0)] := hl
  have hx := X.1
  have hb := X.2.1
  have hcc : 0 + 67 ≤ 67 ∧ 0 + 1731 ≤ 1731 := ⟨Nat.le_refl _, Nat.le_refl _⟩
  unfold f_X1_greatestContiguousWelfare at hr
  refine g_newO (C := RX8) (T := TX8) (N := 3) (ci := 6) (fs := [.null, .null, .int 0]) X hI in_X8 tyX8 tyX8_ok q907 q908 q128 rfl (g_dflt3 rfl rfl rfl) (show 0 + 1 ≤ 67 from by omega) (show 0 + 3 ≤ 1731 from by omega) hr dX1_greatestContiguousWelfare_0 (fun q1 h2 n3 H locs hI hr => ?_)
  refine lv_dup hx hb dX1_greatestContiguousWelfare_3 rfl ?_
  refine lv_aload_n hx hb dX1_greatestContiguousWelfare_4 rfl (lv_at hl 0 rfl) ?_
  refine g_getA (C := RX1) (T := TX1) (N := 10) X hI in_X1 rfl 4 (by decide) q760 (fun _ h9 => h9) hr dX1_greatestContiguousWelfare_5 (fun v4 hr => ?_)
  refine lv_iconst (v := 1) hx hb dX1_greatestContiguousWelfare_8 (by decide) ?_
  obtain ⟨h6, n7, hc5, hr⟩ := gT2_i hr
  refine gRun_v (g_runI X hI (w_X8_init hst hc5) hl q911 q909 q910 q128 rfl rfl rfl hd_X8_init ⟨Nat.le_of_ble_eq_true rfl, Nat.le_of_ble_eq_true rfl⟩ (as := [.ref v4, .int (1 : Int32)]) (rest := [.ref q1]) rfl rfl (Nat.le_of_ble_eq_true rfl) ⟨(show (0 + 1) + 1 ≤ 67 from by omega), (show (0 + 3) + 64 ≤ 1731 from by omega)⟩ dX1_greatestContiguousWelfare_9) (fun H locs hI => ?_)
  obtain ⟨_, ho8, hr⟩ := gB_i hr
  obtain ⟨v10, h11, n12, hc9, hr⟩ := gT3_i hr
  refine gRun_i (g_runV X hI (w_X8_run hst hc9) ho8 rfl hl (lw_V q923 q924 q925 q128 q926) rfl rfl hd_X8_run ⟨Nat.le_of_ble_eq_true rfl, Nat.le_of_ble_eq_true rfl⟩ (as := []) (rest := []) rfl rfl (Nat.le_of_ble_eq_true rfl) ⟨(show ((0 + 1) + 1) + 65 ≤ 67 from by omega), (show ((0 + 3) + 64) + 1664 ≤ 1731 from by omega)⟩ dX1_greatestContiguousWelfare_12) (fun H locs hI => ?_)
  have hr := gS_i hr
  subst hr
  exact g_iret X hI rfl (show (((0 + 1) + 1) + 65) ≤ 67 from by omega) (show (((0 + 3) + 64) + 1664) ≤ 1731 from by omega) dX1_greatestContiguousWelfare_15
abbrev rm_X1_bestLeastWelfare : Room := { frames := 6, cells := 67, slots := 1731, locals := 139 }
theorem hd_X1_bestLeastWelfare : yX1_bestLeastWelfare.cls = RX1 ∧ yX1_bestLeastWelfare.cls ≠ "java/lang/invoke/MethodHandle" ∧ yX1_bestLeastWelfare.cls ≠ "java/lang/invoke/VarHandle" ∧ (parseMethodDescriptor yX1_bestLeastWelfare.desc).map (fun d => d.parameters.length) = some 0 := by decide +kernel
set_option maxHeartbeats 2000000 in
theorem w_X1_bestLeastWelfare {l : Launch} {x : gV} {base : Nat} (hst : l.stackTraces = false) {z0 : Nat} {h : gH} {n : Nat} {res : Int32 × gH × Nat} (hr : f_X1_bestLeastWelfare z0 h n = some res) : gM l yX1_bestLeastWelfare (ws_ yX1_bestLeastWelfare cX1_bestLeastWelfare 1 (some .int)) rm_X1_bestLeastWelfare x base [.ref z0] h n (some (.int res.1)) res.2.1 res.2.2 67 1731 := by
  refine g_met (cc := cX1_bestLeastWelfare) (nL := 1) (ret := (some .int)) (by decide) (Nat.le_of_ble_eq_true rfl) (fun p e s m below meth c ls X hnm hl hI => ?_)
  have hl : lv_has ls 1 [(0, .ref z0)] := hl
  have hx := X.1
  have hb := X.2.1
  have hcc : 0 + 67 ≤ 67 ∧ 0 + 1731 ≤ 1731 := ⟨Nat.le_refl _, Nat.le_refl _⟩
  unfold f_X1_bestLeastWelfare at hr
  refine g_newO (C := RX8) (T := TX8) (N := 3) (ci := 6) (fs := [.null, .null, .int 0]) X hI in_X8 tyX8 tyX8_ok q907 q908 q128 rfl (g_dflt3 rfl rfl rfl) (show 0 + 1 ≤ 67 from by omega) (show 0 + 3 ≤ 1731 from by omega) hr dX1_bestLeastWelfare_0 (fun q1 h2 n3 H locs hI hr => ?_)
  refine lv_dup hx hb dX1_bestLeastWelfare_3 rfl ?_
  refine lv_aload_n hx hb dX1_bestLeastWelfare_4 rfl (lv_at hl 0 rfl) ?_
  refine g_getA (C := RX1) (T := TX1) (N := 10) X hI in_X1 rfl 4 (by decide) q760 (fun _ h9 => h9) hr dX1_bestLeastWelfare_5 (fun v4 hr => ?_)
  refine lv_iconst (v := 0) hx hb dX1_bestLeastWelfare_8 (by decide) ?_
  obtain ⟨h6, n7, hc5, hr⟩ := gT2_i hr
  refine gRun_v (g_runI X hI (w_X8_init hst hc5) hl q911 q909 q910 q128 rfl rfl rfl hd_X8_init ⟨Nat.le_of_ble_eq_true rfl, Nat.le_of_ble_eq_true rfl⟩ (as := [.ref v4, .int (0 : Int32)]) (rest := [.ref q1]) rfl rfl (Nat.le_of_ble_eq_true rfl) ⟨(show (0 + 1) + 1 ≤ 67 from by omega), (show (0 + 3) + 64 ≤ 1731 from by omega)⟩ dX1_bestLeastWelfare_9) (fun H locs hI => ?_)
  obtain ⟨_, ho8, hr⟩ := gB_i hr
  obtain ⟨v10, h11, n12, hc9, hr⟩ := gT3_i hr
  refine gRun_i (g_runV X hI (w_X8_run hst hc9) ho8 rfl hl (lw_V q923 q924 q925 q128 q926) rfl rfl hd_X8_run ⟨Nat.le_of_ble_eq_true rfl, Nat.le_of_ble_eq_true rfl⟩ (as := []) (rest := []) rfl rfl (Nat.le_of_ble_eq_true rfl) ⟨(show ((0 + 1) + 1) + 65 ≤ 67 from by omega), (show ((0 + 3) + 64) + 1664 ≤ 1731 from by omega)⟩ dX1_bestLeastWelfare_12) (fun H locs hI => ?_)
  have hr := gS_i hr
  subst hr
  exact g_iret X hI rfl (show (((0 + 1) + 1) + 65) ≤ 67 from by omega) (show (((0 + 3) + 64) + 1664) ≤ 1731 from by omega) dX1_bestLeastWelfare_15
abbrev rm_X1_cutCount : Room := { frames := 1, cells := 0, slots := 0, locals := 20 }
theorem hd_X1_cutCount : yX1_cutCount.cls = RX1 ∧ yX1_cutCount.cls ≠ "java/lang/invoke/MethodHandle" ∧ yX1_cutCount.cls ≠ "java/lang/invoke/VarHandle" ∧ (parseMethodDescriptor yX1_cutCount.desc).map (fun d => d.parameters.length) = some 0 := by decide +kernel
set_option maxHeartbeats 2000000 in
theorem w_X1_cutCount_L4 {h : gH} {n : Nat} {z0 : Nat} {res : Int32} (X : gXX x base RX1 cX1_cutCount 3 (some .int) p l s m args meth c) : ∀ (k : Nat) {z1 : Int32} {z2 : Int32} {H : Heap} {locs : List Loc} {ls : Array Slot}, gL2 (f_X1_cutCount_L4 z0 h) k z1 z2 = some res → gI x base s.heap h n H locs → lv_has ls 3 [(0, .ref z0), (1, .int z1), (2, .int z2)] → W p l e rm_X1_cutCount s m args below meth c H locs 0 0 (MQ below (gQ x base (some (.int res)) h n) args s 0 0 (fun q => base ≤ q)) (F0 m 4 ls []) := by
  have hx := X.1
  have hb := X.2.1
  intro k
  induction k with
  | zero =>
    intros
    rename_i hr _ _
    exact nomatch (show (none : Option _) = some _ from hr)
  | succ k ih =>
    intro z1 z2 H locs ls hr hI hl
    replace hr : f_X1_cutCount_L4 z0 h (gL2 (f_X1_cutCount_L4 z0 h) k) z1 z2 = some res := hr
    unfold f_X1_cutCount_L4 at hr
    refine lv_iload_n hx hb dX1_cutCount_4 rfl (lv_at hl 2 rfl) ?_
    refine lv_iconst (v := 1) hx hb dX1_cutCount_5 (by decide) ?_
    refine lv_iadd hx hb dX1_cutCount_6 ?_
    refine lv_aload_n hx hb dX1_cutCount_7 rfl (lv_at hl 0 rfl) ?_
    refine g_getA (C := RX1) (T := TX1) (N := 10) X hI in_X1 rfl 4 (by decide) q760 (fun _ h9 => h9) hr dX1_cutCount_8 (fun v1 hr => ?_)
    obtain ⟨_, ho2, hr⟩ := gB_i hr
    obtain ⟨v4, hc3, hr⟩ := gB_i hr
    refine gRun_i (g_runV X hI (w_X2_cells hc3) ho2 rfl hl (lw_V q686 q687 q688 q97 q689) rfl rfl hd_X2_cells ⟨Nat.le_of_ble_eq_true rfl, Nat.le_of_ble_eq_true rfl⟩ (as := []) (rest := [.int (z2 + (1 : Int32))]) rfl rfl (Nat.le_of_ble_eq_true rfl) ⟨(Nat.le_refl _), (Nat.le_refl _)⟩ dX1_cutCount_11) (fun H locs hI => ?_)
    refine lv_icmp_ge (tgt := 54) hx hb dX1_cutCount_14 (by decide) (fun c9 => ?_) (fun c9 => ?_)
    · replace hr := gIf_t c9 hr
      refine lv_iload_n hx hb dX1_cutCount_54 rfl (lv_at hl 1 rfl) ?_
      have hr := gS_i hr
      subst hr
      exact g_iret X hI rfl (Nat.le_refl _) (Nat.le_refl _) dX1_cutCount_55
    · replace hr := gIf_f c9 hr
      refine lv_iload_n hx hb dX1_cutCount_17 rfl (lv_at hl 1 rfl) ?_
      refine lv_aload_n hx hb dX1_cutCount_18 rfl (lv_at hl 0 rfl) ?_
      refine g_getA (C := RX1) (T := TX1) (N := 10) X hI in_X1 rfl 4 (by decide) q760 (fun _ h9 => h9) hr dX1_cutCount_19 (fun v5 hr => ?_)
      refine g_getA (C := RX2) (T := TX2) (N := 3) X hI in_X2 rfl 1 (by decide) q502 (fun _ h9 => h9) hr dX1_cutCount_22 (fun v6 hr => ?_)
      refine lv_iload_n hx hb dX1_cutCount_25 rfl (lv_at hl 2 rfl) ?_
      refine g_iald X hI hr dX1_cutCount_26 (fun v7 hr => ?_)
      refine lv_aload_n hx hb dX1_cutCount_27 rfl (lv_at hl 0 rfl) ?_
      refine g_getA (C := RX1) (T := TX1) (N := 10) X hI in_X1 rfl 4 (by decide) q760 (fun _ h9 => h9) hr dX1_cutCount_28 (fun v8 hr => ?_)
      refine g_getA (C := RX2) (T := TX2) (N := 3) X hI in_X2 rfl 1 (by decide) q502 (fun _ h9 => h9) hr dX1_cutCount_31 (fun v9 hr => ?_)
      refine lv_iload_n hx hb dX1_cutCount_34 rfl (lv_at hl 2 rfl) ?_
      refine lv_iconst (v := 1) hx hb dX1_cutCount_35 (by decide) ?_
      refine lv_iadd hx hb dX1_cutCount_36 ?_
      refine g_iald X hI hr dX1_cutCount_37 (fun v10 hr => ?_)
      refine lv_icmp_eq (tgt := 45) hx hb dX1_cutCount_38 (by decide) (fun c9 => ?_) (fun c9 => ?_)
      · replace hr := gIf_t c9 hr
        refine lv_iconst (v := 0) hx hb dX1_cutCount_45 (by decide) ?_
        refine lv_iadd hx hb dX1_cutCount_46 ?_
        refine lv_istore_n (lv' := [(1, .int (z1 + (0 : Int32))), (0, .ref z0), (2, .int z2)]) hx hb dX1_cutCount_47 rfl hl (by decide) rfl (fun ls hl => ?_)
        refine lv_iinc (v := (z2 + (1 : Int32))) (lv' := [(2, .int (z2 + (1 : Int32))), (1, .int (z1 + (0 : Int32))), (0, .ref z0)]) hx hb dX1_cutCount_48 hl (k := 2) rfl (g_inc (by decide)) (by decide) rfl (fun ls hl => ?_)
        refine lv_goto (tgt := 4) hx hb dX1_cutCount_51 (by decide) ?_
        exact ih hr hI (lv_sub hl [2, 1, 0] rfl)
      · replace hr := gIf_f c9 hr
        refine lv_iconst (v := 1) hx hb dX1_cutCount_41 (by decide) ?_
        refine lv_goto (tgt := 46) hx hb dX1_cutCount_42 (by decide) ?_
        refine lv_iadd hx hb dX1_cutCount_46 ?_
        refine lv_istore_n (lv' := [(1, .int (z1 + (1 : Int32))), (0, .ref z0), (2, .int z2)]) hx hb dX1_cutCount_47 rfl hl (by decide) rfl (fun ls hl => ?_)
        refine lv_iinc (v := (z2 + (1 : Int32))) (lv' := [(2, .int (z2 + (1 : Int32))), (1, .int (z1 + (1 : Int32))), (0, .ref z0)]) hx hb dX1_cutCount_48 hl (k := 2) rfl (g_inc (by decide)) (by decide) rfl (fun ls hl => ?_)
        refine lv_goto (tgt := 4) hx hb dX1_cutCount_51 (by decide) ?_
        exact ih hr hI (lv_sub hl [2, 1, 0] rfl)
set_option maxHeartbeats 2000000 in
theorem w_X1_cutCount {l : Launch} {x : gV} {base : Nat} {z0 : Nat} {h : gH} {n : Nat} {res : Int32} (hr : f_X1_cutCount z0 h = some res) : gM l yX1_cutCount (ws_ yX1_cutCount cX1_cutCount 3 (some .int)) rm_X1_cutCount x base [.ref z0] h n (some (.int res)) h n 0 0 := by
  refine g_met (cc := cX1_cutCount) (nL := 3) (ret := (some .int)) (by decide) (Nat.le_of_ble_eq_true rfl) (fun p e s m below meth c ls X hnm hl hI => ?_)
  have hl : lv_has ls 3 [(0, .ref z0)] := hl
  have hx := X.1
  have hb := X.2.1
  unfold f_X1_cutCount at hr
  refine lv_iconst (v := 0) hx hb dX1_cutCount_0 (by decide) ?_
  refine lv_istore_n (lv' := [(1, .int (0 : Int32)), (0, .ref z0)]) hx hb dX1_cutCount_1 rfl hl (by decide) rfl (fun ls hl => ?_)
  refine lv_iconst (v := 0) hx hb dX1_cutCount_2 (by decide) ?_
  refine lv_istore_n (lv' := [(2, .int (0 : Int32)), (1, .int (0 : Int32)), (0, .ref z0)]) hx hb dX1_cutCount_3 rfl hl (by decide) rfl (fun ls hl => ?_)
  exact w_X1_cutCount_L4 X gN hr hI (lv_sub hl [2, 1, 0] rfl)
abbrev rm_X2_pieces : Room := { frames := 1, cells := 0, slots := 0, locals := 20 }
theorem hd_X2_pieces : yX2_pieces.cls = RX2 ∧ yX2_pieces.cls ≠ "java/lang/invoke/MethodHandle" ∧ yX2_pieces.cls ≠ "java/lang/invoke/VarHandle" ∧ (parseMethodDescriptor yX2_pieces.desc).map (fun d => d.parameters.length) = some 1 := by decide +kernel
set_option maxHeartbeats 2000000 in
theorem w_X2_pieces_L4 {h : gH} {n : Nat} {z0 : Nat} {z1 : Int32} {res : Int32} (X : gXX x base RX2 cX2_pieces 4 (some .int) p l s m args meth c) : ∀ (k : Nat) {z2 : Int32} {z3 : Int32} {H : Heap} {locs : List Loc} {ls : Array Slot}, gL2 (f_X2_pieces_L4 z0 z1 h) k z2 z3 = some res → gI x base s.heap h n H locs → lv_has ls 4 [(0, .ref z0), (1, .int z1), (2, .int z2), (3, .int z3)] → W p l e rm_X2_pieces s m args below meth c H locs 0 0 (MQ below (gQ x base (some (.int res)) h n) args s 0 0 (fun q => base ≤ q)) (F0 m 4 ls []) := by
  have hx := X.1
  have hb := X.2.1
  intro k
  induction k with
  | zero =>
    intros
    rename_i hr _ _
    exact nomatch (show (none : Option _) = some _ from hr)
  | succ k ih =>
    intro z2 z3 H locs ls hr hI hl
    replace hr : f_X2_pieces_L4 z0 z1 h (gL2 (f_X2_pieces_L4 z0 z1 h) k) z2 z3 = some res := hr
    unfold f_X2_pieces_L4 at hr
    refine lv_iload_n hx hb dX2_pieces_4 rfl (lv_at hl 3 rfl) ?_
    refine lv_aload_n hx hb dX2_pieces_5 rfl (lv_at hl 0 rfl) ?_
    obtain ⟨_, ho1, hr⟩ := gB_i hr
    obtain ⟨v3, hc2, hr⟩ := gB_i hr
    refine gRun_i (g_runV X hI (w_X2_cells hc2) ho1 rfl hl (lw_V q812 q687 q688 q97 q689) rfl rfl hd_X2_cells ⟨Nat.le_of_ble_eq_true rfl, Nat.le_of_ble_eq_true rfl⟩ (as := []) (rest := [.int z3]) rfl rfl (Nat.le_of_ble_eq_true rfl) ⟨(Nat.le_refl _), (Nat.le_refl _)⟩ dX2_pieces_6) (fun H locs hI => ?_)
    refine lv_icmp_ge (tgt := 52) hx hb dX2_pieces_9 (by decide) (fun c9 => ?_) (fun c9 => ?_)
    · replace hr := gIf_t c9 hr
      refine lv_iload_n hx hb dX2_pieces_52 rfl (lv_at hl 2 rfl) ?_
      have hr := gS_i hr
      subst hr
      exact g_iret X hI rfl (Nat.le_refl _) (Nat.le_refl _) dX2_pieces_53
    · replace hr := gIf_f c9 hr
      refine lv_iload_n hx hb dX2_pieces_12 rfl (lv_at hl 2 rfl) ?_
      refine lv_aload_n hx hb dX2_pieces_13 rfl (lv_at hl 0 rfl) ?_
      refine g_getA (C := RX2) (T := TX2) (N := 3) X hI in_X2 rfl 1 (by decide) q501 (fun _ h9 => h9) hr dX2_pieces_14 (fun v4 hr => ?_)
      refine lv_iload_n hx hb dX2_pieces_17 rfl (lv_at hl 3 rfl) ?_
      refine g_iald X hI hr dX2_pieces_18 (fun v5 hr => ?_)
      refine lv_iload_n hx hb dX2_pieces_19 rfl (lv_at hl 1 rfl) ?_
      refine lv_icmp_ne (tgt := 43) hx hb dX2_pieces_20 (by decide) (fun c9 => ?_) (fun c9 => ?_)
      · replace hr := gIf_f c9 hr
        refine lv_iconst (v := 0) hx hb dX2_pieces_43 (by decide) ?_
        refine lv_iadd hx hb dX2_pieces_44 ?_
        refine lv_istore_n (lv' := [(2, .int (z2 + (0 : Int32))), (0, .ref z0), (1, .int z1), (3, .int z3)]) hx hb dX2_pieces_45 rfl hl (by decide) rfl (fun ls hl => ?_)
        refine lv_iinc (v := (z3 + (1 : Int32))) (lv' := [(3, .int (z3 + (1 : Int32))), (2, .int (z2 + (0 : Int32))), (0, .ref z0), (1, .int z1)]) hx hb dX2_pieces_46 hl (k := 3) rfl (g_inc (by decide)) (by decide) rfl (fun ls hl => ?_)
        refine lv_goto (tgt := 4) hx hb dX2_pieces_49 (by decide) ?_
        exact ih hr hI (lv_sub hl [2, 3, 1, 0] rfl)
      · replace hr := gIf_t c9 hr
        refine lv_iload_n hx hb dX2_pieces_23 rfl (lv_at hl 3 rfl) ?_
        refine lv_if_eq (tgt := 39) hx hb dX2_pieces_24 (by decide) (fun c9 => ?_) (fun c9 => ?_)
        · replace hr := gIf_t c9 hr
          refine lv_iconst (v := 1) hx hb dX2_pieces_39 (by decide) ?_
          refine lv_goto (tgt := 44) hx hb dX2_pieces_40 (by decide) ?_
          refine lv_iadd hx hb dX2_pieces_44 ?_
          refine lv_istore_n (lv' := [(2, .int (z2 + (1 : Int32))), (0, .ref z0), (1, .int z1), (3, .int z3)]) hx hb dX2_pieces_45 rfl hl (by decide) rfl (fun ls hl => ?_)
          refine lv_iinc (v := (z3 + (1 : Int32))) (lv' := [(3, .int (z3 + (1 : Int32))), (2, .int (z2 + (1 : Int32))), (0, .ref z0), (1, .int z1)]) hx hb dX2_pieces_46 hl (k := 3) rfl (g_inc (by decide)) (by decide) rfl (fun ls hl => ?_)
          refine lv_goto (tgt := 4) hx hb dX2_pieces_49 (by decide) ?_
          exact ih hr hI (lv_sub hl [2, 3, 1, 0] rfl)
        · replace hr := gIf_f c9 hr
          refine lv_aload_n hx hb dX2_pieces_27 rfl (lv_at hl 0 rfl) ?_
          refine g_getA (C := RX2) (T := TX2) (N := 3) X hI in_X2 rfl 1 (by decide) q501 (fun _ h9 => h9) hr dX2_pieces_28 (fun v6 hr => ?_)
          refine lv_iload_n hx hb dX2_pieces_31 rfl (lv_at hl 3 rfl) ?_
          refine lv_iconst (v := 1) hx hb dX2_pieces_32 (by decide) ?_
          refine lv_isub hx hb dX2_pieces_33 ?_
          refine g_iald X hI hr dX2_pieces_34 (fun v7 hr => ?_)
          refine lv_iload_n hx hb dX2_pieces_35 rfl (lv_at hl 1 rfl) ?_
          refine lv_icmp_eq (tgt := 43) hx hb dX2_pieces_36 (by decide) (fun c9 => ?_) (fun c9 => ?_)
          · replace hr := gIf_t c9 hr
            refine lv_iconst (v := 0) hx hb dX2_pieces_43 (by decide) ?_
            refine lv_iadd hx hb dX2_pieces_44 ?_
            refine lv_istore_n (lv' := [(2, .int (z2 + (0 : Int32))), (0, .ref z0), (1, .int z1), (3, .int z3)]) hx hb dX2_pieces_45 rfl hl (by decide) rfl (fun ls hl => ?_)
            refine lv_iinc (v := (z3 + (1 : Int32))) (lv' := [(3, .int (z3 + (1 : Int32))), (2, .int (z2 + (0 : Int32))), (0, .ref z0), (1, .int z1)]) hx hb dX2_pieces_46 hl (k := 3) rfl (g_inc (by decide)) (by decide) rfl (fun ls hl => ?_)
            refine lv_goto (tgt := 4) hx hb dX2_pieces_49 (by decide) ?_
            exact ih hr hI (lv_sub hl [2, 3, 1, 0] rfl)
          · replace hr := gIf_f c9 hr
            refine lv_iconst (v := 1) hx hb dX2_pieces_39 (by decide) ?_
            refine lv_goto (tgt := 44) hx hb dX2_pieces_40 (by decide) ?_
            refine lv_iadd hx hb dX2_pieces_44 ?_
            refine lv_istore_n (lv' := [(2, .int (z2 + (1 : Int32))), (0, .ref z0), (1, .int z1), (3, .int z3)]) hx hb dX2_pieces_45 rfl hl (by decide) rfl (fun ls hl => ?_)
            refine lv_iinc (v := (z3 + (1 : Int32))) (lv' := [(3, .int (z3 + (1 : Int32))), (2, .int (z2 + (1 : Int32))), (0, .ref z0), (1, .int z1)]) hx hb dX2_pieces_46 hl (k := 3) rfl (g_inc (by decide)) (by decide) rfl (fun ls hl => ?_)
            refine lv_goto (tgt := 4) hx hb dX2_pieces_49 (by decide) ?_
            exact ih hr hI (lv_sub hl [2, 3, 1, 0] rfl)
set_option maxHeartbeats 2000000 in
theorem w_X2_pieces {l : Launch} {x : gV} {base : Nat} {z0 : Nat} {z1 : Int32} {h : gH} {n : Nat} {res : Int32} (hr : f_X2_pieces z0 z1 h = some res) : gM l yX2_pieces (ws_ yX2_pieces cX2_pieces 4 (some .int)) rm_X2_pieces x base [.ref z0, .int z1] h n (some (.int res)) h n 0 0 := by
  refine g_met (cc := cX2_pieces) (nL := 4) (ret := (some .int)) (by decide) (Nat.le_of_ble_eq_true rfl) (fun p e s m below meth c ls X hnm hl hI => ?_)
  have hl : lv_has ls 4 [(0, .ref z0), (1, .int z1)] := hl
  have hx := X.1
  have hb := X.2.1
  unfold f_X2_pieces at hr
  refine lv_iconst (v := 0) hx hb dX2_pieces_0 (by decide) ?_
  refine lv_istore_n (lv' := [(2, .int (0 : Int32)), (0, .ref z0), (1, .int z1)]) hx hb dX2_pieces_1 rfl hl (by decide) rfl (fun ls hl => ?_)
  refine lv_iconst (v := 0) hx hb dX2_pieces_2 (by decide) ?_
  refine lv_istore_n (lv' := [(3, .int (0 : Int32)), (2, .int (0 : Int32)), (0, .ref z0), (1, .int z1)]) hx hb dX2_pieces_3 rfl hl (by decide) rfl (fun ls hl => ?_)
  exact w_X2_pieces_L4 X gN hr hI (lv_sub hl [2, 3, 1, 0] rfl)
abbrev rm_X1_meanPieces : Room := { frames := 2, cells := 0, slots := 0, locals := 43 }
theorem hd_X1_meanPieces : yX1_meanPieces.cls = RX1 ∧ yX1_meanPieces.cls ≠ "java/lang/invoke/MethodHandle" ∧ yX1_meanPieces.cls ≠ "java/lang/invoke/VarHandle" ∧ (parseMethodDescriptor yX1_meanPieces.desc).map (fun d => d.parameters.length) = some 0 := by decide +kernel
set_option maxHeartbeats 2000000 in
theorem w_X1_meanPieces_L4 {h : gH} {n : Nat} {z0 : Nat} {res : UInt64} (X : gXX x base RX1 cX1_meanPieces 3 (some .double) p l s m args meth c) : ∀ (k : Nat) {z1 : Int32} {z2 : Int32} {H : Heap} {locs : List Loc} {ls : Array Slot}, gL2 (f_X1_meanPieces_L4 z0 h) k z1 z2 = some res → gI x base s.heap h n H locs → lv_has ls 3 [(0, .ref z0), (1, .int z1), (2, .int z2)] → W p l e rm_X1_meanPieces s m args below meth c H locs 0 0 (MQ below (gQ x base (some (.double res)) h n) args s 0 0 (fun q => base ≤ q)) (F0 m 4 ls []) := by
  have hx := X.1
  have hb := X.2.1
  intro k
  induction k with
  | zero =>
    intros
    rename_i hr _ _
    exact nomatch (show (none : Option _) = some _ from hr)
  | succ k ih =>
    intro z1 z2 H locs ls hr hI hl
    replace hr : f_X1_meanPieces_L4 z0 h (gL2 (f_X1_meanPieces_L4 z0 h) k) z1 z2 = some res := hr
    unfold f_X1_meanPieces_L4 at hr
    refine lv_iload_n hx hb dX1_meanPieces_4 rfl (lv_at hl 2 rfl) ?_
    refine lv_aload_n hx hb dX1_meanPieces_5 rfl (lv_at hl 0 rfl) ?_
    refine g_getA (C := RX1) (T := TX1) (N := 10) X hI in_X1 rfl 4 (by decide) q760 (fun _ h9 => h9) hr dX1_meanPieces_6 (fun v1 hr => ?_)
    obtain ⟨_, ho2, hr⟩ := gB_i hr
    obtain ⟨v4, hc3, hr⟩ := gB_i hr
    refine gRun_i (g_runV X hI (w_X2_size hc3) ho2 rfl hl (lw_V q642 q643 q644 q97 q645) rfl rfl hd_X2_size ⟨Nat.le_of_ble_eq_true rfl, Nat.le_of_ble_eq_true rfl⟩ (as := []) (rest := [.int z2]) rfl rfl (Nat.le_of_ble_eq_true rfl) ⟨(Nat.le_refl _), (Nat.le_refl _)⟩ dX1_meanPieces_9) (fun H locs hI => ?_)
    refine lv_icmp_ge (tgt := 32) hx hb dX1_meanPieces_12 (by decide) (fun c9 => ?_) (fun c9 => ?_)
    · replace hr := gIf_t c9 hr
      refine lv_iload_n hx hb dX1_meanPieces_32 rfl (lv_at hl 1 rfl) ?_
      refine lv_i2d hx hb dX1_meanPieces_33 ?_
      refine lv_aload_n hx hb dX1_meanPieces_34 rfl (lv_at hl 0 rfl) ?_
      refine g_getA (C := RX1) (T := TX1) (N := 10) X hI in_X1 rfl 4 (by decide) q760 (fun _ h9 => h9) hr dX1_meanPieces_35 (fun v5 hr => ?_)
      obtain ⟨_, ho6, hr⟩ := gB_i hr
      obtain ⟨v8, hc7, hr⟩ := gB_i hr
      refine gRun_i (g_runV X hI (w_X2_size hc7) ho6 rfl hl (lw_V q642 q643 q644 q97 q645) rfl rfl hd_X2_size ⟨Nat.le_of_ble_eq_true rfl, Nat.le_of_ble_eq_true rfl⟩ (as := []) (rest := [.double (FP.i2d z1)]) rfl rfl (Nat.le_of_ble_eq_true rfl) ⟨(Nat.le_refl _), (Nat.le_refl _)⟩ dX1_meanPieces_38) (fun H locs hI => ?_)
      refine lv_i2d hx hb dX1_meanPieces_41 ?_
      obtain ⟨c9, hr⟩ := gIf_o hr
      refine lv_ddiv hx hb dX1_meanPieces_42 (g_n64_i c9) ?_
      have hr := gS_i hr
      subst hr
      exact g_dret X hI (Nat.le_refl _) (Nat.le_refl _) dX1_meanPieces_43
    · replace hr := gIf_f c9 hr
      refine lv_iload_n hx hb dX1_meanPieces_15 rfl (lv_at hl 1 rfl) ?_
      refine lv_aload_n hx hb dX1_meanPieces_16 rfl (lv_at hl 0 rfl) ?_
      refine g_getA (C := RX1) (T := TX1) (N := 10) X hI in_X1 rfl 4 (by decide) q760 (fun _ h9 => h9) hr dX1_meanPieces_17 (fun v9 hr => ?_)
      refine lv_iload_n hx hb dX1_meanPieces_20 rfl (lv_at hl 2 rfl) ?_
      obtain ⟨_, ho10, hr⟩ := gB_i hr
      obtain ⟨v12, hc11, hr⟩ := gB_i hr
      refine gRun_i (g_runV X hI (w_X2_pieces hc11) ho10 rfl hl (lw_V q956 q957 q958 q97 q959) rfl rfl hd_X2_pieces ⟨Nat.le_of_ble_eq_true rfl, Nat.le_of_ble_eq_true rfl⟩ (as := [.int z2]) (rest := [.int z1]) rfl rfl (Nat.le_of_ble_eq_true rfl) ⟨(Nat.le_refl _), (Nat.le_refl _)⟩ dX1_meanPieces_21) (fun H locs hI => ?_)
      refine lv_iadd hx hb dX1_meanPieces_24 ?_
      refine lv_istore_n (lv' := [(1, .int (z1 + v12)), (0, .ref z0), (2, .int z2)]) hx hb dX1_meanPieces_25 rfl hl (by decide) rfl (fun ls hl => ?_)
      refine lv_iinc (v := (z2 + (1 : Int32))) (lv' := [(2, .int (z2 + (1 : Int32))), (1, .int (z1 + v12)), (0, .ref z0)]) hx hb dX1_meanPieces_26 hl (k := 2) rfl (g_inc (by decide)) (by decide) rfl (fun ls hl => ?_)
      refine lv_goto (tgt := 4) hx hb dX1_meanPieces_29 (by decide) ?_
      exact ih hr hI (lv_sub hl [2, 1, 0] rfl)
set_option maxHeartbeats 2000000 in
theorem w_X1_meanPieces {l : Launch} {x : gV} {base : Nat} {z0 : Nat} {h : gH} {n : Nat} {res : UInt64} (hr : f_X1_meanPieces z0 h = some res) : gM l yX1_meanPieces (ws_ yX1_meanPieces cX1_meanPieces 3 (some .double)) rm_X1_meanPieces x base [.ref z0] h n (some (.double res)) h n 0 0 := by
  refine g_met (cc := cX1_meanPieces) (nL := 3) (ret := (some .double)) (by decide) (Nat.le_of_ble_eq_true rfl) (fun p e s m below meth c ls X hnm hl hI => ?_)
  have hl : lv_has ls 3 [(0, .ref z0)] := hl
  have hx := X.1
  have hb := X.2.1
  unfold f_X1_meanPieces at hr
  refine lv_iconst (v := 0) hx hb dX1_meanPieces_0 (by decide) ?_
  refine lv_istore_n (lv' := [(1, .int (0 : Int32)), (0, .ref z0)]) hx hb dX1_meanPieces_1 rfl hl (by decide) rfl (fun ls hl => ?_)
  refine lv_iconst (v := 0) hx hb dX1_meanPieces_2 (by decide) ?_
  refine lv_istore_n (lv' := [(2, .int (0 : Int32)), (1, .int (0 : Int32)), (0, .ref z0)]) hx hb dX1_meanPieces_3 rfl hl (by decide) rfl (fun ls hl => ?_)
  exact w_X1_meanPieces_L4 X gN hr hI (lv_sub hl [2, 1, 0] rfl)
abbrev rm_X1_inconsistencies : Room := { frames := 7, cells := 0, slots := 0, locals := 152 }
theorem hd_X1_inconsistencies : yX1_inconsistencies.cls = RX1 ∧ yX1_inconsistencies.cls ≠ "java/lang/invoke/MethodHandle" ∧ yX1_inconsistencies.cls ≠ "java/lang/invoke/VarHandle" ∧ (parseMethodDescriptor yX1_inconsistencies.desc).map (fun d => d.parameters.length) = some 0 := by decide +kernel
set_option maxHeartbeats 2000000 in
theorem w_X1_inconsistencies_L19 {h : gH} {n : Nat} {z0 : Nat} {res : Int32} (X : gXX x base RX1 cX1_inconsistencies 3 (some .int) p l s m args meth c) : ∀ (k : Nat) {z1 : Int32} {z2 : Int32} {H : Heap} {locs : List Loc} {ls : Array Slot}, gL2 (f_X1_inconsistencies_L19 z0 h) k z1 z2 = some res → gI x base s.heap h n H locs → lv_has ls 3 [(0, .ref z0), (1, .int z1), (2, .int z2)] → W p l e rm_X1_inconsistencies s m args below meth c H locs 0 0 (MQ below (gQ x base (some (.int res)) h n) args s 0 0 (fun q => base ≤ q)) (F0 m 19 ls []) := by
  have hx := X.1
  have hb := X.2.1
  intro k
  induction k with
  | zero =>
    intros
    rename_i hr _ _
    exact nomatch (show (none : Option _) = some _ from hr)
  | succ k ih =>
    intro z1 z2 H locs ls hr hI hl
    replace hr : f_X1_inconsistencies_L19 z0 h (gL2 (f_X1_inconsistencies_L19 z0 h) k) z1 z2 = some res := hr
    unfold f_X1_inconsistencies_L19 at hr
    refine lv_iload_n hx hb dX1_inconsistencies_19 rfl (lv_at hl 2 rfl) ?_
    refine lv_aload_n hx hb dX1_inconsistencies_20 rfl (lv_at hl 0 rfl) ?_
    refine g_getA (C := RX1) (T := TX1) (N := 10) X hI in_X1 rfl 4 (by decide) q760 (fun _ h9 => h9) hr dX1_inconsistencies_21 (fun v9 hr => ?_)
    obtain ⟨_, ho10, hr⟩ := gB_i hr
    obtain ⟨v12, hc11, hr⟩ := gB_i hr
    refine gRun_i (g_runV X hI (w_X2_size hc11) ho10 rfl hl (lw_V q642 q643 q644 q97 q645) rfl rfl hd_X2_size ⟨Nat.le_of_ble_eq_true rfl, Nat.le_of_ble_eq_true rfl⟩ (as := []) (rest := [.int z2]) rfl rfl (Nat.le_of_ble_eq_true rfl) ⟨(Nat.le_refl _), (Nat.le_refl _)⟩ dX1_inconsistencies_24) (fun H locs hI => ?_)
    refine lv_icmp_ge (tgt := 67) hx hb dX1_inconsistencies_27 (by decide) (fun c9 => ?_) (fun c9 => ?_)
    · replace hr := gIf_t c9 hr
      refine lv_iload_n hx hb dX1_inconsistencies_67 rfl (lv_at hl 1 rfl) ?_
      have hr := gS_i hr
      subst hr
      exact g_iret X hI rfl (Nat.le_refl _) (Nat.le_refl _) dX1_inconsistencies_68
    · replace hr := gIf_f c9 hr
      refine lv_iload_n hx hb dX1_inconsistencies_30 rfl (lv_at hl 1 rfl) ?_
      refine lv_aload_n hx hb dX1_inconsistencies_31 rfl (lv_at hl 0 rfl) ?_
      refine g_getA (C := RX1) (T := TX1) (N := 10) X hI in_X1 rfl 4 (by decide) q760 (fun _ h9 => h9) hr dX1_inconsistencies_32 (fun v13 hr => ?_)
      refine lv_iload_n hx hb dX1_inconsistencies_35 rfl (lv_at hl 2 rfl) ?_
      obtain ⟨_, ho14, hr⟩ := gB_i hr
      obtain ⟨v16, hc15, hr⟩ := gB_i hr
      refine gRun_i (g_runV X hI (w_X2_count hc15) ho14 rfl hl (lw_V q808 q809 q810 q97 q811) rfl rfl hd_X2_count ⟨Nat.le_of_ble_eq_true rfl, Nat.le_of_ble_eq_true rfl⟩ (as := [.int z2]) (rest := [.int z1]) rfl rfl (Nat.le_of_ble_eq_true rfl) ⟨(Nat.le_refl _), (Nat.le_refl _)⟩ dX1_inconsistencies_36) (fun H locs hI => ?_)
      refine lv_isub hx hb dX1_inconsistencies_39 ?_
      refine lv_istore_n (lv' := [(1, .int (z1 - v16)), (0, .ref z0), (2, .int z2)]) hx hb dX1_inconsistencies_40 rfl hl (by decide) rfl (fun ls hl => ?_)
      refine lv_iload_n hx hb dX1_inconsistencies_41 rfl (lv_at hl 0 rfl) ?_
      refine lv_aload_n hx hb dX1_inconsistencies_42 rfl (lv_at hl 1 rfl) ?_
      refine g_getA (C := RX1) (T := TX1) (N := 10) X hI in_X1 rfl 4 (by decide) q760 (fun _ h9 => h9) hr dX1_inconsistencies_43 (fun v17 hr => ?_)
      refine lv_iload_n hx hb dX1_inconsistencies_46 rfl (lv_at hl 2 rfl) ?_
      refine lv_iload_n hx hb dX1_inconsistencies_47 rfl (lv_at hl 2 rfl) ?_
      obtain ⟨_, ho18, hr⟩ := gB_i hr
      obtain ⟨v20, hc19, hr⟩ := gB_i hr
      refine gRun_i (g_runV X hI (w_X2_envies_2 hc19) ho18 rfl hl (lw_V q841 q822 q823 q97 q824) rfl rfl hd_X2_envies_2 ⟨Nat.le_of_ble_eq_true rfl, Nat.le_of_ble_eq_true rfl⟩ (as := [.int z2, .int z2]) (rest := [.int (z1 - v16)]) rfl rfl (Nat.le_of_ble_eq_true rfl) ⟨(Nat.le_refl _), (Nat.le_refl _)⟩ dX1_inconsistencies_48) (fun H locs hI => ?_)
      refine lv_if_eq (tgt := 58) hx hb dX1_inconsistencies_51 (by decide) (fun c9 => ?_) (fun c9 => ?_)
      · replace hr := gIf_t c9 hr
        refine lv_iconst (v := 0) hx hb dX1_inconsistencies_58 (by decide) ?_
        refine lv_iadd hx hb dX1_inconsistencies_59 ?_
        refine lv_istore_n (lv' := [(1, .int ((z1 - v16) + (0 : Int32))), (0, .ref z0), (2, .int z2)]) hx hb dX1_inconsistencies_60 rfl hl (by decide) rfl (fun ls hl => ?_)
        refine lv_iinc (v := (z2 + (1 : Int32))) (lv' := [(2, .int (z2 + (1 : Int32))), (1, .int ((z1 - v16) + (0 : Int32))), (0, .ref z0)]) hx hb dX1_inconsistencies_61 hl (k := 2) rfl (g_inc (by decide)) (by decide) rfl (fun ls hl => ?_)
        refine lv_goto (tgt := 19) hx hb dX1_inconsistencies_64 (by decide) ?_
        exact ih hr hI (lv_sub hl [2, 1, 0] rfl)
      · replace hr := gIf_f c9 hr
        refine lv_iconst (v := 1) hx hb dX1_inconsistencies_54 (by decide) ?_
        refine lv_goto (tgt := 59) hx hb dX1_inconsistencies_55 (by decide) ?_
        refine lv_iadd hx hb dX1_inconsistencies_59 ?_
        refine lv_istore_n (lv' := [(1, .int ((z1 - v16) + (1 : Int32))), (0, .ref z0), (2, .int z2)]) hx hb dX1_inconsistencies_60 rfl hl (by decide) rfl (fun ls hl => ?_)
        refine lv_iinc (v := (z2 + (1 : Int32))) (lv' := [(2, .int (z2 + (1 : Int32))), (1, .int ((z1 - v16) + (1 : Int32))), (0, .ref z0)]) hx hb dX1_inconsistencies_61 hl (k := 2) rfl (g_inc (by decide)) (by decide) rfl (fun ls hl => ?_)
        refine lv_goto (tgt := 19) hx hb dX1_inconsistencies_64 (by decide) ?_
        exact ih hr hI (lv_sub hl [2, 1, 0] rfl)
set_option maxHeartbeats 2000000 in
theorem w_X1_inconsistencies {l : Launch} {x : gV} {base : Nat} {z0 : Nat} {h : gH} {n : Nat} {res : Int32} (hr : f_X1_inconsistencies z0 h = some res) : gM l yX1_inconsistencies (ws_ yX1_inconsistencies cX1_inconsistencies 3 (some .int)) rm_X1_inconsistencies x base [.ref z0] h n (some (.int res)) h n 0 0 := by
  refine g_met (cc := cX1_inconsistencies) (nL := 3) (ret := (some .int)) (by decide) (Nat.le_of_ble_eq_true rfl) (fun p e s m below meth c ls X hnm hl hI => ?_)
  have hl : lv_has ls 3 [(0, .ref z0)] := hl
  have hx := X.1
  have hb := X.2.1
  unfold f_X1_inconsistencies at hr
  refine lv_aload_n hx hb dX1_inconsistencies_0 rfl (lv_at hl 0 rfl) ?_
  refine g_getA (C := RX1) (T := TX1) (N := 10) X hI in_X1 rfl 4 (by decide) q760 (fun _ h9 => h9) hr dX1_inconsistencies_1 (fun v1 hr => ?_)
  obtain ⟨_, ho2, hr⟩ := gB_i hr
  obtain ⟨v4, hc3, hr⟩ := gB_i hr
  refine gRun_i (g_runV X hI (w_X2_cells hc3) ho2 rfl hl (lw_V q686 q687 q688 q97 q689) rfl rfl hd_X2_cells ⟨Nat.le_of_ble_eq_true rfl, Nat.le_of_ble_eq_true rfl⟩ (as := []) (rest := []) rfl rfl (Nat.le_of_ble_eq_true rfl) ⟨(Nat.le_refl _), (Nat.le_refl _)⟩ dX1_inconsistencies_4) (fun H locs hI => ?_)
  refine lv_aload_n hx hb dX1_inconsistencies_7 rfl (lv_at hl 0 rfl) ?_
  refine g_getA (C := RX1) (T := TX1) (N := 10) X hI in_X1 rfl 4 (by decide) q760 (fun _ h9 => h9) hr dX1_inconsistencies_8 (fun v5 hr => ?_)
  refine lv_iconst (v := (-1)) hx hb dX1_inconsistencies_11 (by decide) ?_
  obtain ⟨_, ho6, hr⟩ := gB_i hr
  obtain ⟨v8, hc7, hr⟩ := gB_i hr
  refine gRun_i (g_runV X hI (w_X2_count hc7) ho6 rfl hl (lw_V q808 q809 q810 q97 q811) rfl rfl hd_X2_count ⟨Nat.le_of_ble_eq_true rfl, Nat.le_of_ble_eq_true rfl⟩ (as := [.int (-1 : Int32)]) (rest := [.int v4]) rfl rfl (Nat.le_of_ble_eq_true rfl) ⟨(Nat.le_refl _), (Nat.le_refl _)⟩ dX1_inconsistencies_12) (fun H locs hI => ?_)
  refine lv_isub hx hb dX1_inconsistencies_15 ?_
  refine lv_istore_n (lv' := [(1, .int (v4 - v8)), (0, .ref z0)]) hx hb dX1_inconsistencies_16 rfl hl (by decide) rfl (fun ls hl => ?_)
  refine lv_iconst (v := 0) hx hb dX1_inconsistencies_17 (by decide) ?_
  refine lv_istore_n (lv' := [(2, .int (0 : Int32)), (1, .int (v4 - v8)), (0, .ref z0)]) hx hb dX1_inconsistencies_18 rfl hl (by decide) rfl (fun ls hl => ?_)
  exact w_X1_inconsistencies_L19 X gN hr hI (lv_sub hl [2, 1, 0] rfl)
abbrev rm_X2_init_2 : Room := { frames := 5, cells := 4, slots := 39, locals := 106 }
theorem hd_X2_init_2 : yX2_init_2.cls ≠ "java/lang/invoke/MethodHandle" ∧ yX2_init_2.cls ≠ "java/lang/invoke/VarHandle" ∧ (parseMethodDescriptor yX2_init_2.desc).map (fun d => d.parameters.length) = some 1 := by decide +kernel
set_option maxHeartbeats 2000000 in
theorem w_X2_init_2_J47 {h : gH} {n : Nat} {z0 : Nat} {z1 : Nat} {res : gH × Nat} (X : gXX x base RX2 cX2_init_2 3 none p l s m args meth c) (hst : l.stackTraces = false) (hnm : meth.name = "<init>") {H : Heap} {locs : List Loc} {ls : Array Slot} {cells slots : Nat} (hr : f_X2_init_2_J47 z0 z1 h n = some res) (hI : gI x base s.heap h n H locs) (hl : lv_has ls 3 [(0, .ref z0), (1, .ref z1)]) (hcc : cells + (0) ≤ 4 ∧ slots + (0) ≤ 39) : W p l e rm_X2_init_2 s m args below meth c H locs cells slots (MQ below (gQ x base none res.1 res.2) args s 4 39 (fun q => base ≤ q)) (F0 m 47 ls []) := by
  have hx := X.1
  have hb := X.2.1
  unfold f_X2_init_2_J47 at hr
  refine lv_aload_n hx hb dX2_init_2_47 rfl (lv_at hl 1 rfl) ?_
  refine g_getA (C := RX2) (T := TX2) (N := 3) X hI in_X2 rfl 1 (by decide) q501 (fun _ h9 => h9) hr dX2_init_2_48 (fun v10 hr => ?_)
  refine lv_iconst (v := 0) hx hb dX2_init_2_51 (by decide) ?_
  refine lv_aload_n hx hb dX2_init_2_52 rfl (lv_at hl 0 rfl) ?_
  refine g_getA (C := RX2) (T := TX2) (N := 3) X hI in_X2 rfl 1 (by decide) q501 (fun _ h9 => h9) hr dX2_init_2_53 (fun v11 hr => ?_)
  refine lv_iconst (v := 0) hx hb dX2_init_2_56 (by decide) ?_
  refine lv_aload_n hx hb dX2_init_2_57 rfl (lv_at hl 0 rfl) ?_
  refine g_getA (C := RX2) (T := TX2) (N := 3) X hI in_X2 rfl 1 (by decide) q501 (fun _ h9 => h9) hr dX2_init_2_58 (fun v12 hr => ?_)
  refine g_alen X hI (t := 0) rfl hr dX2_init_2_61 (fun v13 hr => ?_)
  refine g_acpy0 X hI hl q982 q286 q285 q112 (Nat.le_of_ble_eq_true rfl) (Nat.le_of_ble_eq_true rfl) hr dX2_init_2_62 (fun h14 H locs hI hr => ?_)
  have hr := gS_i hr
  subst hr
  exact g_vret X hI (show cells ≤ 4 from by omega) (show slots ≤ 39 from by omega) dX2_init_2_65
set_option maxHeartbeats 2000000 in
theorem w_X2_init_2_L11 {n : Nat} {z0 : Nat} {z1 : Nat} {res : gH × Nat} (X : gXX x base RX2 cX2_init_2 3 none p l s m args meth c) (hst : l.stackTraces = false) (hnm : meth.name = "<init>") : ∀ (k : Nat) {z2 : Int32} {h : gH} {H : Heap} {locs : List Loc} {ls : Array Slot} {cells slots : Nat}, gL2 (f_X2_init_2_L11 z0 z1 n) k z2 h = some res → gI x base s.heap h n H locs → lv_has ls 3 [(0, .ref z0), (1, .ref z1), (2, .int z2)] → (cells + (k * 0 + (0)) ≤ 4 ∧ slots + (k * 0 + (0)) ≤ 39) → W p l e rm_X2_init_2 s m args below meth c H locs cells slots (MQ below (gQ x base none res.1 res.2) args s 4 39 (fun q => base ≤ q)) (F0 m 11 ls []) := by
  have hx := X.1
  have hb := X.2.1
  intro k
  induction k with
  | zero =>
    intros
    rename_i hr _ _ _
    exact nomatch (show (none : Option _) = some _ from hr)
  | succ k ih =>
    intro z2 h H locs ls cells slots hr hI hl hcc
    replace hr : f_X2_init_2_L11 z0 z1 n (gL2 (f_X2_init_2_L11 z0 z1 n) k) z2 h = some res := hr
    unfold f_X2_init_2_L11 at hr
    refine lv_iload_n hx hb dX2_init_2_11 rfl (lv_at hl 2 rfl) ?_
    refine lv_aload_n hx hb dX2_init_2_12 rfl (lv_at hl 1 rfl) ?_
    refine g_getA (C := RX2) (T := TX2) (N := 3) X hI in_X2 rfl 0 (by decide) q499 (fun _ h9 => h9) hr dX2_init_2_13 (fun v6 hr => ?_)
    obtain ⟨_, ho7, hr⟩ := gB_i hr
    obtain ⟨v9, hc8, hr⟩ := gB_i hr
    refine gRun_i (g_runV X hI (w_J2_size hc8) ho7 rfl hl (lw_V q646 q647 q648 q100 q649) rfl rfl hd_J2_size ⟨Nat.le_of_ble_eq_true rfl, Nat.le_of_ble_eq_true rfl⟩ (as := []) (rest := [.int z2]) rfl rfl (Nat.le_of_ble_eq_true rfl) ⟨(show cells + 0 ≤ 4 from by omega), (show slots + 0 ≤ 39 from by omega)⟩ dX2_init_2_16) (fun H locs hI => ?_)
    refine lv_icmp_ge (tgt := 47) hx hb dX2_init_2_19 (by decide) (fun c9 => ?_) (fun c9 => ?_)
    · replace hr := gIf_t c9 hr
      exact w_X2_init_2_J47 X hst hnm hr hI (lv_sub hl [0, 1] rfl) (by omega)
    · replace hr := gIf_f c9 hr
      refine lv_aload_n hx hb dX2_init_2_22 rfl (lv_at hl 0 rfl) ?_
      refine g_getA (C := RX2) (T := TX2) (N := 3) X hI in_X2 rfl 0 (by decide) q499 (fun _ h9 => h9) hr dX2_init_2_23 (fun v15 hr => ?_)
      refine lv_aload_n hx hb dX2_init_2_26 rfl (lv_at hl 1 rfl) ?_
      refine g_getA (C := RX2) (T := TX2) (N := 3) X hI in_X2 rfl 0 (by decide) q499 (fun _ h9 => h9) hr dX2_init_2_27 (fun v16 hr => ?_)
      refine lv_iload_n hx hb dX2_init_2_30 rfl (lv_at hl 2 rfl) ?_
      obtain ⟨_, ho17, hr⟩ := gB_i hr
      obtain ⟨v19, hc18, hr⟩ := gB_i hr
      refine gRun_a (g_runV X hI (w_J2_get hc18) ho17 rfl hl (lw_V q669 q670 q671 q100 q672) rfl rfl hd_J2_get ⟨Nat.le_of_ble_eq_true rfl, Nat.le_of_ble_eq_true rfl⟩ (as := [.int z2]) (rest := [.ref v15]) rfl rfl (Nat.le_of_ble_eq_true rfl) ⟨(show (cells + 0) + 0 ≤ 4 from by omega), (show (slots + 0) + 0 ≤ 39 from by omega)⟩ dX2_init_2_31) (fun H locs hI => ?_)
      obtain ⟨_, ho20, hr⟩ := gB_i hr
      refine va_castE hx hb X.2.2.2.2.1 (X.w q681) (g_recv X hI ho20 rfl) dX2_init_2_34 ?_
      obtain ⟨_, ho21, hr⟩ := gB_i hr
      obtain ⟨v23, h24, hc22, hr⟩ := gT2_i hr
      refine gRun_i (g_runV X hI (w_J2_add hc22) ho21 rfl hl (lw_V q981 q706 q707 q100 q708) rfl rfl hd_J2_add ⟨Nat.le_of_ble_eq_true rfl, Nat.le_of_ble_eq_true rfl⟩ (as := [.ref v19]) (rest := []) rfl rfl (Nat.le_of_ble_eq_true rfl) ⟨(show ((cells + 0) + 0) + 0 ≤ 4 from by omega), (show ((slots + 0) + 0) + 0 ≤ 39 from by omega)⟩ dX2_init_2_37) (fun H locs hI => ?_)
      refine lv_pop hx hb dX2_init_2_40 rfl ?_
      refine lv_iinc (v := (z2 + (1 : Int32))) (lv' := [(2, .int (z2 + (1 : Int32))), (0, .ref z0), (1, .ref z1)]) hx hb dX2_init_2_41 hl (k := 2) rfl (g_inc (by decide)) (by decide) rfl (fun ls hl => ?_)
      refine lv_goto (tgt := 11) hx hb dX2_init_2_44 (by decide) ?_
      exact ih hr hI (lv_sub hl [1, 2, 0] rfl) (by omega)
set_option maxHeartbeats 2000000 in
theorem w_X2_init_2 {l : Launch} {x : gV} {base : Nat} (hst : l.stackTraces = false) {z0 : Nat} {z1 : Nat} {h : gH} {n : Nat} {res : gH × Nat} (hr : f_X2_init_2 z0 z1 h n = some res) : gM l yX2_init_2 (ws_ yX2_init_2 cX2_init_2 3 none) rm_X2_init_2 x base [.ref z0, .ref z1] h n none res.1 res.2 4 39 := by
  refine g_met (cc := cX2_init_2) (nL := 3) (ret := none) (by decide) (Nat.le_of_ble_eq_true rfl) (fun p e s m below meth c ls X hnm hl hI => ?_)
  have hl : lv_has ls 3 [(0, .ref z0), (1, .ref z1)] := hl
  have hx := X.1
  have hb := X.2.1
  have hcc : 0 + 4 ≤ 4 ∧ 0 + 39 ≤ 39 := ⟨Nat.le_refl _, Nat.le_refl _⟩
  unfold f_X2_init_2 at hr
  refine lv_aload_n hx hb dX2_init_2_0 rfl (lv_at hl 0 rfl) ?_
  refine lv_aload_n hx hb dX2_init_2_1 rfl (lv_at hl 1 rfl) ?_
  refine g_getA (C := RX2) (T := TX2) (N := 3) X hI in_X2 rfl 1 (by decide) q501 (fun _ h9 => h9) hr dX2_init_2_2 (fun v1 hr => ?_)
  refine g_alen X hI (t := 0) rfl hr dX2_init_2_5 (fun v2 hr => ?_)
  obtain ⟨h4, n5, hc3, hr⟩ := gT2_i hr
  refine gRun_v (g_runI X hI (w_X2_init hst hc3) hl q146 q980 q145 q97 rfl rfl rfl hd_X2_init ⟨Nat.le_of_ble_eq_true rfl, Nat.le_of_ble_eq_true rfl⟩ (as := [.int v2]) (rest := []) rfl rfl (Nat.le_of_ble_eq_true rfl) ⟨(show 0 + 4 ≤ 4 from by omega), (show 0 + 39 ≤ 39 from by omega)⟩ dX2_init_2_6) (fun H locs hI => ?_)
  refine lv_iconst (v := 0) hx hb dX2_init_2_9 (by decide) ?_
  refine lv_istore_n (lv' := [(2, .int (0 : Int32)), (0, .ref z0), (1, .ref z1)]) hx hb dX2_init_2_10 rfl hl (by decide) rfl (fun ls hl => ?_)
  exact w_X2_init_2_L11 X hst hnm gN hr hI (lv_sub hl [1, 2, 0] rfl) (by omega)
abbrev rm_X2_freeCopy : Room := { frames := 6, cells := 5, slots := 42, locals := 128 }
theorem hd_X2_freeCopy : yX2_freeCopy.cls = RX2 ∧ yX2_freeCopy.cls ≠ "java/lang/invoke/MethodHandle" ∧ yX2_freeCopy.cls ≠ "java/lang/invoke/VarHandle" ∧ (parseMethodDescriptor yX2_freeCopy.desc).map (fun d => d.parameters.length) = some 0 := by decide +kernel
set_option maxHeartbeats 2000000 in
theorem w_X2_freeCopy {l : Launch} {x : gV} {base : Nat} (hst : l.stackTraces = false) {z0 : Nat} {h : gH} {n : Nat} {res : Nat × gH × Nat} (hr : f_X2_freeCopy z0 h n = some res) : gM l yX2_freeCopy (ws_ yX2_freeCopy cX2_freeCopy 2 (some (.object "CakeDivision$State"))) rm_X2_freeCopy x base [.ref z0] h n (some (.ref res.1)) res.2.1 res.2.2 5 42 := by
  refine g_met (cc := cX2_freeCopy) (nL := 2) (ret := (some (.object "CakeDivision$State"))) (by decide) (Nat.le_of_ble_eq_true rfl) (fun p e s m below meth c ls X hnm hl hI => ?_)
  have hl : lv_has ls 2 [(0, .ref z0)] := hl
  have hx := X.1
  have hb := X.2.1
  have hcc : 0 + 5 ≤ 5 ∧ 0 + 42 ≤ 42 := ⟨Nat.le_refl _, Nat.le_refl _⟩
  unfold f_X2_freeCopy at hr
  refine g_newO (C := RX2) (T := TX2) (N := 3) (ci := 0) (fs := [.null, .null, .null]) X hI in_X2 tyX2 tyX2_ok q976 q143 q97 rfl (g_dflt3 rfl rfl rfl) (show 0 + 1 ≤ 5 from by omega) (show 0 + 3 ≤ 42 from by omega) hr dX2_freeCopy_0 (fun q1 h2 n3 H locs hI hr => ?_)
  refine lv_dup hx hb dX2_freeCopy_3 rfl ?_
  refine lv_aload_n hx hb dX2_freeCopy_4 rfl (lv_at hl 0 rfl) ?_
  obtain ⟨h5, n6, hc4, hr⟩ := gT2_i hr
  refine gRun_v (g_runI X hI (w_X2_init_2 hst hc4) hl q979 q977 q978 q97 rfl rfl rfl hd_X2_init_2 ⟨Nat.le_of_ble_eq_true rfl, Nat.le_of_ble_eq_true rfl⟩ (as := [.ref z0]) (rest := [.ref q1]) rfl rfl (Nat.le_of_ble_eq_true rfl) ⟨(show (0 + 1) + 4 ≤ 5 from by omega), (show (0 + 3) + 39 ≤ 42 from by omega)⟩ dX2_freeCopy_5) (fun H locs hI => ?_)
  refine lv_astore_n (lv' := [(1, .ref q1), (0, .ref z0)]) hx hb dX2_freeCopy_8 rfl hl (by decide) rfl (fun ls hl => ?_)
  refine lv_aload_n hx hb dX2_freeCopy_9 rfl (lv_at hl 0 rfl) ?_
  refine lv_iconst (v := 0) hx hb dX2_freeCopy_10 (by decide) ?_
  refine lv_aload_n hx hb dX2_freeCopy_11 rfl (lv_at hl 1 rfl) ?_
  obtain ⟨_, ho7, hr⟩ := gB_i hr
  obtain ⟨v9, hc8, hr⟩ := gB_i hr
  refine gRun_i (g_runV X hI (w_X2_cells hc8) ho7 rfl hl (lw_V q812 q687 q688 q97 q689) rfl rfl hd_X2_cells ⟨Nat.le_of_ble_eq_true rfl, Nat.le_of_ble_eq_true rfl⟩ (as := []) (rest := [.int (0 : Int32), .ref q1]) rfl rfl (Nat.le_of_ble_eq_true rfl) ⟨(show ((0 + 1) + 4) + 0 ≤ 5 from by omega), (show ((0 + 3) + 39) + 0 ≤ 42 from by omega)⟩ dX2_freeCopy_12) (fun H locs hI => ?_)
  refine lv_iconst (v := 1) hx hb dX2_freeCopy_15 (by decide) ?_
  refine lv_isub hx hb dX2_freeCopy_16 ?_
  obtain ⟨_, ho10, hr⟩ := gB_i hr
  obtain ⟨h12, hc11, hr⟩ := gB_i hr
  refine gRun_v (g_runV X hI (w_X2_release hc11) ho10 rfl hl (lw_V q491 q492 q493 q97 q494) rfl rfl hd_X2_release ⟨Nat.le_of_ble_eq_true rfl, Nat.le_of_ble_eq_true rfl⟩ (as := [.int (0 : Int32), .int (v9 - (1 : Int32))]) (rest := []) rfl rfl (Nat.le_of_ble_eq_true rfl) ⟨(show (((0 + 1) + 4) + 0) + 0 ≤ 5 from by omega), (show (((0 + 3) + 39) + 0) + 0 ≤ 42 from by omega)⟩ dX2_freeCopy_17) (fun H locs hI => ?_)
  refine lv_aload_n hx hb dX2_freeCopy_20 rfl (lv_at hl 0 rfl) ?_
  have hr := gS_i hr
  subst hr
  exact g_aret X hI (Or.inl ⟨_, rfl⟩) (show ((((0 + 1) + 4) + 0) + 0) ≤ 5 from by omega) (show ((((0 + 3) + 39) + 0) + 0) ≤ 42 from by omega) dX2_freeCopy_21
abbrev rm_X2_favourite : Room := { frames := 4, cells := 0, slots := 0, locals := 85 }
theorem hd_X2_favourite : yX2_favourite.cls = RX2 ∧ yX2_favourite.cls ≠ "java/lang/invoke/MethodHandle" ∧ yX2_favourite.cls ≠ "java/lang/invoke/VarHandle" ∧ (parseMethodDescriptor yX2_favourite.desc).map (fun d => d.parameters.length) = some 1 := by decide +kernel
set_option maxHeartbeats 2000000 in
theorem w_X2_favourite_J27 {h : gH} {n : Nat} {r4 : Int32 → Int32 → Option Int32} {z0 : Nat} {z1 : Int32} {z2 : Int32} {z3 : Int32} {s0 : Int32} {res : Int32} (X : gXX x base RX2 cX2_favourite 5 (some .int) p l s m args meth c) (Hr4 : ∀ {z2 : Int32} {z3 : Int32} {H : Heap} {locs : List Loc} {ls : Array Slot}, r4 z2 z3 = some res → gI x base s.heap h n H locs → lv_has ls 5 [(0, .ref z0), (1, .int z1), (2, .int z2), (3, .int z3)] → W p l e rm_X2_favourite s m args below meth c H locs 0 0 (MQ below (gQ x base (some (.int res)) h n) args s 0 0 (fun q => base ≤ q)) (F0 m 4 ls [])) {H : Heap} {locs : List Loc} {ls : Array Slot} (hr : f_X2_favourite_J27 r4 z0 z1 z2 z3 s0 h = some res) (hI : gI x base s.heap h n H locs) (hl : lv_has ls 5 [(0, .ref z0), (1, .int z1), (2, .int z2), (3, .int z3)]) : W p l e rm_X2_favourite s m args below meth c H locs 0 0 (MQ below (gQ x base (some (.int res)) h n) args s 0 0 (fun q => base ≤ q)) (F0 m 27 ls [.int s0]) := by
  have hx := X.1
  have hb := X.2.1
  unfold f_X2_favourite_J27 at hr
  refine lv_istore (lv' := [(4, .int s0), (0, .ref z0), (1, .int z1), (2, .int z2), (3, .int z3)]) hx hb dX2_favourite_27 hl (by decide) rfl (fun ls hl => ?_)
  refine lv_iload hx hb dX2_favourite_29 (lv_at hl 0 rfl) ?_
  refine lv_if_eq (tgt := 64) hx hb dX2_favourite_31 (by decide) (fun c9 => ?_) (fun c9 => ?_)
  · replace hr := gIf_t c9 hr
    refine lv_iload_n hx hb dX2_favourite_64 rfl (lv_at hl 3 rfl) ?_
    refine lv_istore_n (lv' := [(2, .int z2), (4, .int s0), (0, .ref z0), (1, .int z1), (3, .int z3)]) hx hb dX2_favourite_65 rfl hl (by decide) rfl (fun ls hl => ?_)
    refine lv_iinc (v := (z3 + (1 : Int32))) (lv' := [(3, .int (z3 + (1 : Int32))), (2, .int z2), (4, .int s0), (0, .ref z0), (1, .int z1)]) hx hb dX2_favourite_66 hl (k := 4) rfl (g_inc (by decide)) (by decide) rfl (fun ls hl => ?_)
    refine lv_goto (tgt := 4) hx hb dX2_favourite_69 (by decide) ?_
    exact Hr4 hr hI (lv_sub hl [3, 4, 1, 0] rfl)
  · replace hr := gIf_f c9 hr
    refine lv_iload_n hx hb dX2_favourite_34 rfl (lv_at hl 3 rfl) ?_
    refine lv_iconst (v := (-1)) hx hb dX2_favourite_35 (by decide) ?_
    refine lv_icmp_eq (tgt := 60) hx hb dX2_favourite_36 (by decide) (fun c9 => ?_) (fun c9 => ?_)
    · replace hr := gIf_t c9 hr
      refine lv_iload_n hx hb dX2_favourite_60 rfl (lv_at hl 4 rfl) ?_
      refine lv_goto (tgt := 65) hx hb dX2_favourite_61 (by decide) ?_
      refine lv_istore_n (lv' := [(2, .int z3), (4, .int s0), (0, .ref z0), (1, .int z1), (3, .int z3)]) hx hb dX2_favourite_65 rfl hl (by decide) rfl (fun ls hl => ?_)
      refine lv_iinc (v := (z3 + (1 : Int32))) (lv' := [(3, .int (z3 + (1 : Int32))), (2, .int z3), (4, .int s0), (0, .ref z0), (1, .int z1)]) hx hb dX2_favourite_66 hl (k := 4) rfl (g_inc (by decide)) (by decide) rfl (fun ls hl => ?_)
      refine lv_goto (tgt := 4) hx hb dX2_favourite_69 (by decide) ?_
      exact Hr4 hr hI (lv_sub hl [3, 4, 1, 0] rfl)
    · replace hr := gIf_f c9 hr
      refine lv_aload_n hx hb dX2_favourite_39 rfl (lv_at hl 1 rfl) ?_
      refine lv_iload_n hx hb dX2_favourite_40 rfl (lv_at hl 2 rfl) ?_
      obtain ⟨_, ho6, hr⟩ := gB_i hr
      obtain ⟨v8, hc7, hr⟩ := gB_i hr
      refine gRun_a (g_runV X hI (w_X2_sibling hc7) ho6 rfl hl (lw_V q665 q666 q667 q97 q668) rfl rfl hd_X2_sibling ⟨Nat.le_of_ble_eq_true rfl, Nat.le_of_ble_eq_true rfl⟩ (as := [.int z1]) (rest := []) rfl rfl (Nat.le_of_ble_eq_true rfl) ⟨(Nat.le_refl _), (Nat.le_refl _)⟩ dX2_favourite_41) (fun H locs hI => ?_)
      refine lv_iload_n hx hb dX2_favourite_44 rfl (lv_at hl 4 rfl) ?_
      obtain ⟨_, ho9, hr⟩ := gB_i hr
      obtain ⟨v11, hc10, hr⟩ := gB_i hr
      refine gRun_i (g_runV X hI (w_X5_value hc10) ho9 rfl hl (lw_V q829 q830 q831 q121 q832) rfl rfl hd_X5_value ⟨Nat.le_of_ble_eq_true rfl, Nat.le_of_ble_eq_true rfl⟩ (as := [.int z3]) (rest := []) rfl rfl (Nat.le_of_ble_eq_true rfl) ⟨(Nat.le_refl _), (Nat.le_refl _)⟩ dX2_favourite_45) (fun H locs hI => ?_)
      refine lv_aload_n hx hb dX2_favourite_48 rfl (lv_at hl 1 rfl) ?_
      refine lv_iload_n hx hb dX2_favourite_49 rfl (lv_at hl 2 rfl) ?_
      obtain ⟨v13, hc12, hr⟩ := gB_i hr
      refine gRun_a (g_runV X hI (w_X2_sibling hc12) ho6 rfl hl (lw_V q665 q666 q667 q97 q668) rfl rfl hd_X2_sibling ⟨Nat.le_of_ble_eq_true rfl, Nat.le_of_ble_eq_true rfl⟩ (as := [.int z1]) (rest := [.int v11]) rfl rfl (Nat.le_of_ble_eq_true rfl) ⟨(Nat.le_refl _), (Nat.le_refl _)⟩ dX2_favourite_50) (fun H locs hI => ?_)
      refine lv_iload_n hx hb dX2_favourite_53 rfl (lv_at hl 3 rfl) ?_
      obtain ⟨_, ho14, hr⟩ := gB_i hr
      obtain ⟨v16, hc15, hr⟩ := gB_i hr
      refine gRun_i (g_runV X hI (w_X5_value hc15) ho14 rfl hl (lw_V q829 q830 q831 q121 q832) rfl rfl hd_X5_value ⟨Nat.le_of_ble_eq_true rfl, Nat.le_of_ble_eq_true rfl⟩ (as := [.int z2]) (rest := [.int v11]) rfl rfl (Nat.le_of_ble_eq_true rfl) ⟨(Nat.le_refl _), (Nat.le_refl _)⟩ dX2_favourite_54) (fun H locs hI => ?_)
      refine lv_icmp_le (tgt := 64) hx hb dX2_favourite_57 (by decide) (fun c9 => ?_) (fun c9 => ?_)
      · replace hr := gIf_t c9 hr
        refine lv_iload_n hx hb dX2_favourite_64 rfl (lv_at hl 3 rfl) ?_
        refine lv_istore_n (lv' := [(2, .int z2), (4, .int s0), (0, .ref z0), (1, .int z1), (3, .int z3)]) hx hb dX2_favourite_65 rfl hl (by decide) rfl (fun ls hl => ?_)
        refine lv_iinc (v := (z3 + (1 : Int32))) (lv' := [(3, .int (z3 + (1 : Int32))), (2, .int z2), (4, .int s0), (0, .ref z0), (1, .int z1)]) hx hb dX2_favourite_66 hl (k := 4) rfl (g_inc (by decide)) (by decide) rfl (fun ls hl => ?_)
        refine lv_goto (tgt := 4) hx hb dX2_favourite_69 (by decide) ?_
        exact Hr4 hr hI (lv_sub hl [3, 4, 1, 0] rfl)
      · replace hr := gIf_f c9 hr
        refine lv_iload_n hx hb dX2_favourite_60 rfl (lv_at hl 4 rfl) ?_
        refine lv_goto (tgt := 65) hx hb dX2_favourite_61 (by decide) ?_
        refine lv_istore_n (lv' := [(2, .int z3), (4, .int s0), (0, .ref z0), (1, .int z1), (3, .int z3)]) hx hb dX2_favourite_65 rfl hl (by decide) rfl (fun ls hl => ?_)
        refine lv_iinc (v := (z3 + (1 : Int32))) (lv' := [(3, .int (z3 + (1 : Int32))), (2, .int z3), (4, .int s0), (0, .ref z0), (1, .int z1)]) hx hb dX2_favourite_66 hl (k := 4) rfl (g_inc (by decide)) (by decide) rfl (fun ls hl => ?_)
        refine lv_goto (tgt := 4) hx hb dX2_favourite_69 (by decide) ?_
        exact Hr4 hr hI (lv_sub hl [3, 4, 1, 0] rfl)
set_option maxHeartbeats 2000000 in
theorem w_X2_favourite_L4 {h : gH} {n : Nat} {z0 : Nat} {z1 : Int32} {res : Int32} (X : gXX x base RX2 cX2_favourite 5 (some .int) p l s m args meth c) : ∀ (k : Nat) {z2 : Int32} {z3 : Int32} {H : Heap} {locs : List Loc} {ls : Array Slot}, gL2 (f_X2_favourite_L4 z0 z1 h) k z2 z3 = some res → gI x base s.heap h n H locs → lv_has ls 5 [(0, .ref z0), (1, .int z1), (2, .int z2), (3, .int z3)] → W p l e rm_X2_favourite s m args below meth c H locs 0 0 (MQ below (gQ x base (some (.int res)) h n) args s 0 0 (fun q => base ≤ q)) (F0 m 4 ls []) := by
  have hx := X.1
  have hb := X.2.1
  intro k
  induction k with
  | zero =>
    intros
    rename_i hr _ _
    exact nomatch (show (none : Option _) = some _ from hr)
  | succ k ih =>
    intro z2 z3 H locs ls hr hI hl
    replace hr : f_X2_favourite_L4 z0 z1 h (gL2 (f_X2_favourite_L4 z0 z1 h) k) z2 z3 = some res := hr
    unfold f_X2_favourite_L4 at hr
    refine lv_iload_n hx hb dX2_favourite_4 rfl (lv_at hl 3 rfl) ?_
    refine lv_aload_n hx hb dX2_favourite_5 rfl (lv_at hl 0 rfl) ?_
    obtain ⟨_, ho1, hr⟩ := gB_i hr
    obtain ⟨v3, hc2, hr⟩ := gB_i hr
    refine gRun_i (g_runV X hI (w_X2_cells hc2) ho1 rfl hl (lw_V q812 q687 q688 q97 q689) rfl rfl hd_X2_cells ⟨Nat.le_of_ble_eq_true rfl, Nat.le_of_ble_eq_true rfl⟩ (as := []) (rest := [.int z3]) rfl rfl (Nat.le_of_ble_eq_true rfl) ⟨(Nat.le_refl _), (Nat.le_refl _)⟩ dX2_favourite_6) (fun H locs hI => ?_)
    refine lv_icmp_ge (tgt := 72) hx hb dX2_favourite_9 (by decide) (fun c9 => ?_) (fun c9 => ?_)
    · replace hr := gIf_t c9 hr
      refine lv_iload_n hx hb dX2_favourite_72 rfl (lv_at hl 2 rfl) ?_
      have hr := gS_i hr
      subst hr
      exact g_iret X hI rfl (Nat.le_refl _) (Nat.le_refl _) dX2_favourite_73
    · replace hr := gIf_f c9 hr
      refine lv_aload_n hx hb dX2_favourite_12 rfl (lv_at hl 0 rfl) ?_
      refine g_getA (C := RX2) (T := TX2) (N := 3) X hI in_X2 rfl 1 (by decide) q501 (fun _ h9 => h9) hr dX2_favourite_13 (fun v4 hr => ?_)
      refine lv_iload_n hx hb dX2_favourite_16 rfl (lv_at hl 3 rfl) ?_
      refine g_iald X hI hr dX2_favourite_17 (fun v5 hr => ?_)
      refine lv_iconst (v := (-1)) hx hb dX2_favourite_18 (by decide) ?_
      refine lv_icmp_ne (tgt := 26) hx hb dX2_favourite_19 (by decide) (fun c9 => ?_) (fun c9 => ?_)
      · replace hr := gIf_f c9 hr
        refine lv_iconst (v := 0) hx hb dX2_favourite_26 (by decide) ?_
        exact w_X2_favourite_J27 X ih hr hI (lv_sub hl [0, 1, 2, 3] rfl)
      · replace hr := gIf_t c9 hr
        refine lv_iconst (v := 1) hx hb dX2_favourite_22 (by decide) ?_
        refine lv_goto (tgt := 27) hx hb dX2_favourite_23 (by decide) ?_
        exact w_X2_favourite_J27 X ih hr hI (lv_sub hl [0, 1, 2, 3] rfl)
set_option maxHeartbeats 2000000 in
theorem w_X2_favourite {l : Launch} {x : gV} {base : Nat} {z0 : Nat} {z1 : Int32} {h : gH} {n : Nat} {res : Int32} (hr : f_X2_favourite z0 z1 h = some res) : gM l yX2_favourite (ws_ yX2_favourite cX2_favourite 5 (some .int)) rm_X2_favourite x base [.ref z0, .int z1] h n (some (.int res)) h n 0 0 := by
  refine g_met (cc := cX2_favourite) (nL := 5) (ret := (some .int)) (by decide) (Nat.le_of_ble_eq_true rfl) (fun p e s m below meth c ls X hnm hl hI => ?_)
  have hl : lv_has ls 5 [(0, .ref z0), (1, .int z1)] := hl
  have hx := X.1
  have hb := X.2.1
  unfold f_X2_favourite at hr
  refine lv_iconst (v := (-1)) hx hb dX2_favourite_0 (by decide) ?_
  refine lv_istore_n (lv' := [(2, .int (-1 : Int32)), (0, .ref z0), (1, .int z1)]) hx hb dX2_favourite_1 rfl hl (by decide) rfl (fun ls hl => ?_)
  refine lv_iconst (v := 0) hx hb dX2_favourite_2 (by decide) ?_
  refine lv_istore_n (lv' := [(3, .int (0 : Int32)), (2, .int (-1 : Int32)), (0, .ref z0), (1, .int z1)]) hx hb dX2_favourite_3 rfl hl (by decide) rfl (fun ls hl => ?_)
  exact w_X2_favourite_L4 X gN hr hI (lv_sub hl [2, 3, 1, 0] rfl)
abbrev rm_X2_roundRobin : Room := { frames := 5, cells := 0, slots := 0, locals := 109 }
theorem hd_X2_roundRobin : yX2_roundRobin.cls = RX2 ∧ yX2_roundRobin.cls ≠ "java/lang/invoke/MethodHandle" ∧ yX2_roundRobin.cls ≠ "java/lang/invoke/VarHandle" ∧ (parseMethodDescriptor yX2_roundRobin.desc).map (fun d => d.parameters.length) = some 1 := by decide +kernel
set_option maxHeartbeats 2000000 in
theorem w_X2_roundRobin_L11 {n : Nat} {z0 : Nat} {res : Int32 × gH} (X : gXX x base RX2 cX2_roundRobin 5 (some .int) p l s m args meth c) : ∀ (k : Nat) {z2 : Int32} {z3 : Int32} {z4 : Int32} {h : gH} {H : Heap} {locs : List Loc} {ls : Array Slot}, gL4 (f_X2_roundRobin_L11 z0) k z2 z3 z4 h = some res → gI x base s.heap h n H locs → lv_has ls 5 [(0, .ref z0), (2, .int z2), (3, .int z3), (4, .int z4)] → W p l e rm_X2_roundRobin s m args below meth c H locs 0 0 (MQ below (gQ x base (some (.int res.1)) res.2 n) args s 0 0 (fun q => base ≤ q)) (F0 m 11 ls []) := by
  have hx := X.1
  have hb := X.2.1
  intro k
  induction k with
  | zero =>
    intros
    rename_i hr _ _
    exact nomatch (show (none : Option _) = some _ from hr)
  | succ k ih =>
    intro z2 z3 z4 h H locs ls hr hI hl
    replace hr : f_X2_roundRobin_L11 z0 (gL4 (f_X2_roundRobin_L11 z0) k) z2 z3 z4 h = some res := hr
    unfold f_X2_roundRobin_L11 at hr
    refine lv_iload hx hb dX2_roundRobin_11 (lv_at hl 3 rfl) ?_
    refine lv_iconst (v := (-1)) hx hb dX2_roundRobin_13 (by decide) ?_
    refine lv_icmp_eq (tgt := 56) hx hb dX2_roundRobin_14 (by decide) (fun c9 => ?_) (fun c9 => ?_)
    · replace hr := gIf_t c9 hr
      refine lv_iload_n hx hb dX2_roundRobin_56 rfl (lv_at hl 1 rfl) ?_
      have hr := gS_i hr
      subst hr
      exact g_iret X hI rfl (Nat.le_refl _) (Nat.le_refl _) dX2_roundRobin_57
    · replace hr := gIf_f c9 hr
      refine lv_aload_n hx hb dX2_roundRobin_17 rfl (lv_at hl 0 rfl) ?_
      refine g_getA (C := RX2) (T := TX2) (N := 3) X hI in_X2 rfl 1 (by decide) q501 (fun _ h9 => h9) hr dX2_roundRobin_18 (fun v4 hr => ?_)
      refine lv_iload hx hb dX2_roundRobin_21 (lv_at hl 3 rfl) ?_
      refine lv_iload_n hx hb dX2_roundRobin_23 rfl (lv_at hl 2 rfl) ?_
      refine g_iast X hI hr dX2_roundRobin_24 (fun h5 H locs hI hr => ?_)
      refine lv_iload_n hx hb dX2_roundRobin_25 rfl (lv_at hl 2 rfl) ?_
      refine lv_iconst (v := 1) hx hb dX2_roundRobin_26 (by decide) ?_
      refine lv_iadd hx hb dX2_roundRobin_27 ?_
      refine lv_aload_n hx hb dX2_roundRobin_28 rfl (lv_at hl 0 rfl) ?_
      obtain ⟨_, ho6, hr⟩ := gB_i hr
      obtain ⟨v8, hc7, hr⟩ := gB_i hr
      refine gRun_i (g_runV X hI (w_X2_size hc7) ho6 rfl hl (lw_V q664 q643 q644 q97 q645) rfl rfl hd_X2_size ⟨Nat.le_of_ble_eq_true rfl, Nat.le_of_ble_eq_true rfl⟩ (as := []) (rest := [.int (z3 + (1 : Int32))]) rfl rfl (Nat.le_of_ble_eq_true rfl) ⟨(Nat.le_refl _), (Nat.le_refl _)⟩ dX2_roundRobin_29) (fun H locs hI => ?_)
      refine lv_icmp_ge (tgt := 41) hx hb dX2_roundRobin_32 (by decide) (fun c9 => ?_) (fun c9 => ?_)
      · replace hr := gIf_t c9 hr
        refine lv_iconst (v := 0) hx hb dX2_roundRobin_41 (by decide) ?_
        refine lv_istore_n (lv' := [(3, .int (0 : Int32)), (0, .ref z0), (2, .int z2), (4, .int z4)]) hx hb dX2_roundRobin_42 rfl hl (by decide) rfl (fun ls hl => ?_)
        refine lv_iinc (v := (z2 + (1 : Int32))) (lv' := [(2, .int (z2 + (1 : Int32))), (3, .int (0 : Int32)), (0, .ref z0), (4, .int z4)]) hx hb dX2_roundRobin_43 hl (k := 2) rfl (g_inc (by decide)) (by decide) rfl (fun ls hl => ?_)
        refine lv_aload_n hx hb dX2_roundRobin_46 rfl (lv_at hl 2 rfl) ?_
        refine lv_iload_n hx hb dX2_roundRobin_47 rfl (lv_at hl 1 rfl) ?_
        obtain ⟨v10, hc9, hr⟩ := gB_i hr
        refine gRun_i (g_runV X hI (w_X2_favourite hc9) ho6 rfl hl (lw_V q987 q988 q989 q97 q990) rfl rfl hd_X2_favourite ⟨Nat.le_of_ble_eq_true rfl, Nat.le_of_ble_eq_true rfl⟩ (as := [.int (0 : Int32)]) (rest := []) rfl rfl (Nat.le_of_ble_eq_true rfl) ⟨(Nat.le_refl _), (Nat.le_refl _)⟩ dX2_roundRobin_48) (fun H locs hI => ?_)
        refine lv_istore (lv' := [(4, .int v10), (2, .int (z2 + (1 : Int32))), (3, .int (0 : Int32)), (0, .ref z0)]) hx hb dX2_roundRobin_51 hl (by decide) rfl (fun ls hl => ?_)
        refine lv_goto (tgt := 11) hx hb dX2_roundRobin_53 (by decide) ?_
        exact ih hr hI (lv_sub hl [3, 1, 2, 0] rfl)
      · replace hr := gIf_f c9 hr
        refine lv_iload_n hx hb dX2_roundRobin_35 rfl (lv_at hl 2 rfl) ?_
        refine lv_iconst (v := 1) hx hb dX2_roundRobin_36 (by decide) ?_
        refine lv_iadd hx hb dX2_roundRobin_37 ?_
        refine lv_goto (tgt := 42) hx hb dX2_roundRobin_38 (by decide) ?_
        refine lv_istore_n (lv' := [(3, .int (z3 + (1 : Int32))), (0, .ref z0), (2, .int z2), (4, .int z4)]) hx hb dX2_roundRobin_42 rfl hl (by decide) rfl (fun ls hl => ?_)
        refine lv_iinc (v := (z2 + (1 : Int32))) (lv' := [(2, .int (z2 + (1 : Int32))), (3, .int (z3 + (1 : Int32))), (0, .ref z0), (4, .int z4)]) hx hb dX2_roundRobin_43 hl (k := 2) rfl (g_inc (by decide)) (by decide) rfl (fun ls hl => ?_)
        refine lv_aload_n hx hb dX2_roundRobin_46 rfl (lv_at hl 2 rfl) ?_
        refine lv_iload_n hx hb dX2_roundRobin_47 rfl (lv_at hl 1 rfl) ?_
        obtain ⟨v12, hc11, hr⟩ := gB_i hr
        refine gRun_i (g_runV X hI (w_X2_favourite hc11) ho6 rfl hl (lw_V q987 q988 q989 q97 q990) rfl rfl hd_X2_favourite ⟨Nat.le_of_ble_eq_true rfl, Nat.le_of_ble_eq_true rfl⟩ (as := [.int (z3 + (1 : Int32))]) (rest := []) rfl rfl (Nat.le_of_ble_eq_true rfl) ⟨(Nat.le_refl _), (Nat.le_refl _)⟩ dX2_roundRobin_48) (fun H locs hI => ?_)
        refine lv_istore (lv' := [(4, .int v12), (2, .int (z2 + (1 : Int32))), (3, .int (z3 + (1 : Int32))), (0, .ref z0)]) hx hb dX2_roundRobin_51 hl (by decide) rfl (fun ls hl => ?_)
        refine lv_goto (tgt := 11) hx hb dX2_roundRobin_53 (by decide) ?_
        exact ih hr hI (lv_sub hl [3, 1, 2, 0] rfl)
set_option maxHeartbeats 2000000 in
theorem w_X2_roundRobin {l : Launch} {x : gV} {base : Nat} {z0 : Nat} {z1 : Int32} {h : gH} {n : Nat} {res : Int32 × gH} (hr : f_X2_roundRobin z0 z1 h = some res) : gM l yX2_roundRobin (ws_ yX2_roundRobin cX2_roundRobin 5 (some .int)) rm_X2_roundRobin x base [.ref z0, .int z1] h n (some (.int res.1)) res.2 n 0 0 := by
  refine g_met (cc := cX2_roundRobin) (nL := 5) (ret := (some .int)) (by decide) (Nat.le_of_ble_eq_true rfl) (fun p e s m below meth c ls X hnm hl hI => ?_)
  have hl : lv_has ls 5 [(0, .ref z0), (1, .int z1)] := hl
  have hx := X.1
  have hb := X.2.1
  unfold f_X2_roundRobin at hr
  refine lv_iconst (v := 0) hx hb dX2_roundRobin_0 (by decide) ?_
  refine lv_istore_n (lv' := [(2, .int (0 : Int32)), (0, .ref z0), (1, .int z1)]) hx hb dX2_roundRobin_1 rfl hl (by decide) rfl (fun ls hl => ?_)
  refine lv_iload_n hx hb dX2_roundRobin_2 rfl (lv_at hl 2 rfl) ?_
  refine lv_istore_n (lv' := [(3, .int z1), (2, .int (0 : Int32)), (0, .ref z0), (1, .int z1)]) hx hb dX2_roundRobin_3 rfl hl (by decide) rfl (fun ls hl => ?_)
  refine lv_aload_n hx hb dX2_roundRobin_4 rfl (lv_at hl 2 rfl) ?_
  refine lv_iload_n hx hb dX2_roundRobin_5 rfl (lv_at hl 0 rfl) ?_
  obtain ⟨_, ho1, hr⟩ := gB_i hr
  obtain ⟨v3, hc2, hr⟩ := gB_i hr
  refine gRun_i (g_runV X hI (w_X2_favourite hc2) ho1 rfl hl (lw_V q987 q988 q989 q97 q990) rfl rfl hd_X2_favourite ⟨Nat.le_of_ble_eq_true rfl, Nat.le_of_ble_eq_true rfl⟩ (as := [.int z1]) (rest := []) rfl rfl (Nat.le_of_ble_eq_true rfl) ⟨(Nat.le_refl _), (Nat.le_refl _)⟩ dX2_roundRobin_6) (fun H locs hI => ?_)
  refine lv_istore (lv' := [(4, .int v3), (3, .int z1), (2, .int (0 : Int32)), (0, .ref z0), (1, .int z1)]) hx hb dX2_roundRobin_9 hl (by decide) rfl (fun ls hl => ?_)
  exact w_X2_roundRobin_L11 X gN hr hI (lv_sub hl [3, 2, 1, 0] rfl)
abbrev rm_X1_afterRobin : Room := { frames := 7, cells := 5, slots := 42, locals := 149 }
theorem hd_X1_afterRobin : yX1_afterRobin.cls = RX1 ∧ yX1_afterRobin.cls ≠ "java/lang/invoke/MethodHandle" ∧ yX1_afterRobin.cls ≠ "java/lang/invoke/VarHandle" ∧ (parseMethodDescriptor yX1_afterRobin.desc).map (fun d => d.parameters.length) = some 1 := by decide +kernel
set_option maxHeartbeats 2000000 in
theorem w_X1_afterRobin {l : Launch} {x : gV} {base : Nat} (hst : l.stackTraces = false) {z0 : Nat} {z1 : Int32} {h : gH} {n : Nat} {res : Nat × gH × Nat} (hr : f_X1_afterRobin z0 z1 h n = some res) : gM l yX1_afterRobin (ws_ yX1_afterRobin cX1_afterRobin 3 (some (.object "CakeDivision$State"))) rm_X1_afterRobin x base [.ref z0, .int z1] h n (some (.ref res.1)) res.2.1 res.2.2 5 42 := by
  refine g_met (cc := cX1_afterRobin) (nL := 3) (ret := (some (.object "CakeDivision$State"))) (by decide) (Nat.le_of_ble_eq_true rfl) (fun p e s m below meth c ls X hnm hl hI => ?_)
  have hl : lv_has ls 3 [(0, .ref z0), (1, .int z1)] := hl
  have hx := X.1
  have hb := X.2.1
  have hcc : 0 + 5 ≤ 5 ∧ 0 + 42 ≤ 42 := ⟨Nat.le_refl _, Nat.le_refl _⟩
  unfold f_X1_afterRobin at hr
  refine lv_aload_n hx hb dX1_afterRobin_0 rfl (lv_at hl 0 rfl) ?_
  refine g_getA (C := RX1) (T := TX1) (N := 10) X hI in_X1 rfl 4 (by decide) q760 (fun _ h9 => h9) hr dX1_afterRobin_1 (fun v1 hr => ?_)
  obtain ⟨_, ho2, hr⟩ := gB_i hr
  obtain ⟨v4, h5, n6, hc3, hr⟩ := gT3_i hr
  refine gRun_a (g_runV X hI (w_X2_freeCopy hst hc3) ho2 rfl hl (lw_V q972 q973 q974 q97 q975) rfl rfl hd_X2_freeCopy ⟨Nat.le_of_ble_eq_true rfl, Nat.le_of_ble_eq_true rfl⟩ (as := []) (rest := []) rfl rfl (Nat.le_of_ble_eq_true rfl) ⟨(show 0 + 5 ≤ 5 from by omega), (show 0 + 42 ≤ 42 from by omega)⟩ dX1_afterRobin_4) (fun H locs hI => ?_)
  refine lv_astore_n (lv' := [(2, .ref v4), (0, .ref z0), (1, .int z1)]) hx hb dX1_afterRobin_7 rfl hl (by decide) rfl (fun ls hl => ?_)
  refine lv_aload_n hx hb dX1_afterRobin_8 rfl (lv_at hl 0 rfl) ?_
  refine lv_iload_n hx hb dX1_afterRobin_9 rfl (lv_at hl 2 rfl) ?_
  obtain ⟨_, ho7, hr⟩ := gB_i hr
  obtain ⟨v9, h10, hc8, hr⟩ := gT2_i hr
  refine gRun_i (g_runV X hI (w_X2_roundRobin hc8) ho7 rfl hl (lw_V q983 q984 q985 q97 q986) rfl rfl hd_X2_roundRobin ⟨Nat.le_of_ble_eq_true rfl, Nat.le_of_ble_eq_true rfl⟩ (as := [.int z1]) (rest := []) rfl rfl (Nat.le_of_ble_eq_true rfl) ⟨(show (0 + 5) + 0 ≤ 5 from by omega), (show (0 + 42) + 0 ≤ 42 from by omega)⟩ dX1_afterRobin_10) (fun H locs hI => ?_)
  refine lv_pop hx hb dX1_afterRobin_13 rfl ?_
  refine lv_aload_n hx hb dX1_afterRobin_14 rfl (lv_at hl 0 rfl) ?_
  have hr := gS_i hr
  subst hr
  exact g_aret X hI (Or.inl ⟨_, rfl⟩) (show ((0 + 5) + 0) ≤ 5 from by omega) (show ((0 + 42) + 0) ≤ 42 from by omega) dX1_afterRobin_15
abbrev rm_X1_bestFirst : Room := { frames := 8, cells := 40, slots := 336, locals := 171 }
theorem hd_X1_bestFirst : yX1_bestFirst.cls = RX1 ∧ yX1_bestFirst.cls ≠ "java/lang/invoke/MethodHandle" ∧ yX1_bestFirst.cls ≠ "java/lang/invoke/VarHandle" ∧ (parseMethodDescriptor yX1_bestFirst.desc).map (fun d => d.parameters.length) = some 0 := by decide +kernel
set_option maxHeartbeats 2000000 in
theorem w_X1_bestFirst_L6 {z0 : Nat} {res : Int32 × gH × Nat} (X : gXX x base RX1 cX1_bestFirst 5 (some .int) p l s m args meth c) (hst : l.stackTraces = false) : ∀ (k : Nat) {z1 : Int32} {z2 : Int32} {z3 : Int32} {h : gH} {n : Nat} {H : Heap} {locs : List Loc} {ls : Array Slot} {cells slots : Nat}, gL5 (f_X1_bestFirst_L6 z0) k z1 z2 z3 h n = some res → gI x base s.heap h n H locs → lv_has ls 5 [(0, .ref z0), (1, .int z1), (2, .int z2), (3, .int z3)] → (cells + (k * 5 + (5)) ≤ 40 ∧ slots + (k * 42 + (42)) ≤ 336) → W p l e rm_X1_bestFirst s m args below meth c H locs cells slots (MQ below (gQ x base (some (.int res.1)) res.2.1 res.2.2) args s 40 336 (fun q => base ≤ q)) (F0 m 6 ls []) := by
  have hx := X.1
  have hb := X.2.1
  intro k
  induction k with
  | zero =>
    intros
    rename_i hr _ _ _
    exact nomatch (show (none : Option _) = some _ from hr)
  | succ k ih =>
    intro z1 z2 z3 h n H locs ls cells slots hr hI hl hcc
    replace hr : f_X1_bestFirst_L6 z0 (gL5 (f_X1_bestFirst_L6 z0) k) z1 z2 z3 h n = some res := hr
    unfold f_X1_bestFirst_L6 at hr
    refine lv_iload_n hx hb dX1_bestFirst_6 rfl (lv_at hl 3 rfl) ?_
    refine lv_aload_n hx hb dX1_bestFirst_7 rfl (lv_at hl 0 rfl) ?_
    refine g_getA (C := RX1) (T := TX1) (N := 10) X hI in_X1 rfl 4 (by decide) q760 (fun _ h9 => h9) hr dX1_bestFirst_8 (fun v1 hr => ?_)
    obtain ⟨_, ho2, hr⟩ := gB_i hr
    obtain ⟨v4, hc3, hr⟩ := gB_i hr
    refine gRun_i (g_runV X hI (w_X2_size hc3) ho2 rfl hl (lw_V q642 q643 q644 q97 q645) rfl rfl hd_X2_size ⟨Nat.le_of_ble_eq_true rfl, Nat.le_of_ble_eq_true rfl⟩ (as := []) (rest := [.int z3]) rfl rfl (Nat.le_of_ble_eq_true rfl) ⟨(show cells + 0 ≤ 40 from by omega), (show slots + 0 ≤ 336 from by omega)⟩ dX1_bestFirst_11) (fun H locs hI => ?_)
    refine lv_icmp_ge (tgt := 52) hx hb dX1_bestFirst_14 (by decide) (fun c9 => ?_) (fun c9 => ?_)
    · replace hr := gIf_t c9 hr
      refine lv_iload_n hx hb dX1_bestFirst_52 rfl (lv_at hl 1 rfl) ?_
      have hr := gS_i hr
      subst hr
      exact g_iret X hI rfl (show (cells + 0) ≤ 40 from by omega) (show (slots + 0) ≤ 336 from by omega) dX1_bestFirst_53
    · replace hr := gIf_f c9 hr
      refine lv_aload_n hx hb dX1_bestFirst_17 rfl (lv_at hl 0 rfl) ?_
      refine lv_iload_n hx hb dX1_bestFirst_18 rfl (lv_at hl 3 rfl) ?_
      obtain ⟨_, ho5, hr⟩ := gB_i hr
      obtain ⟨v7, h8, n9, hc6, hr⟩ := gT3_i hr
      refine gRun_a (g_runV X hI (w_X1_afterRobin hst hc6) ho5 rfl hl (lw_V q968 q970 qs10 q96 q971) rfl rfl hd_X1_afterRobin ⟨Nat.le_of_ble_eq_true rfl, Nat.le_of_ble_eq_true rfl⟩ (as := [.int z3]) (rest := []) rfl rfl (Nat.le_of_ble_eq_true rfl) ⟨(show (cells + 0) + 5 ≤ 40 from by omega), (show (slots + 0) + 42 ≤ 336 from by omega)⟩ dX1_bestFirst_19) (fun H locs hI => ?_)
      obtain ⟨_, ho10, hr⟩ := gB_i hr
      obtain ⟨v12, hc11, hr⟩ := gB_i hr
      refine gRun_i (g_runV X hI (w_X2_leastWelfare hc11) ho10 rfl hl (lw_V q883 q884 q885 q97 q886) rfl rfl hd_X2_leastWelfare ⟨Nat.le_of_ble_eq_true rfl, Nat.le_of_ble_eq_true rfl⟩ (as := []) (rest := []) rfl rfl (Nat.le_of_ble_eq_true rfl) ⟨(show ((cells + 0) + 5) + 0 ≤ 40 from by omega), (show ((slots + 0) + 42) + 0 ≤ 336 from by omega)⟩ dX1_bestFirst_22) (fun H locs hI => ?_)
      refine lv_istore (lv' := [(4, .int v12), (0, .ref z0), (1, .int z1), (2, .int z2), (3, .int z3)]) hx hb dX1_bestFirst_25 hl (by decide) rfl (fun ls hl => ?_)
      refine lv_iload hx hb dX1_bestFirst_27 (lv_at hl 0 rfl) ?_
      refine lv_iload_n hx hb dX1_bestFirst_29 rfl (lv_at hl 3 rfl) ?_
      refine lv_icmp_le (tgt := 37) hx hb dX1_bestFirst_30 (by decide) (fun c9 => ?_) (fun c9 => ?_)
      · replace hr := gIf_t c9 hr
        refine lv_iload_n hx hb dX1_bestFirst_37 rfl (lv_at hl 2 rfl) ?_
        refine lv_istore_n (lv' := [(1, .int z1), (4, .int v12), (0, .ref z0), (2, .int z2), (3, .int z3)]) hx hb dX1_bestFirst_38 rfl hl (by decide) rfl (fun ls hl => ?_)
        refine lv_iload_n hx hb dX1_bestFirst_39 rfl (lv_at hl 3 rfl) ?_
        refine lv_iload hx hb dX1_bestFirst_40 (lv_at hl 1 rfl) ?_
        refine va_mmax hx hb (X.2.2.1.trans hl.1.symm) X.2.2.2.2.1 (X.w q902) (X.w q264) (X.w q110) (X.w q265) (Nat.le_of_ble_eq_true rfl) (Nat.le_of_ble_eq_true rfl) (show (((cells + 0) + 5) + 0) ≤ 40 from by omega) (show (((slots + 0) + 42) + 0) ≤ 336 from by omega) dX1_bestFirst_42 ?_
        refine lv_istore_n (lv' := [(2, .int (if z2 < v12 then v12 else z2)), (1, .int z1), (4, .int v12), (0, .ref z0), (3, .int z3)]) hx hb dX1_bestFirst_45 rfl hl (by decide) rfl (fun ls hl => ?_)
        refine lv_iinc (v := (z3 + (1 : Int32))) (lv' := [(3, .int (z3 + (1 : Int32))), (2, .int (if z2 < v12 then v12 else z2)), (1, .int z1), (4, .int v12), (0, .ref z0)]) hx hb dX1_bestFirst_46 hl (k := 4) rfl (g_inc (by decide)) (by decide) rfl (fun ls hl => ?_)
        refine lv_goto (tgt := 6) hx hb dX1_bestFirst_49 (by decide) ?_
        exact ih hr hI (lv_sub hl [4, 2, 1, 0] rfl) (by omega)
      · replace hr := gIf_f c9 hr
        refine lv_iload_n hx hb dX1_bestFirst_33 rfl (lv_at hl 4 rfl) ?_
        refine lv_goto (tgt := 38) hx hb dX1_bestFirst_34 (by decide) ?_
        refine lv_istore_n (lv' := [(1, .int z3), (4, .int v12), (0, .ref z0), (2, .int z2), (3, .int z3)]) hx hb dX1_bestFirst_38 rfl hl (by decide) rfl (fun ls hl => ?_)
        refine lv_iload_n hx hb dX1_bestFirst_39 rfl (lv_at hl 3 rfl) ?_
        refine lv_iload hx hb dX1_bestFirst_40 (lv_at hl 1 rfl) ?_
        refine va_mmax hx hb (X.2.2.1.trans hl.1.symm) X.2.2.2.2.1 (X.w q902) (X.w q264) (X.w q110) (X.w q265) (Nat.le_of_ble_eq_true rfl) (Nat.le_of_ble_eq_true rfl) (show (((cells + 0) + 5) + 0) ≤ 40 from by omega) (show (((slots + 0) + 42) + 0) ≤ 336 from by omega) dX1_bestFirst_42 ?_
        refine lv_istore_n (lv' := [(2, .int (if z2 < v12 then v12 else z2)), (1, .int z3), (4, .int v12), (0, .ref z0), (3, .int z3)]) hx hb dX1_bestFirst_45 rfl hl (by decide) rfl (fun ls hl => ?_)
        refine lv_iinc (v := (z3 + (1 : Int32))) (lv' := [(3, .int (z3 + (1 : Int32))), (2, .int (if z2 < v12 then v12 else z2)), (1, .int z3), (4, .int v12), (0, .ref z0)]) hx hb dX1_bestFirst_46 hl (k := 4) rfl (g_inc (by decide)) (by decide) rfl (fun ls hl => ?_)
        refine lv_goto (tgt := 6) hx hb dX1_bestFirst_49 (by decide) ?_
        exact ih hr hI (lv_sub hl [4, 2, 1, 0] rfl) (by omega)
set_option maxHeartbeats 2000000 in
theorem w_X1_bestFirst {l : Launch} {x : gV} {base : Nat} (hst : l.stackTraces = false) {z0 : Nat} {h : gH} {n : Nat} {res : Int32 × gH × Nat} (hr : f_X1_bestFirst z0 h n = some res) : gM l yX1_bestFirst (ws_ yX1_bestFirst cX1_bestFirst 5 (some .int)) rm_X1_bestFirst x base [.ref z0] h n (some (.int res.1)) res.2.1 res.2.2 40 336 := by
  refine g_met (cc := cX1_bestFirst) (nL := 5) (ret := (some .int)) (by decide) (Nat.le_of_ble_eq_true rfl) (fun p e s m below meth c ls X hnm hl hI => ?_)
  have hl : lv_has ls 5 [(0, .ref z0)] := hl
  have hx := X.1
  have hb := X.2.1
  have hcc : 0 + 40 ≤ 40 ∧ 0 + 336 ≤ 336 := ⟨Nat.le_refl _, Nat.le_refl _⟩
  unfold f_X1_bestFirst at hr
  refine lv_iconst (v := (-1)) hx hb dX1_bestFirst_0 (by decide) ?_
  refine lv_istore_n (lv' := [(1, .int (-1 : Int32)), (0, .ref z0)]) hx hb dX1_bestFirst_1 rfl hl (by decide) rfl (fun ls hl => ?_)
  refine lv_iconst (v := (-1)) hx hb dX1_bestFirst_2 (by decide) ?_
  refine lv_istore_n (lv' := [(2, .int (-1 : Int32)), (1, .int (-1 : Int32)), (0, .ref z0)]) hx hb dX1_bestFirst_3 rfl hl (by decide) rfl (fun ls hl => ?_)
  refine lv_iconst (v := 0) hx hb dX1_bestFirst_4 (by decide) ?_
  refine lv_istore_n (lv' := [(3, .int (0 : Int32)), (2, .int (-1 : Int32)), (1, .int (-1 : Int32)), (0, .ref z0)]) hx hb dX1_bestFirst_5 rfl hl (by decide) rfl (fun ls hl => ?_)
  exact w_X1_bestFirst_L6 X hst 7 hr hI (lv_sub hl [3, 2, 1, 0] rfl) (by omega)
abbrev rm_X2_firstUnserved : Room := { frames := 0, cells := 0, slots := 0, locals := 0 }
theorem hd_X2_firstUnserved : yX2_firstUnserved.cls = RX2 ∧ yX2_firstUnserved.cls ≠ "java/lang/invoke/MethodHandle" ∧ yX2_firstUnserved.cls ≠ "java/lang/invoke/VarHandle" ∧ (parseMethodDescriptor yX2_firstUnserved.desc).map (fun d => d.parameters.length) = some 0 := by decide +kernel
set_option maxHeartbeats 2000000 in
theorem w_X2_firstUnserved_L2 {h : gH} {n : Nat} {z0 : Nat} {res : Int32} (X : gXX x base RX2 cX2_firstUnserved 2 (some .int) p l s m args meth c) : ∀ (k : Nat) {z1 : Int32} {H : Heap} {locs : List Loc} {ls : Array Slot}, gL1 (f_X2_firstUnserved_L2 z0 h) k z1 = some res → gI x base s.heap h n H locs → lv_has ls 2 [(0, .ref z0), (1, .int z1)] → W p l e rm_X2_firstUnserved s m args below meth c H locs 0 0 (MQ below (gQ x base (some (.int res)) h n) args s 0 0 (fun q => base ≤ q)) (F0 m 2 ls []) := by
  have hx := X.1
  have hb := X.2.1
  intro k
  induction k with
  | zero =>
    intros
    rename_i hr _ _
    exact nomatch (show (none : Option _) = some _ from hr)
  | succ k ih =>
    intro z1 H locs ls hr hI hl
    replace hr : f_X2_firstUnserved_L2 z0 h (gL1 (f_X2_firstUnserved_L2 z0 h) k) z1 = some res := hr
    unfold f_X2_firstUnserved_L2 at hr
    refine lv_aload_n hx hb dX2_firstUnserved_2 rfl (lv_at hl 0 rfl) ?_
    refine g_getA (C := RX2) (T := TX2) (N := 3) X hI in_X2 rfl 2 (by decide) q503 (fun _ h9 => h9) hr dX2_firstUnserved_3 (fun v1 hr => ?_)
    refine lv_iload_n hx hb dX2_firstUnserved_6 rfl (lv_at hl 1 rfl) ?_
    refine g_zald X hI hr dX2_firstUnserved_7 (fun v2 hr => ?_)
    refine lv_if_eq (tgt := 17) hx hb dX2_firstUnserved_8 (by decide) (fun c9 => ?_) (fun c9 => ?_)
    · replace hr := gIf_t c9 hr
      refine lv_iload_n hx hb dX2_firstUnserved_17 rfl (lv_at hl 1 rfl) ?_
      have hr := gS_i hr
      subst hr
      exact g_iret X hI rfl (Nat.le_refl _) (Nat.le_refl _) dX2_firstUnserved_18
    · replace hr := gIf_f c9 hr
      refine lv_iinc (v := (z1 + (1 : Int32))) (lv' := [(1, .int (z1 + (1 : Int32))), (0, .ref z0)]) hx hb dX2_firstUnserved_11 hl (k := 1) rfl (g_inc (by decide)) (by decide) rfl (fun ls hl => ?_)
      refine lv_goto (tgt := 2) hx hb dX2_firstUnserved_14 (by decide) ?_
      exact ih hr hI (lv_sub hl [1, 0] rfl)
set_option maxHeartbeats 2000000 in
theorem w_X2_firstUnserved {l : Launch} {x : gV} {base : Nat} {z0 : Nat} {h : gH} {n : Nat} {res : Int32} (hr : f_X2_firstUnserved z0 h = some res) : gM l yX2_firstUnserved (ws_ yX2_firstUnserved cX2_firstUnserved 2 (some .int)) rm_X2_firstUnserved x base [.ref z0] h n (some (.int res)) h n 0 0 := by
  refine g_met (cc := cX2_firstUnserved) (nL := 2) (ret := (some .int)) (by decide) (Nat.le_of_ble_eq_true rfl) (fun p e s m below meth c ls X hnm hl hI => ?_)
  have hl : lv_has ls 2 [(0, .ref z0)] := hl
  have hx := X.1
  have hb := X.2.1
  unfold f_X2_firstUnserved at hr
  refine lv_iconst (v := 0) hx hb dX2_firstUnserved_0 (by decide) ?_
  refine lv_istore_n (lv' := [(1, .int (0 : Int32)), (0, .ref z0)]) hx hb dX2_firstUnserved_1 rfl hl (by decide) rfl (fun ls hl => ?_)
  exact w_X2_firstUnserved_L2 X gN hr hI (lv_sub hl [1, 0] rfl)
abbrev rm_X5_mark : Room := { frames := 1, cells := 0, slots := 0, locals := 24 }
theorem hd_X5_mark : yX5_mark.cls = RX5 ∧ yX5_mark.cls ≠ "java/lang/invoke/MethodHandle" ∧ yX5_mark.cls ≠ "java/lang/invoke/VarHandle" ∧ (parseMethodDescriptor yX5_mark.desc).map (fun d => d.parameters.length) = some 2 := by decide +kernel
set_option maxHeartbeats 2000000 in
theorem w_X5_mark_L16 {h : gH} {n : Nat} {z0 : Nat} {z1 : Int32} {z2 : Int32} {z3 : Int32} {res : Int32} (X : gXX x base RX5 cX5_mark 5 (some .int) p l s m args meth c) : ∀ (k : Nat) {z4 : Int32} {H : Heap} {locs : List Loc} {ls : Array Slot}, gL1 (f_X5_mark_L16 z0 z1 z2 z3 h) k z4 = some res → gI x base s.heap h n H locs → lv_has ls 5 [(0, .ref z0), (1, .int z1), (2, .int z2), (3, .int z3), (4, .int z4)] → W p l e rm_X5_mark s m args below meth c H locs 0 0 (MQ below (gQ x base (some (.int res)) h n) args s 0 0 (fun q => base ≤ q)) (F0 m 16 ls []) := by
  have hx := X.1
  have hb := X.2.1
  intro k
  induction k with
  | zero =>
    intros
    rename_i hr _ _
    exact nomatch (show (none : Option _) = some _ from hr)
  | succ k ih =>
    intro z4 H locs ls hr hI hl
    replace hr : f_X5_mark_L16 z0 z1 z2 z3 h (gL1 (f_X5_mark_L16 z0 z1 z2 z3 h) k) z4 = some res := hr
    unfold f_X5_mark_L16 at hr
    refine lv_aload_n hx hb dX5_mark_16 rfl (lv_at hl 0 rfl) ?_
    refine lv_iload_n hx hb dX5_mark_17 rfl (lv_at hl 1 rfl) ?_
    refine lv_iload hx hb dX5_mark_18 (lv_at hl 4 rfl) ?_
    obtain ⟨_, ho6, hr⟩ := gB_i hr
    obtain ⟨v8, hc7, hr⟩ := gB_i hr
    refine gRun_i (g_runV X hI (w_X5_worth hc7) ho6 rfl hl (lw_V q870 q871 q872 q121 q873) rfl rfl hd_X5_worth ⟨Nat.le_of_ble_eq_true rfl, Nat.le_of_ble_eq_true rfl⟩ (as := [.int z1, .int z4]) (rest := []) rfl rfl (Nat.le_of_ble_eq_true rfl) ⟨(Nat.le_refl _), (Nat.le_refl _)⟩ dX5_mark_20) (fun H locs hI => ?_)
    refine lv_iload_n hx hb dX5_mark_23 rfl (lv_at hl 2 rfl) ?_
    refine lv_imul hx hb dX5_mark_24 ?_
    refine lv_iload_n hx hb dX5_mark_25 rfl (lv_at hl 3 rfl) ?_
    refine lv_icmp_ge (tgt := 35) hx hb dX5_mark_26 (by decide) (fun c9 => ?_) (fun c9 => ?_)
    · replace hr := gIf_t c9 hr
      refine lv_iload hx hb dX5_mark_35 (lv_at hl 4 rfl) ?_
      have hr := gS_i hr
      subst hr
      exact g_iret X hI rfl (Nat.le_refl _) (Nat.le_refl _) dX5_mark_37
    · replace hr := gIf_f c9 hr
      refine lv_iinc (v := (z4 + (1 : Int32))) (lv' := [(4, .int (z4 + (1 : Int32))), (0, .ref z0), (1, .int z1), (2, .int z2), (3, .int z3)]) hx hb dX5_mark_29 hl (k := 4) rfl (g_inc (by decide)) (by decide) rfl (fun ls hl => ?_)
      refine lv_goto (tgt := 16) hx hb dX5_mark_32 (by decide) ?_
      exact ih hr hI (lv_sub hl [1, 2, 3, 4, 0] rfl)
set_option maxHeartbeats 2000000 in
theorem w_X5_mark {l : Launch} {x : gV} {base : Nat} {z0 : Nat} {z1 : Int32} {z2 : Int32} {h : gH} {n : Nat} {res : Int32} (hr : f_X5_mark z0 z1 z2 h = some res) : gM l yX5_mark (ws_ yX5_mark cX5_mark 5 (some .int)) rm_X5_mark x base [.ref z0, .int z1, .int z2] h n (some (.int res)) h n 0 0 := by
  refine g_met (cc := cX5_mark) (nL := 5) (ret := (some .int)) (by decide) (Nat.le_of_ble_eq_true rfl) (fun p e s m below meth c ls X hnm hl hI => ?_)
  have hl : lv_has ls 5 [(0, .ref z0), (1, .int z1), (2, .int z2)] := hl
  have hx := X.1
  have hb := X.2.1
  unfold f_X5_mark at hr
  refine lv_aload_n hx hb dX5_mark_0 rfl (lv_at hl 0 rfl) ?_
  refine lv_iload_n hx hb dX5_mark_1 rfl (lv_at hl 1 rfl) ?_
  refine lv_aload_n hx hb dX5_mark_2 rfl (lv_at hl 0 rfl) ?_
  refine g_getA (C := RX5) (T := TX5) (N := 2) X hI in_X5 rfl 1 (by decide) q699 (fun _ h9 => h9) hr dX5_mark_3 (fun v1 hr => ?_)
  refine g_alen X hI (t := 0) rfl hr dX5_mark_6 (fun v2 hr => ?_)
  refine lv_iconst (v := 1) hx hb dX5_mark_7 (by decide) ?_
  refine lv_isub hx hb dX5_mark_8 ?_
  obtain ⟨_, ho3, hr⟩ := gB_i hr
  obtain ⟨v5, hc4, hr⟩ := gB_i hr
  refine gRun_i (g_runV X hI (w_X5_worth hc4) ho3 rfl hl (lw_V q870 q871 q872 q121 q873) rfl rfl hd_X5_worth ⟨Nat.le_of_ble_eq_true rfl, Nat.le_of_ble_eq_true rfl⟩ (as := [.int z1, .int (v2 - (1 : Int32))]) (rest := []) rfl rfl (Nat.le_of_ble_eq_true rfl) ⟨(Nat.le_refl _), (Nat.le_refl _)⟩ dX5_mark_9) (fun H locs hI => ?_)
  refine lv_istore_n (lv' := [(3, .int v5), (0, .ref z0), (1, .int z1), (2, .int z2)]) hx hb dX5_mark_12 rfl hl (by decide) rfl (fun ls hl => ?_)
  refine lv_iload_n hx hb dX5_mark_13 rfl (lv_at hl 2 rfl) ?_
  refine lv_istore (lv' := [(4, .int z1), (3, .int v5), (0, .ref z0), (1, .int z1), (2, .int z2)]) hx hb dX5_mark_14 hl (by decide) rfl (fun ls hl => ?_)
  exact w_X5_mark_L16 X gN hr hI (lv_sub hl [2, 3, 4, 1, 0] rfl)
abbrev rm_X2_movingKnife : Room := { frames := 8, cells := 0, slots := 0, locals := 173 }
theorem hd_X2_movingKnife : yX2_movingKnife.cls = RX2 ∧ yX2_movingKnife.cls ≠ "java/lang/invoke/MethodHandle" ∧ yX2_movingKnife.cls ≠ "java/lang/invoke/VarHandle" ∧ (parseMethodDescriptor yX2_movingKnife.desc).map (fun d => d.parameters.length) = some 0 := by decide +kernel
set_option maxHeartbeats 2000000 in
theorem w_X2_movingKnife_J170 {h : gH} {n : Nat} {z0 : Nat} {z1 : Int32} {z2 : Int32} {res : Int32 × gH} (X : gXX x base RX2 cX2_movingKnife 7 (some .int) p l s m args meth c) {H : Heap} {locs : List Loc} {ls : Array Slot} (hr : f_X2_movingKnife_J170 z0 z1 z2 h = some res) (hI : gI x base s.heap h n H locs) (hl : lv_has ls 7 [(0, .ref z0), (1, .int z1), (2, .int z2)]) : W p l e rm_X2_movingKnife s m args below meth c H locs 0 0 (MQ below (gQ x base (some (.int res.1)) res.2 n) args s 0 0 (fun q => base ≤ q)) (F0 m 170 ls []) := by
  have hx := X.1
  have hb := X.2.1
  unfold f_X2_movingKnife_J170 at hr
  refine lv_iload_n hx hb dX2_movingKnife_170 rfl (lv_at hl 2 rfl) ?_
  refine lv_iconst (v := 1) hx hb dX2_movingKnife_171 (by decide) ?_
  refine lv_icmp_ne (tgt := 190) hx hb dX2_movingKnife_172 (by decide) (fun c9 => ?_) (fun c9 => ?_)
  · replace hr := gIf_f c9 hr
    refine lv_aload_n hx hb dX2_movingKnife_190 rfl (lv_at hl 0 rfl) ?_
    obtain ⟨_, ho12, hr⟩ := gB_i hr
    obtain ⟨v14, hc13, hr⟩ := gB_i hr
    refine gRun_i (g_runV X hI (w_X2_satisfied hc13) ho12 rfl hl (lw_V q1008 q859 q860 q97 q861) rfl rfl hd_X2_satisfied ⟨Nat.le_of_ble_eq_true rfl, Nat.le_of_ble_eq_true rfl⟩ (as := []) (rest := []) rfl rfl (Nat.le_of_ble_eq_true rfl) ⟨(Nat.le_refl _), (Nat.le_refl _)⟩ dX2_movingKnife_191) (fun H locs hI => ?_)
    have hr := gS_i hr
    subst hr
    exact g_iret X hI rfl (Nat.le_refl _) (Nat.le_refl _) dX2_movingKnife_194
  · replace hr := gIf_t c9 hr
    refine lv_aload_n hx hb dX2_movingKnife_175 rfl (lv_at hl 0 rfl) ?_
    refine lv_aload_n hx hb dX2_movingKnife_176 rfl (lv_at hl 0 rfl) ?_
    obtain ⟨_, ho15, hr⟩ := gB_i hr
    obtain ⟨v17, hc16, hr⟩ := gB_i hr
    refine gRun_i (g_runV X hI (w_X2_firstUnserved hc16) ho15 rfl hl (lw_V q1000 q1002 qs11 q97 q1003) rfl rfl hd_X2_firstUnserved ⟨Nat.le_of_ble_eq_true rfl, Nat.le_of_ble_eq_true rfl⟩ (as := []) (rest := [.ref z0]) rfl rfl (Nat.le_of_ble_eq_true rfl) ⟨(Nat.le_refl _), (Nat.le_refl _)⟩ dX2_movingKnife_177) (fun H locs hI => ?_)
    refine lv_iload_n hx hb dX2_movingKnife_180 rfl (lv_at hl 1 rfl) ?_
    refine lv_aload_n hx hb dX2_movingKnife_181 rfl (lv_at hl 0 rfl) ?_
    obtain ⟨v19, hc18, hr⟩ := gB_i hr
    refine gRun_i (g_runV X hI (w_X2_cells hc18) ho15 rfl hl (lw_V q812 q687 q688 q97 q689) rfl rfl hd_X2_cells ⟨Nat.le_of_ble_eq_true rfl, Nat.le_of_ble_eq_true rfl⟩ (as := []) (rest := [.int z1, .int v17, .ref z0]) rfl rfl (Nat.le_of_ble_eq_true rfl) ⟨(Nat.le_refl _), (Nat.le_refl _)⟩ dX2_movingKnife_182) (fun H locs hI => ?_)
    refine lv_iconst (v := 1) hx hb dX2_movingKnife_185 (by decide) ?_
    refine lv_isub hx hb dX2_movingKnife_186 ?_
    obtain ⟨h21, hc20, hr⟩ := gB_i hr
    refine gRun_v (g_runV X hI (w_X2_give hc20) ho15 rfl hl (lw_V q495 q496 q497 q97 q498) rfl rfl hd_X2_give ⟨Nat.le_of_ble_eq_true rfl, Nat.le_of_ble_eq_true rfl⟩ (as := [.int v17, .int z1, .int (v19 - (1 : Int32))]) (rest := []) rfl rfl (Nat.le_of_ble_eq_true rfl) ⟨(Nat.le_refl _), (Nat.le_refl _)⟩ dX2_movingKnife_187) (fun H locs hI => ?_)
    refine lv_aload_n hx hb dX2_movingKnife_190 rfl (lv_at hl 0 rfl) ?_
    obtain ⟨_, ho22, hr⟩ := gB_i hr
    obtain ⟨v24, hc23, hr⟩ := gB_i hr
    refine gRun_i (g_runV X hI (w_X2_satisfied hc23) ho22 rfl hl (lw_V q1008 q859 q860 q97 q861) rfl rfl hd_X2_satisfied ⟨Nat.le_of_ble_eq_true rfl, Nat.le_of_ble_eq_true rfl⟩ (as := []) (rest := []) rfl rfl (Nat.le_of_ble_eq_true rfl) ⟨(Nat.le_refl _), (Nat.le_refl _)⟩ dX2_movingKnife_191) (fun H locs hI => ?_)
    have hr := gS_i hr
    subst hr
    exact g_iret X hI rfl (Nat.le_refl _) (Nat.le_refl _) dX2_movingKnife_194
set_option maxHeartbeats 2000000 in
theorem w_X2_movingKnife_J144 {h : gH} {n : Nat} {r41 : Int32 → Int32 → gH → Option (Int32 × gH)} {z0 : Nat} {z1 : Int32} {z2 : Int32} {z3 : Int32} {z4 : Int32} {res : Int32 × gH} (X : gXX x base RX2 cX2_movingKnife 7 (some .int) p l s m args meth c) (Hr41 : ∀ {z1 : Int32} {z2 : Int32} {h : gH} {H : Heap} {locs : List Loc} {ls : Array Slot}, r41 z1 z2 h = some res → gI x base s.heap h n H locs → lv_has ls 7 [(0, .ref z0), (1, .int z1), (2, .int z2)] → W p l e rm_X2_movingKnife s m args below meth c H locs 0 0 (MQ below (gQ x base (some (.int res.1)) res.2 n) args s 0 0 (fun q => base ≤ q)) (F0 m 41 ls [])) {H : Heap} {locs : List Loc} {ls : Array Slot} (hr : f_X2_movingKnife_J144 r41 z0 z1 z2 z3 z4 h = some res) (hI : gI x base s.heap h n H locs) (hl : lv_has ls 7 [(0, .ref z0), (1, .int z1), (2, .int z2), (3, .int z3), (4, .int z4)]) : W p l e rm_X2_movingKnife s m args below meth c H locs 0 0 (MQ below (gQ x base (some (.int res.1)) res.2 n) args s 0 0 (fun q => base ≤ q)) (F0 m 144 ls []) := by
  have hx := X.1
  have hb := X.2.1
  unfold f_X2_movingKnife_J144 at hr
  refine lv_aload_n hx hb dX2_movingKnife_144 rfl (lv_at hl 0 rfl) ?_
  refine lv_iload_n hx hb dX2_movingKnife_145 rfl (lv_at hl 3 rfl) ?_
  refine lv_iload_n hx hb dX2_movingKnife_146 rfl (lv_at hl 1 rfl) ?_
  refine lv_iload hx hb dX2_movingKnife_147 (lv_at hl 4 rfl) ?_
  obtain ⟨_, ho38, hr⟩ := gB_i hr
  obtain ⟨h40, hc39, hr⟩ := gB_i hr
  refine gRun_v (g_runV X hI (w_X2_give hc39) ho38 rfl hl (lw_V q495 q496 q497 q97 q498) rfl rfl hd_X2_give ⟨Nat.le_of_ble_eq_true rfl, Nat.le_of_ble_eq_true rfl⟩ (as := [.int z3, .int z1, .int z4]) (rest := []) rfl rfl (Nat.le_of_ble_eq_true rfl) ⟨(Nat.le_refl _), (Nat.le_refl _)⟩ dX2_movingKnife_149) (fun H locs hI => ?_)
  refine lv_aload_n hx hb dX2_movingKnife_152 rfl (lv_at hl 0 rfl) ?_
  refine g_getA (C := RX2) (T := TX2) (N := 3) X hI in_X2 rfl 2 (by decide) q503 (fun _ h9 => h9) hr dX2_movingKnife_153 (fun v41 hr => ?_)
  refine lv_iload_n hx hb dX2_movingKnife_156 rfl (lv_at hl 3 rfl) ?_
  refine lv_iconst (v := 1) hx hb dX2_movingKnife_157 (by decide) ?_
  refine g_zast X hI hr dX2_movingKnife_158 (fun h42 H locs hI hr => ?_)
  refine lv_iload hx hb dX2_movingKnife_159 (lv_at hl 4 rfl) ?_
  refine lv_iconst (v := 1) hx hb dX2_movingKnife_161 (by decide) ?_
  refine lv_iadd hx hb dX2_movingKnife_162 ?_
  refine lv_istore_n (lv' := [(1, .int (z4 + (1 : Int32))), (0, .ref z0), (2, .int z2), (3, .int z3), (4, .int z4)]) hx hb dX2_movingKnife_163 rfl hl (by decide) rfl (fun ls hl => ?_)
  refine lv_iinc (v := (z2 + (-1 : Int32))) (lv' := [(2, .int (z2 + (-1 : Int32))), (1, .int (z4 + (1 : Int32))), (0, .ref z0), (3, .int z3), (4, .int z4)]) hx hb dX2_movingKnife_164 hl (k := 2) rfl (g_inc (by decide)) (by decide) rfl (fun ls hl => ?_)
  refine lv_goto (tgt := 41) hx hb dX2_movingKnife_167 (by decide) ?_
  exact Hr41 hr hI (lv_sub hl [2, 1, 0] rfl)
set_option maxHeartbeats 2000000 in
theorem w_X2_movingKnife_J113 {h : gH} {n : Nat} {r41 : Int32 → Int32 → gH → Option (Int32 × gH)} {z0 : Nat} {r76 : Int32 → Int32 → Int32 → Option (Int32 × gH)} {z1 : Int32} {z2 : Int32} {z3 : Int32} {z4 : Int32} {z5 : Int32} {s0 : Int32} {res : Int32 × gH} (X : gXX x base RX2 cX2_movingKnife 7 (some .int) p l s m args meth c) (Hr41 : ∀ {z1 : Int32} {z2 : Int32} {h : gH} {H : Heap} {locs : List Loc} {ls : Array Slot}, r41 z1 z2 h = some res → gI x base s.heap h n H locs → lv_has ls 7 [(0, .ref z0), (1, .int z1), (2, .int z2)] → W p l e rm_X2_movingKnife s m args below meth c H locs 0 0 (MQ below (gQ x base (some (.int res.1)) res.2 n) args s 0 0 (fun q => base ≤ q)) (F0 m 41 ls [])) (Hr76 : ∀ {z3 : Int32} {z4 : Int32} {z5 : Int32} {H : Heap} {locs : List Loc} {ls : Array Slot}, r76 z3 z4 z5 = some res → gI x base s.heap h n H locs → lv_has ls 7 [(0, .ref z0), (1, .int z1), (2, .int z2), (3, .int z3), (4, .int z4), (5, .int z5)] → W p l e rm_X2_movingKnife s m args below meth c H locs 0 0 (MQ below (gQ x base (some (.int res.1)) res.2 n) args s 0 0 (fun q => base ≤ q)) (F0 m 76 ls [])) {H : Heap} {locs : List Loc} {ls : Array Slot} (hr : f_X2_movingKnife_J113 r41 r76 z0 z1 z2 z3 z4 z5 s0 h = some res) (hI : gI x base s.heap h n H locs) (hl : lv_has ls 7 [(0, .ref z0), (1, .int z1), (2, .int z2), (3, .int z3), (4, .int z4), (5, .int z5)]) : W p l e rm_X2_movingKnife s m args below meth c H locs 0 0 (MQ below (gQ x base (some (.int res.1)) res.2 n) args s 0 0 (fun q => base ≤ q)) (F0 m 113 ls [.int s0]) := by
  have hx := X.1
  have hb := X.2.1
  unfold f_X2_movingKnife_J113 at hr
  refine lv_istore (lv' := [(6, .int s0), (0, .ref z0), (1, .int z1), (2, .int z2), (3, .int z3), (4, .int z4), (5, .int z5)]) hx hb dX2_movingKnife_113 hl (by decide) rfl (fun ls hl => ?_)
  refine lv_iload hx hb dX2_movingKnife_115 (lv_at hl 0 rfl) ?_
  refine lv_iload hx hb dX2_movingKnife_117 (lv_at hl 5 rfl) ?_
  refine lv_icmp_ge (tgt := 127) hx hb dX2_movingKnife_119 (by decide) (fun c9 => ?_) (fun c9 => ?_)
  · replace hr := gIf_t c9 hr
    refine lv_iload_n hx hb dX2_movingKnife_127 rfl (lv_at hl 4 rfl) ?_
    refine lv_istore_n (lv' := [(3, .int z3), (6, .int s0), (0, .ref z0), (1, .int z1), (2, .int z2), (4, .int z4), (5, .int z5)]) hx hb dX2_movingKnife_128 rfl hl (by decide) rfl (fun ls hl => ?_)
    refine lv_iload hx hb dX2_movingKnife_129 (lv_at hl 5 rfl) ?_
    refine lv_iload hx hb dX2_movingKnife_131 (lv_at hl 1 rfl) ?_
    refine va_mmin hx hb (X.2.2.1.trans hl.1.symm) X.2.2.2.2.1 (X.w q887) (X.w q282) (X.w q110) (X.w q283) (Nat.le_of_ble_eq_true rfl) (Nat.le_of_ble_eq_true rfl) (Nat.le_refl _) (Nat.le_refl _) dX2_movingKnife_133 ?_
    refine lv_istore (lv' := [(4, .int (if s0 < z4 then s0 else z4)), (3, .int z3), (6, .int s0), (0, .ref z0), (1, .int z1), (2, .int z2), (5, .int z5)]) hx hb dX2_movingKnife_136 hl (by decide) rfl (fun ls hl => ?_)
    refine lv_iinc (v := (z5 + (1 : Int32))) (lv' := [(5, .int (z5 + (1 : Int32))), (4, .int (if s0 < z4 then s0 else z4)), (3, .int z3), (6, .int s0), (0, .ref z0), (1, .int z1), (2, .int z2)]) hx hb dX2_movingKnife_138 hl (k := 6) rfl (g_inc (by decide)) (by decide) rfl (fun ls hl => ?_)
    refine lv_goto (tgt := 76) hx hb dX2_movingKnife_141 (by decide) ?_
    exact Hr76 hr hI (lv_sub hl [4, 5, 6, 2, 1, 0] rfl)
  · replace hr := gIf_f c9 hr
    refine lv_iload hx hb dX2_movingKnife_122 (lv_at hl 6 rfl) ?_
    refine lv_goto (tgt := 128) hx hb dX2_movingKnife_124 (by decide) ?_
    refine lv_istore_n (lv' := [(3, .int z5), (6, .int s0), (0, .ref z0), (1, .int z1), (2, .int z2), (4, .int z4), (5, .int z5)]) hx hb dX2_movingKnife_128 rfl hl (by decide) rfl (fun ls hl => ?_)
    refine lv_iload hx hb dX2_movingKnife_129 (lv_at hl 5 rfl) ?_
    refine lv_iload hx hb dX2_movingKnife_131 (lv_at hl 1 rfl) ?_
    refine va_mmin hx hb (X.2.2.1.trans hl.1.symm) X.2.2.2.2.1 (X.w q887) (X.w q282) (X.w q110) (X.w q283) (Nat.le_of_ble_eq_true rfl) (Nat.le_of_ble_eq_true rfl) (Nat.le_refl _) (Nat.le_refl _) dX2_movingKnife_133 ?_
    refine lv_istore (lv' := [(4, .int (if s0 < z4 then s0 else z4)), (3, .int z5), (6, .int s0), (0, .ref z0), (1, .int z1), (2, .int z2), (5, .int z5)]) hx hb dX2_movingKnife_136 hl (by decide) rfl (fun ls hl => ?_)
    refine lv_iinc (v := (z5 + (1 : Int32))) (lv' := [(5, .int (z5 + (1 : Int32))), (4, .int (if s0 < z4 then s0 else z4)), (3, .int z5), (6, .int s0), (0, .ref z0), (1, .int z1), (2, .int z2)]) hx hb dX2_movingKnife_138 hl (k := 6) rfl (g_inc (by decide)) (by decide) rfl (fun ls hl => ?_)
    refine lv_goto (tgt := 76) hx hb dX2_movingKnife_141 (by decide) ?_
    exact Hr76 hr hI (lv_sub hl [4, 5, 6, 2, 1, 0] rfl)
set_option maxHeartbeats 2000000 in
theorem w_X2_movingKnife_L76 {h : gH} {n : Nat} {r41 : Int32 → Int32 → gH → Option (Int32 × gH)} {z0 : Nat} {z1 : Int32} {z2 : Int32} {res : Int32 × gH} (X : gXX x base RX2 cX2_movingKnife 7 (some .int) p l s m args meth c) (Hr41 : ∀ {z1 : Int32} {z2 : Int32} {h : gH} {H : Heap} {locs : List Loc} {ls : Array Slot}, r41 z1 z2 h = some res → gI x base s.heap h n H locs → lv_has ls 7 [(0, .ref z0), (1, .int z1), (2, .int z2)] → W p l e rm_X2_movingKnife s m args below meth c H locs 0 0 (MQ below (gQ x base (some (.int res.1)) res.2 n) args s 0 0 (fun q => base ≤ q)) (F0 m 41 ls [])) : ∀ (k : Nat) {z3 : Int32} {z4 : Int32} {z5 : Int32} {H : Heap} {locs : List Loc} {ls : Array Slot}, gL3 (f_X2_movingKnife_L76 r41 z0 z1 z2 h) k z3 z4 z5 = some res → gI x base s.heap h n H locs → lv_has ls 7 [(0, .ref z0), (1, .int z1), (2, .int z2), (3, .int z3), (4, .int z4), (5, .int z5)] → W p l e rm_X2_movingKnife s m args below meth c H locs 0 0 (MQ below (gQ x base (some (.int res.1)) res.2 n) args s 0 0 (fun q => base ≤ q)) (F0 m 76 ls []) := by
  have hx := X.1
  have hb := X.2.1
  intro k
  induction k with
  | zero =>
    intros
    rename_i hr _ _
    exact nomatch (show (none : Option _) = some _ from hr)
  | succ k ih =>
    intro z3 z4 z5 H locs ls hr hI hl
    replace hr : f_X2_movingKnife_L76 r41 z0 z1 z2 h (gL3 (f_X2_movingKnife_L76 r41 z0 z1 z2 h) k) z3 z4 z5 = some res := hr
    unfold f_X2_movingKnife_L76 at hr
    refine lv_iload hx hb dX2_movingKnife_76 (lv_at hl 5 rfl) ?_
    refine lv_aload_n hx hb dX2_movingKnife_78 rfl (lv_at hl 0 rfl) ?_
    obtain ⟨_, ho35, hr⟩ := gB_i hr
    obtain ⟨v37, hc36, hr⟩ := gB_i hr
    refine gRun_i (g_runV X hI (w_X2_size hc36) ho35 rfl hl (lw_V q664 q643 q644 q97 q645) rfl rfl hd_X2_size ⟨Nat.le_of_ble_eq_true rfl, Nat.le_of_ble_eq_true rfl⟩ (as := []) (rest := [.int z5]) rfl rfl (Nat.le_of_ble_eq_true rfl) ⟨(Nat.le_refl _), (Nat.le_refl _)⟩ dX2_movingKnife_79) (fun H locs hI => ?_)
    refine lv_icmp_ge (tgt := 144) hx hb dX2_movingKnife_82 (by decide) (fun c9 => ?_) (fun c9 => ?_)
    · replace hr := gIf_t c9 hr
      exact w_X2_movingKnife_J144 X Hr41 hr hI (lv_sub hl [0, 1, 2, 3, 4] rfl)
    · replace hr := gIf_f c9 hr
      refine lv_aload_n hx hb dX2_movingKnife_85 rfl (lv_at hl 0 rfl) ?_
      refine g_getA (C := RX2) (T := TX2) (N := 3) X hI in_X2 rfl 2 (by decide) q503 (fun _ h9 => h9) hr dX2_movingKnife_86 (fun v43 hr => ?_)
      refine lv_iload hx hb dX2_movingKnife_89 (lv_at hl 5 rfl) ?_
      refine g_zald X hI hr dX2_movingKnife_91 (fun v44 hr => ?_)
      refine lv_if_eq (tgt := 102) hx hb dX2_movingKnife_92 (by decide) (fun c9 => ?_) (fun c9 => ?_)
      · replace hr := gIf_t c9 hr
        refine lv_aload_n hx hb dX2_movingKnife_102 rfl (lv_at hl 0 rfl) ?_
        refine lv_iload hx hb dX2_movingKnife_103 (lv_at hl 5 rfl) ?_
        obtain ⟨v46, hc45, hr⟩ := gB_i hr
        refine gRun_a (g_runV X hI (w_X2_sibling hc45) ho35 rfl hl (lw_V q665 q666 q667 q97 q668) rfl rfl hd_X2_sibling ⟨Nat.le_of_ble_eq_true rfl, Nat.le_of_ble_eq_true rfl⟩ (as := [.int z5]) (rest := []) rfl rfl (Nat.le_of_ble_eq_true rfl) ⟨(Nat.le_refl _), (Nat.le_refl _)⟩ dX2_movingKnife_105) (fun H locs hI => ?_)
        refine lv_iload_n hx hb dX2_movingKnife_108 rfl (lv_at hl 1 rfl) ?_
        refine lv_iload_n hx hb dX2_movingKnife_109 rfl (lv_at hl 2 rfl) ?_
        obtain ⟨_, ho47, hr⟩ := gB_i hr
        obtain ⟨v49, hc48, hr⟩ := gB_i hr
        refine gRun_i (g_runV X hI (w_X5_mark hc48) ho47 rfl hl (lw_V q1004 q1005 q1006 q121 q1007) rfl rfl hd_X5_mark ⟨Nat.le_of_ble_eq_true rfl, Nat.le_of_ble_eq_true rfl⟩ (as := [.int z1, .int z2]) (rest := []) rfl rfl (Nat.le_of_ble_eq_true rfl) ⟨(Nat.le_refl _), (Nat.le_refl _)⟩ dX2_movingKnife_110) (fun H locs hI => ?_)
        exact w_X2_movingKnife_J113 X Hr41 ih hr hI (lv_sub hl [0, 1, 2, 3, 4, 5] rfl)
      · replace hr := gIf_f c9 hr
        refine lv_aload_n hx hb dX2_movingKnife_95 rfl (lv_at hl 0 rfl) ?_
        obtain ⟨v51, hc50, hr⟩ := gB_i hr
        refine gRun_i (g_runV X hI (w_X2_cells hc50) ho35 rfl hl (lw_V q812 q687 q688 q97 q689) rfl rfl hd_X2_cells ⟨Nat.le_of_ble_eq_true rfl, Nat.le_of_ble_eq_true rfl⟩ (as := []) (rest := []) rfl rfl (Nat.le_of_ble_eq_true rfl) ⟨(Nat.le_refl _), (Nat.le_refl _)⟩ dX2_movingKnife_96) (fun H locs hI => ?_)
        refine lv_goto (tgt := 113) hx hb dX2_movingKnife_99 (by decide) ?_
        exact w_X2_movingKnife_J113 X Hr41 ih hr hI (lv_sub hl [0, 1, 2, 3, 4, 5] rfl)
set_option maxHeartbeats 2000000 in
theorem w_X2_movingKnife_L41 {n : Nat} {z0 : Nat} {res : Int32 × gH} (X : gXX x base RX2 cX2_movingKnife 7 (some .int) p l s m args meth c) : ∀ (k : Nat) {z1 : Int32} {z2 : Int32} {h : gH} {H : Heap} {locs : List Loc} {ls : Array Slot}, gL3 (f_X2_movingKnife_L41 z0) k z1 z2 h = some res → gI x base s.heap h n H locs → lv_has ls 7 [(0, .ref z0), (1, .int z1), (2, .int z2)] → W p l e rm_X2_movingKnife s m args below meth c H locs 0 0 (MQ below (gQ x base (some (.int res.1)) res.2 n) args s 0 0 (fun q => base ≤ q)) (F0 m 41 ls []) := by
  have hx := X.1
  have hb := X.2.1
  intro k
  induction k with
  | zero =>
    intros
    rename_i hr _ _
    exact nomatch (show (none : Option _) = some _ from hr)
  | succ k ih =>
    intro z1 z2 h H locs ls hr hI hl
    replace hr : f_X2_movingKnife_L41 z0 (gL3 (f_X2_movingKnife_L41 z0) k) z1 z2 h = some res := hr
    unfold f_X2_movingKnife_L41 at hr
    refine lv_iload_n hx hb dX2_movingKnife_41 rfl (lv_at hl 2 rfl) ?_
    refine lv_iconst (v := 1) hx hb dX2_movingKnife_42 (by decide) ?_
    refine lv_icmp_le (tgt := 170) hx hb dX2_movingKnife_43 (by decide) (fun c9 => ?_) (fun c9 => ?_)
    · replace hr := gIf_t c9 hr
      exact w_X2_movingKnife_J170 X hr hI (lv_sub hl [0, 1, 2] rfl)
    · replace hr := gIf_f c9 hr
      refine lv_iload_n hx hb dX2_movingKnife_46 rfl (lv_at hl 1 rfl) ?_
      refine lv_aload_n hx hb dX2_movingKnife_47 rfl (lv_at hl 0 rfl) ?_
      obtain ⟨_, ho25, hr⟩ := gB_i hr
      obtain ⟨v27, hc26, hr⟩ := gB_i hr
      refine gRun_i (g_runV X hI (w_X2_cells hc26) ho25 rfl hl (lw_V q812 q687 q688 q97 q689) rfl rfl hd_X2_cells ⟨Nat.le_of_ble_eq_true rfl, Nat.le_of_ble_eq_true rfl⟩ (as := []) (rest := [.int z1]) rfl rfl (Nat.le_of_ble_eq_true rfl) ⟨(Nat.le_refl _), (Nat.le_refl _)⟩ dX2_movingKnife_48) (fun H locs hI => ?_)
      refine lv_icmp_ge (tgt := 170) hx hb dX2_movingKnife_51 (by decide) (fun c9 => ?_) (fun c9 => ?_)
      · replace hr := gIf_t c9 hr
        exact w_X2_movingKnife_J170 X hr hI (lv_sub hl [0, 1, 2] rfl)
      · replace hr := gIf_f c9 hr
        refine lv_aload_n hx hb dX2_movingKnife_54 rfl (lv_at hl 0 rfl) ?_
        obtain ⟨v29, hc28, hr⟩ := gB_i hr
        refine gRun_i (g_runV X hI (w_X2_firstUnserved hc28) ho25 rfl hl (lw_V q1000 q1002 qs11 q97 q1003) rfl rfl hd_X2_firstUnserved ⟨Nat.le_of_ble_eq_true rfl, Nat.le_of_ble_eq_true rfl⟩ (as := []) (rest := []) rfl rfl (Nat.le_of_ble_eq_true rfl) ⟨(Nat.le_refl _), (Nat.le_refl _)⟩ dX2_movingKnife_55) (fun H locs hI => ?_)
        refine lv_istore_n (lv' := [(3, .int v29), (0, .ref z0), (1, .int z1), (2, .int z2)]) hx hb dX2_movingKnife_58 rfl hl (by decide) rfl (fun ls hl => ?_)
        refine lv_aload_n hx hb dX2_movingKnife_59 rfl (lv_at hl 1 rfl) ?_
        refine lv_iload_n hx hb dX2_movingKnife_60 rfl (lv_at hl 0 rfl) ?_
        obtain ⟨v31, hc30, hr⟩ := gB_i hr
        refine gRun_a (g_runV X hI (w_X2_sibling hc30) ho25 rfl hl (lw_V q665 q666 q667 q97 q668) rfl rfl hd_X2_sibling ⟨Nat.le_of_ble_eq_true rfl, Nat.le_of_ble_eq_true rfl⟩ (as := [.int v29]) (rest := []) rfl rfl (Nat.le_of_ble_eq_true rfl) ⟨(Nat.le_refl _), (Nat.le_refl _)⟩ dX2_movingKnife_61) (fun H locs hI => ?_)
        refine lv_iload_n hx hb dX2_movingKnife_64 rfl (lv_at hl 2 rfl) ?_
        refine lv_iload_n hx hb dX2_movingKnife_65 rfl (lv_at hl 3 rfl) ?_
        obtain ⟨_, ho32, hr⟩ := gB_i hr
        obtain ⟨v34, hc33, hr⟩ := gB_i hr
        refine gRun_i (g_runV X hI (w_X5_mark hc33) ho32 rfl hl (lw_V q1004 q1005 q1006 q121 q1007) rfl rfl hd_X5_mark ⟨Nat.le_of_ble_eq_true rfl, Nat.le_of_ble_eq_true rfl⟩ (as := [.int z1, .int z2]) (rest := []) rfl rfl (Nat.le_of_ble_eq_true rfl) ⟨(Nat.le_refl _), (Nat.le_refl _)⟩ dX2_movingKnife_66) (fun H locs hI => ?_)
        refine lv_istore (lv' := [(4, .int v34), (3, .int v29), (0, .ref z0), (1, .int z1), (2, .int z2)]) hx hb dX2_movingKnife_69 hl (by decide) rfl (fun ls hl => ?_)
        refine lv_iload_n hx hb dX2_movingKnife_71 rfl (lv_at hl 1 rfl) ?_
        refine lv_iconst (v := 1) hx hb dX2_movingKnife_72 (by decide) ?_
        refine lv_iadd hx hb dX2_movingKnife_73 ?_
        refine lv_istore (lv' := [(5, .int (v29 + (1 : Int32))), (4, .int v34), (3, .int v29), (0, .ref z0), (1, .int z1), (2, .int z2)]) hx hb dX2_movingKnife_74 hl (by decide) rfl (fun ls hl => ?_)
        exact w_X2_movingKnife_L76 X ih gN hr hI (lv_sub hl [3, 4, 5, 2, 1, 0] rfl)
set_option maxHeartbeats 2000000 in
theorem w_X2_movingKnife_J34 {h : gH} {n : Nat} {z0 : Nat} {res : Int32 × gH} (X : gXX x base RX2 cX2_movingKnife 7 (some .int) p l s m args meth c) {H : Heap} {locs : List Loc} {ls : Array Slot} (hr : f_X2_movingKnife_J34 z0 h = some res) (hI : gI x base s.heap h n H locs) (hl : lv_has ls 7 [(0, .ref z0)]) : W p l e rm_X2_movingKnife s m args below meth c H locs 0 0 (MQ below (gQ x base (some (.int res.1)) res.2 n) args s 0 0 (fun q => base ≤ q)) (F0 m 34 ls []) := by
  have hx := X.1
  have hb := X.2.1
  unfold f_X2_movingKnife_J34 at hr
  refine lv_iconst (v := 0) hx hb dX2_movingKnife_34 (by decide) ?_
  refine lv_istore_n (lv' := [(1, .int (0 : Int32)), (0, .ref z0)]) hx hb dX2_movingKnife_35 rfl hl (by decide) rfl (fun ls hl => ?_)
  refine lv_aload_n hx hb dX2_movingKnife_36 rfl (lv_at hl 1 rfl) ?_
  obtain ⟨_, ho9, hr⟩ := gB_i hr
  obtain ⟨v11, hc10, hr⟩ := gB_i hr
  refine gRun_i (g_runV X hI (w_X2_size hc10) ho9 rfl hl (lw_V q664 q643 q644 q97 q645) rfl rfl hd_X2_size ⟨Nat.le_of_ble_eq_true rfl, Nat.le_of_ble_eq_true rfl⟩ (as := []) (rest := []) rfl rfl (Nat.le_of_ble_eq_true rfl) ⟨(Nat.le_refl _), (Nat.le_refl _)⟩ dX2_movingKnife_37) (fun H locs hI => ?_)
  refine lv_istore_n (lv' := [(2, .int v11), (1, .int (0 : Int32)), (0, .ref z0)]) hx hb dX2_movingKnife_40 rfl hl (by decide) rfl (fun ls hl => ?_)
  exact w_X2_movingKnife_L41 X gN hr hI (lv_sub hl [2, 1, 0] rfl)
set_option maxHeartbeats 2000000 in
theorem w_X2_movingKnife_L13 {n : Nat} {z0 : Nat} {res : Int32 × gH} (X : gXX x base RX2 cX2_movingKnife 7 (some .int) p l s m args meth c) : ∀ (k : Nat) {z1 : Int32} {h : gH} {H : Heap} {locs : List Loc} {ls : Array Slot}, gL2 (f_X2_movingKnife_L13 z0) k z1 h = some res → gI x base s.heap h n H locs → lv_has ls 7 [(0, .ref z0), (1, .int z1)] → W p l e rm_X2_movingKnife s m args below meth c H locs 0 0 (MQ below (gQ x base (some (.int res.1)) res.2 n) args s 0 0 (fun q => base ≤ q)) (F0 m 13 ls []) := by
  have hx := X.1
  have hb := X.2.1
  intro k
  induction k with
  | zero =>
    intros
    rename_i hr _ _
    exact nomatch (show (none : Option _) = some _ from hr)
  | succ k ih =>
    intro z1 h H locs ls hr hI hl
    replace hr : f_X2_movingKnife_L13 z0 (gL2 (f_X2_movingKnife_L13 z0) k) z1 h = some res := hr
    unfold f_X2_movingKnife_L13 at hr
    refine lv_iload_n hx hb dX2_movingKnife_13 rfl (lv_at hl 1 rfl) ?_
    refine lv_aload_n hx hb dX2_movingKnife_14 rfl (lv_at hl 0 rfl) ?_
    obtain ⟨_, ho6, hr⟩ := gB_i hr
    obtain ⟨v8, hc7, hr⟩ := gB_i hr
    refine gRun_i (g_runV X hI (w_X2_size hc7) ho6 rfl hl (lw_V q664 q643 q644 q97 q645) rfl rfl hd_X2_size ⟨Nat.le_of_ble_eq_true rfl, Nat.le_of_ble_eq_true rfl⟩ (as := []) (rest := [.int z1]) rfl rfl (Nat.le_of_ble_eq_true rfl) ⟨(Nat.le_refl _), (Nat.le_refl _)⟩ dX2_movingKnife_15) (fun H locs hI => ?_)
    refine lv_icmp_ge (tgt := 34) hx hb dX2_movingKnife_18 (by decide) (fun c9 => ?_) (fun c9 => ?_)
    · replace hr := gIf_t c9 hr
      exact w_X2_movingKnife_J34 X hr hI (lv_sub hl [0] rfl)
    · replace hr := gIf_f c9 hr
      refine lv_aload_n hx hb dX2_movingKnife_21 rfl (lv_at hl 0 rfl) ?_
      refine g_getA (C := RX2) (T := TX2) (N := 3) X hI in_X2 rfl 2 (by decide) q503 (fun _ h9 => h9) hr dX2_movingKnife_22 (fun v52 hr => ?_)
      refine lv_iload_n hx hb dX2_movingKnife_25 rfl (lv_at hl 1 rfl) ?_
      refine lv_iconst (v := 0) hx hb dX2_movingKnife_26 (by decide) ?_
      refine g_zast X hI hr dX2_movingKnife_27 (fun h53 H locs hI hr => ?_)
      refine lv_iinc (v := (z1 + (1 : Int32))) (lv' := [(1, .int (z1 + (1 : Int32))), (0, .ref z0)]) hx hb dX2_movingKnife_28 hl (k := 1) rfl (g_inc (by decide)) (by decide) rfl (fun ls hl => ?_)
      refine lv_goto (tgt := 13) hx hb dX2_movingKnife_31 (by decide) ?_
      exact ih hr hI (lv_sub hl [1, 0] rfl)
set_option maxHeartbeats 2000000 in
theorem w_X2_movingKnife {l : Launch} {x : gV} {base : Nat} {z0 : Nat} {h : gH} {n : Nat} {res : Int32 × gH} (hr : f_X2_movingKnife z0 h = some res) : gM l yX2_movingKnife (ws_ yX2_movingKnife cX2_movingKnife 7 (some .int)) rm_X2_movingKnife x base [.ref z0] h n (some (.int res.1)) res.2 n 0 0 := by
  refine g_met (cc := cX2_movingKnife) (nL := 7) (ret := (some .int)) (by decide) (Nat.le_of_ble_eq_true rfl) (fun p e s m below meth c ls X hnm hl hI => ?_)
  have hl : lv_has ls 7 [(0, .ref z0)] := hl
  have hx := X.1
  have hb := X.2.1
  unfold f_X2_movingKnife at hr
  refine lv_aload_n hx hb dX2_movingKnife_0 rfl (lv_at hl 0 rfl) ?_
  refine lv_iconst (v := 0) hx hb dX2_movingKnife_1 (by decide) ?_
  refine lv_aload_n hx hb dX2_movingKnife_2 rfl (lv_at hl 0 rfl) ?_
  obtain ⟨_, ho1, hr⟩ := gB_i hr
  obtain ⟨v3, hc2, hr⟩ := gB_i hr
  refine gRun_i (g_runV X hI (w_X2_cells hc2) ho1 rfl hl (lw_V q812 q687 q688 q97 q689) rfl rfl hd_X2_cells ⟨Nat.le_of_ble_eq_true rfl, Nat.le_of_ble_eq_true rfl⟩ (as := []) (rest := [.int (0 : Int32), .ref z0]) rfl rfl (Nat.le_of_ble_eq_true rfl) ⟨(Nat.le_refl _), (Nat.le_refl _)⟩ dX2_movingKnife_3) (fun H locs hI => ?_)
  refine lv_iconst (v := 1) hx hb dX2_movingKnife_6 (by decide) ?_
  refine lv_isub hx hb dX2_movingKnife_7 ?_
  obtain ⟨h5, hc4, hr⟩ := gB_i hr
  refine gRun_v (g_runV X hI (w_X2_release hc4) ho1 rfl hl (lw_V q491 q492 q493 q97 q494) rfl rfl hd_X2_release ⟨Nat.le_of_ble_eq_true rfl, Nat.le_of_ble_eq_true rfl⟩ (as := [.int (0 : Int32), .int (v3 - (1 : Int32))]) (rest := []) rfl rfl (Nat.le_of_ble_eq_true rfl) ⟨(Nat.le_refl _), (Nat.le_refl _)⟩ dX2_movingKnife_8) (fun H locs hI => ?_)
  refine lv_iconst (v := 0) hx hb dX2_movingKnife_11 (by decide) ?_
  refine lv_istore_n (lv' := [(1, .int (0 : Int32)), (0, .ref z0)]) hx hb dX2_movingKnife_12 rfl hl (by decide) rfl (fun ls hl => ?_)
  exact w_X2_movingKnife_L13 X gN hr hI (lv_sub hl [1, 0] rfl)
abbrev rm_X1_record : Room := { frames := 3, cells := 0, slots := 0, locals := 65 }
theorem hd_X1_record : yX1_record.cls = RX1 ∧ yX1_record.cls ≠ "java/lang/invoke/MethodHandle" ∧ yX1_record.cls ≠ "java/lang/invoke/VarHandle" ∧ (parseMethodDescriptor yX1_record.desc).map (fun d => d.parameters.length) = some 2 := by decide +kernel
set_option maxHeartbeats 2000000 in
theorem w_X1_record {l : Launch} {x : gV} {base : Nat} {z0 : Nat} {z1 : Nat} {z2 : Int32} {h : gH} {n : Nat} {res : Int32 × gH} (hr : f_X1_record z0 z1 z2 h = some res) : gM l yX1_record (ws_ yX1_record cX1_record 3 (some .int)) rm_X1_record x base [.ref z0, .ref z1, .int z2] h n (some (.int res.1)) res.2 n 0 0 := by
  refine g_met (cc := cX1_record) (nL := 3) (ret := (some .int)) (by decide) (Nat.le_of_ble_eq_true rfl) (fun p e s m below meth c ls X hnm hl hI => ?_)
  have hl : lv_has ls 3 [(0, .ref z0), (1, .ref z1), (2, .int z2)] := hl
  have hx := X.1
  have hb := X.2.1
  unfold f_X1_record at hr
  refine lv_aload_n hx hb dX1_record_0 rfl (lv_at hl 0 rfl) ?_
  refine g_getA (C := RX1) (T := TX1) (N := 10) X hI in_X1 rfl 5 (by decide) q762 (fun _ h9 => h9) hr dX1_record_1 (fun v1 hr => ?_)
  obtain ⟨_, ho2, hr⟩ := gB_i hr
  obtain ⟨v4, hc3, hr⟩ := gB_i hr
  refine gRun_i (g_runV X hI (w_J17_size hc3) ho2 rfl hl (lw_V q1013 q1014 q1015 q117 q1016) rfl rfl hd_J17_size ⟨Nat.le_of_ble_eq_true rfl, Nat.le_of_ble_eq_true rfl⟩ (as := []) (rest := []) rfl rfl (Nat.le_of_ble_eq_true rfl) ⟨(Nat.le_refl _), (Nat.le_refl _)⟩ dX1_record_4) (fun H locs hI => ?_)
  refine lv_bipush (v := 6) hx hb dX1_record_7 (by decide) ?_
  refine lv_icmp_ne (tgt := 20) hx hb dX1_record_9 (by decide) (fun c9 => ?_) (fun c9 => ?_)
  · replace hr := gIf_f c9 hr
    refine lv_aload_n hx hb dX1_record_20 rfl (lv_at hl 0 rfl) ?_
    refine g_getA (C := RX1) (T := TX1) (N := 10) X hI in_X1 rfl 5 (by decide) q762 (fun _ h9 => h9) hr dX1_record_21 (fun v5 hr => ?_)
    refine lv_aload_n hx hb dX1_record_24 rfl (lv_at hl 1 rfl) ?_
    obtain ⟨_, ho6, hr⟩ := gB_i hr
    obtain ⟨h8, hc7, hr⟩ := gB_i hr
    refine gRun_v (g_runV X hI (w_J17_addLast hc7) ho6 rfl hl (lw_V q1052 q1053 q1054 q117 q1055) rfl rfl hd_J17_addLast ⟨Nat.le_of_ble_eq_true rfl, Nat.le_of_ble_eq_true rfl⟩ (as := [.ref z1]) (rest := []) rfl rfl (Nat.le_of_ble_eq_true rfl) ⟨(Nat.le_refl _), (Nat.le_refl _)⟩ dX1_record_25) (fun H locs hI => ?_)
    refine lv_iload_n hx hb dX1_record_28 rfl (lv_at hl 2 rfl) ?_
    have hr := gS_i hr
    subst hr
    exact g_iret X hI rfl (Nat.le_refl _) (Nat.le_refl _) dX1_record_29
  · replace hr := gIf_t c9 hr
    refine lv_aload_n hx hb dX1_record_12 rfl (lv_at hl 0 rfl) ?_
    refine g_getA (C := RX1) (T := TX1) (N := 10) X hI in_X1 rfl 5 (by decide) q762 (fun _ h9 => h9) hr dX1_record_13 (fun v9 hr => ?_)
    obtain ⟨_, ho10, hr⟩ := gB_i hr
    obtain ⟨v12, h13, hc11, hr⟩ := gT2_i hr
    refine gRun_a (g_runV X hI (w_J17_removeFirst hc11) ho10 rfl hl (lw_V q1020 q1021 q1022 q117 q1023) rfl rfl hd_J17_removeFirst ⟨Nat.le_of_ble_eq_true rfl, Nat.le_of_ble_eq_true rfl⟩ (as := []) (rest := []) rfl rfl (Nat.le_of_ble_eq_true rfl) ⟨(Nat.le_refl _), (Nat.le_refl _)⟩ dX1_record_16) (fun H locs hI => ?_)
    refine lv_pop hx hb dX1_record_19 rfl ?_
    refine lv_aload_n hx hb dX1_record_20 rfl (lv_at hl 0 rfl) ?_
    refine g_getA (C := RX1) (T := TX1) (N := 10) X hI in_X1 rfl 5 (by decide) q762 (fun _ h9 => h9) hr dX1_record_21 (fun v14 hr => ?_)
    refine lv_aload_n hx hb dX1_record_24 rfl (lv_at hl 1 rfl) ?_
    obtain ⟨_, ho15, hr⟩ := gB_i hr
    obtain ⟨h17, hc16, hr⟩ := gB_i hr
    refine gRun_v (g_runV X hI (w_J17_addLast hc16) ho15 rfl hl (lw_V q1052 q1053 q1054 q117 q1055) rfl rfl hd_J17_addLast ⟨Nat.le_of_ble_eq_true rfl, Nat.le_of_ble_eq_true rfl⟩ (as := [.ref z1]) (rest := []) rfl rfl (Nat.le_of_ble_eq_true rfl) ⟨(Nat.le_refl _), (Nat.le_refl _)⟩ dX1_record_25) (fun H locs hI => ?_)
    refine lv_iload_n hx hb dX1_record_28 rfl (lv_at hl 2 rfl) ?_
    have hr := gS_i hr
    subst hr
    exact g_iret X hI rfl (Nat.le_refl _) (Nat.le_refl _) dX1_record_29
abbrev rm_X1_movingKnife : Room := { frames := 9, cells := 5, slots := 42, locals := 199 }
theorem hd_X1_movingKnife : yX1_movingKnife.cls = RX1 ∧ yX1_movingKnife.cls ≠ "java/lang/invoke/MethodHandle" ∧ yX1_movingKnife.cls ≠ "java/lang/invoke/VarHandle" ∧ (parseMethodDescriptor yX1_movingKnife.desc).map (fun d => d.parameters.length) = some 0 := by decide +kernel
set_option maxHeartbeats 2000000 in
theorem w_X1_movingKnife {l : Launch} {x : gV} {base : Nat} (hst : l.stackTraces = false) {z0 : Nat} {h : gH} {n : Nat} {res : Int32 × gH × Nat} (hr : f_X1_movingKnife z0 h n = some res) : gM l yX1_movingKnife (ws_ yX1_movingKnife cX1_movingKnife 2 (some .int)) rm_X1_movingKnife x base [.ref z0] h n (some (.int res.1)) res.2.1 res.2.2 5 42 := by
  refine g_met (cc := cX1_movingKnife) (nL := 2) (ret := (some .int)) (by decide) (Nat.le_of_ble_eq_true rfl) (fun p e s m below meth c ls X hnm hl hI => ?_)
  have hl : lv_has ls 2 [(0, .ref z0)] := hl
  have hx := X.1
  have hb := X.2.1
  have hcc : 0 + 5 ≤ 5 ∧ 0 + 42 ≤ 42 := ⟨Nat.le_refl _, Nat.le_refl _⟩
  unfold f_X1_movingKnife at hr
  refine g_newO (C := RX2) (T := TX2) (N := 3) (ci := 0) (fs := [.null, .null, .null]) X hI in_X2 tyX2 tyX2_ok q142 q143 q97 rfl (g_dflt3 rfl rfl rfl) (show 0 + 1 ≤ 5 from by omega) (show 0 + 3 ≤ 42 from by omega) hr dX1_movingKnife_0 (fun q1 h2 n3 H locs hI hr => ?_)
  refine lv_dup hx hb dX1_movingKnife_3 rfl ?_
  refine lv_aload_n hx hb dX1_movingKnife_4 rfl (lv_at hl 0 rfl) ?_
  refine g_getA (C := RX1) (T := TX1) (N := 10) X hI in_X1 rfl 4 (by decide) q760 (fun _ h9 => h9) hr dX1_movingKnife_5 (fun v4 hr => ?_)
  obtain ⟨h6, n7, hc5, hr⟩ := gT2_i hr
  refine gRun_v (g_runI X hI (w_X2_init_2 hst hc5) hl q979 q995 q978 q97 rfl rfl rfl hd_X2_init_2 ⟨Nat.le_of_ble_eq_true rfl, Nat.le_of_ble_eq_true rfl⟩ (as := [.ref v4]) (rest := [.ref q1]) rfl rfl (Nat.le_of_ble_eq_true rfl) ⟨(show (0 + 1) + 4 ≤ 5 from by omega), (show (0 + 3) + 39 ≤ 42 from by omega)⟩ dX1_movingKnife_8) (fun H locs hI => ?_)
  refine lv_astore_n (lv' := [(1, .ref q1), (0, .ref z0)]) hx hb dX1_movingKnife_11 rfl hl (by decide) rfl (fun ls hl => ?_)
  refine lv_aload_n hx hb dX1_movingKnife_12 rfl (lv_at hl 1 rfl) ?_
  refine lv_aload_n hx hb dX1_movingKnife_13 rfl (lv_at hl 0 rfl) ?_
  refine lv_aload_n hx hb dX1_movingKnife_14 rfl (lv_at hl 1 rfl) ?_
  refine g_getA (C := RX1) (T := TX1) (N := 10) X hI in_X1 rfl 4 (by decide) q760 (fun _ h9 => h9) hr dX1_movingKnife_15 (fun v8 hr => ?_)
  obtain ⟨_, ho9, hr⟩ := gB_i hr
  obtain ⟨v11, h12, hc10, hr⟩ := gT2_i hr
  refine gRun_i (g_runV X hI (w_X2_movingKnife hc10) ho9 rfl hl (lw_V q996 q997 q998 q97 q999) rfl rfl hd_X2_movingKnife ⟨Nat.le_of_ble_eq_true rfl, Nat.le_of_ble_eq_true rfl⟩ (as := []) (rest := [.ref q1, .ref z0]) rfl rfl (Nat.le_of_ble_eq_true rfl) ⟨(show ((0 + 1) + 4) + 0 ≤ 5 from by omega), (show ((0 + 3) + 39) + 0 ≤ 42 from by omega)⟩ dX1_movingKnife_18) (fun H locs hI => ?_)
  obtain ⟨_, ho13, hr⟩ := gB_i hr
  obtain ⟨v15, h16, hc14, hr⟩ := gT2_i hr
  refine gRun_i (g_runV X hI (w_X1_record hc14) ho13 rfl hl (lw_V q1009 q1011 qs12 q96 q1012) rfl rfl hd_X1_record ⟨Nat.le_of_ble_eq_true rfl, Nat.le_of_ble_eq_true rfl⟩ (as := [.ref q1, .int v11]) (rest := []) rfl rfl (Nat.le_of_ble_eq_true rfl) ⟨(show (((0 + 1) + 4) + 0) + 0 ≤ 5 from by omega), (show (((0 + 3) + 39) + 0) + 0 ≤ 42 from by omega)⟩ dX1_movingKnife_21) (fun H locs hI => ?_)
  have hr := gS_i hr
  subst hr
  exact g_iret X hI rfl (show ((((0 + 1) + 4) + 0) + 0) ≤ 5 from by omega) (show ((((0 + 3) + 39) + 0) + 0) ≤ 42 from by omega) dX1_movingKnife_24
abbrev rm_X1_write : Room := { frames := 0, cells := 0, slots := 0, locals := 0 }
theorem hd_X1_write : yX1_write.cls = RX1 ∧ yX1_write.cls ≠ "java/lang/invoke/MethodHandle" ∧ yX1_write.cls ≠ "java/lang/invoke/VarHandle" ∧ (parseMethodDescriptor yX1_write.desc).map (fun d => d.parameters.length) = some 1 := by decide +kernel
set_option maxHeartbeats 2000000 in
theorem w_X1_write_L2 {n : Nat} {z0 : Nat} {z1 : Nat} {res : gH} (X : gXX x base RX1 cX1_write 3 none p l s m args meth c) : ∀ (k : Nat) {z2 : Int32} {h : gH} {H : Heap} {locs : List Loc} {ls : Array Slot}, gL2 (f_X1_write_L2 z0 z1) k z2 h = some res → gI x base s.heap h n H locs → lv_has ls 3 [(0, .ref z0), (1, .ref z1), (2, .int z2)] → W p l e rm_X1_write s m args below meth c H locs 0 0 (MQ below (gQ x base none res n) args s 0 0 (fun q => base ≤ q)) (F0 m 2 ls []) := by
  have hx := X.1
  have hb := X.2.1
  intro k
  induction k with
  | zero =>
    intros
    rename_i hr _ _
    exact nomatch (show (none : Option _) = some _ from hr)
  | succ k ih =>
    intro z2 h H locs ls hr hI hl
    replace hr : f_X1_write_L2 z0 z1 (gL2 (f_X1_write_L2 z0 z1) k) z2 h = some res := hr
    unfold f_X1_write_L2 at hr
    refine lv_iload_n hx hb dX1_write_2 rfl (lv_at hl 2 rfl) ?_
    refine lv_aload_n hx hb dX1_write_3 rfl (lv_at hl 1 rfl) ?_
    refine g_alen X hI (t := 0) rfl hr dX1_write_4 (fun v1 hr => ?_)
    refine lv_icmp_ge (tgt := 34) hx hb dX1_write_5 (by decide) (fun c9 => ?_) (fun c9 => ?_)
    · replace hr := gIf_t c9 hr
      have hr := gS_i hr
      subst hr
      exact g_vret X hI (Nat.le_refl _) (Nat.le_refl _) dX1_write_34
    · replace hr := gIf_f c9 hr
      refine lv_aload_n hx hb dX1_write_8 rfl (lv_at hl 0 rfl) ?_
      refine g_getA (C := RX1) (T := TX1) (N := 10) X hI in_X1 rfl 8 (by decide) q765 (fun _ h9 => h9) hr dX1_write_9 (fun v2 hr => ?_)
      refine lv_aload_n hx hb dX1_write_12 rfl (lv_at hl 0 rfl) ?_
      refine lv_dup hx hb dX1_write_13 rfl ?_
      refine g_getI (C := RX1) (T := TX1) (N := 10) X hI in_X1 rfl 9 (by decide) q766 (fun _ h9 => h9) hr dX1_write_14 (fun v3 hr => ?_)
      refine lv_dup_x1 hx hb dX1_write_17 rfl rfl ?_
      refine lv_iconst (v := 1) hx hb dX1_write_18 (by decide) ?_
      refine lv_iadd hx hb dX1_write_19 ?_
      refine g_put (C := RX1) (T := TX1) (N := 10) (v := .int (v3 + (1 : Int32))) (ty := .int) X hI in_X1 tyX1 tyX1_ok nmX1 rfl 9 (by decide) q766 (fun _ h9 => h9) rfl (by decide +kernel) rfl rfl hr dX1_write_20 (fun h4 H locs hI hr => ?_)
      refine lv_aload_n hx hb dX1_write_23 rfl (lv_at hl 1 rfl) ?_
      refine lv_iload_n hx hb dX1_write_24 rfl (lv_at hl 2 rfl) ?_
      refine g_iald X hI hr dX1_write_25 (fun v5 hr => ?_)
      refine lv_i2b hx hb dX1_write_26 rfl ?_
      refine g_bast X hI hr dX1_write_27 (fun h6 H locs hI hr => ?_)
      refine lv_iinc (v := (z2 + (1 : Int32))) (lv' := [(2, .int (z2 + (1 : Int32))), (0, .ref z0), (1, .ref z1)]) hx hb dX1_write_28 hl (k := 2) rfl (g_inc (by decide)) (by decide) rfl (fun ls hl => ?_)
      refine lv_goto (tgt := 2) hx hb dX1_write_31 (by decide) ?_
      exact ih hr hI (lv_sub hl [1, 2, 0] rfl)
set_option maxHeartbeats 2000000 in
theorem w_X1_write {l : Launch} {x : gV} {base : Nat} {z0 : Nat} {z1 : Nat} {h : gH} {n : Nat} {res : gH} (hr : f_X1_write z0 z1 h = some res) : gM l yX1_write (ws_ yX1_write cX1_write 3 none) rm_X1_write x base [.ref z0, .ref z1] h n none res n 0 0 := by
  refine g_met (cc := cX1_write) (nL := 3) (ret := none) (by decide) (Nat.le_of_ble_eq_true rfl) (fun p e s m below meth c ls X hnm hl hI => ?_)
  have hl : lv_has ls 3 [(0, .ref z0), (1, .ref z1)] := hl
  have hx := X.1
  have hb := X.2.1
  unfold f_X1_write at hr
  refine lv_iconst (v := 0) hx hb dX1_write_0 (by decide) ?_
  refine lv_istore_n (lv' := [(2, .int (0 : Int32)), (0, .ref z0), (1, .ref z1)]) hx hb dX1_write_1 rfl hl (by decide) rfl (fun ls hl => ?_)
  exact w_X1_write_L2 X gN hr hI (lv_sub hl [1, 2, 0] rfl)
abbrev rm_X1_writeRun : Room := { frames := 4, cells := 11, slots := 11, locals := 85 }
theorem hd_X1_writeRun : yX1_writeRun.cls = RX1 ∧ yX1_writeRun.cls ≠ "java/lang/invoke/MethodHandle" ∧ yX1_writeRun.cls ≠ "java/lang/invoke/VarHandle" ∧ (parseMethodDescriptor yX1_writeRun.desc).map (fun d => d.parameters.length) = some 2 := by decide +kernel
set_option maxHeartbeats 2000000 in
theorem w_X1_writeRun_L92 {z0 : Nat} {z3 : Nat} {res : gH × Nat} (X : gXX x base RX1 cX1_writeRun 5 none p l s m args meth c) (hst : l.stackTraces = false) : ∀ (k : Nat) {z4 : Int32} {h : gH} {n : Nat} {H : Heap} {locs : List Loc} {ls : Array Slot} {cells slots : Nat}, gL3 (f_X1_writeRun_L92 z0 z3) k z4 h n = some res → gI x base s.heap h n H locs → lv_has ls 5 [(0, .ref z0), (3, .ref z3), (4, .int z4)] → (cells + (k * 1 + (1)) ≤ 11 ∧ slots + (k * 1 + (1)) ≤ 11) → W p l e rm_X1_writeRun s m args below meth c H locs cells slots (MQ below (gQ x base none res.1 res.2) args s 11 11 (fun q => base ≤ q)) (F0 m 92 ls []) := by
  have hx := X.1
  have hb := X.2.1
  intro k
  induction k with
  | zero =>
    intros
    rename_i hr _ _ _
    exact nomatch (show (none : Option _) = some _ from hr)
  | succ k ih =>
    intro z4 h n H locs ls cells slots hr hI hl hcc
    replace hr : f_X1_writeRun_L92 z0 z3 (gL3 (f_X1_writeRun_L92 z0 z3) k) z4 h n = some res := hr
    unfold f_X1_writeRun_L92 at hr
    refine lv_iload hx hb dX1_writeRun_92 (lv_at hl 2 rfl) ?_
    refine lv_aload_n hx hb dX1_writeRun_94 rfl (lv_at hl 1 rfl) ?_
    refine g_alen X hI (t := 1) rfl hr dX1_writeRun_95 (fun v14 hr => ?_)
    refine lv_icmp_ge (tgt := 119) hx hb dX1_writeRun_96 (by decide) (fun c9 => ?_) (fun c9 => ?_)
    · replace hr := gIf_t c9 hr
      have hr := gS_i hr
      subst hr
      exact g_vret X hI (show cells ≤ 11 from by omega) (show slots ≤ 11 from by omega) dX1_writeRun_119
    · replace hr := gIf_f c9 hr
      refine lv_aload_n hx hb dX1_writeRun_99 rfl (lv_at hl 0 rfl) ?_
      refine lv_iconst (v := 1) hx hb dX1_writeRun_100 (by decide) ?_
      refine g_newI (t := 0) (b := 1) (atype := .int) X hI q512 rfl rfl (by decide) (show cells + 1 ≤ 11 from by omega) (show slots + 1 ≤ 11 from by omega) hr dX1_writeRun_101 (fun q15 h16 n17 H locs hI hr => ?_)
      refine lv_dup hx hb dX1_writeRun_103 rfl ?_
      refine lv_iconst (v := 0) hx hb dX1_writeRun_104 (by decide) ?_
      refine lv_aload_n hx hb dX1_writeRun_105 rfl (lv_at hl 1 rfl) ?_
      refine lv_iload hx hb dX1_writeRun_106 (lv_at hl 2 rfl) ?_
      refine g_bald X hI hr dX1_writeRun_108 (fun v18 hr => ?_)
      refine g_iast X hI hr dX1_writeRun_109 (fun h19 H locs hI hr => ?_)
      obtain ⟨_, ho20, hr⟩ := gB_i hr
      obtain ⟨h22, hc21, hr⟩ := gB_i hr
      refine gRun_v (g_runV X hI (w_X1_write hc21) ho20 rfl hl (lw_V q1092 q1094 qs16 q96 q1095) rfl rfl hd_X1_write ⟨Nat.le_of_ble_eq_true rfl, Nat.le_of_ble_eq_true rfl⟩ (as := [.ref q15]) (rest := []) rfl rfl (Nat.le_of_ble_eq_true rfl) ⟨(show (cells + 1) + 0 ≤ 11 from by omega), (show (slots + 1) + 0 ≤ 11 from by omega)⟩ dX1_writeRun_110) (fun H locs hI => ?_)
      refine lv_iinc (v := (z4 + (1 : Int32))) (lv' := [(4, .int (z4 + (1 : Int32))), (0, .ref z0), (3, .ref z3)]) hx hb dX1_writeRun_113 hl (k := 2) rfl (g_inc (by decide)) (by decide) rfl (fun ls hl => ?_)
      refine lv_goto (tgt := 92) hx hb dX1_writeRun_116 (by decide) ?_
      exact ih hr hI (lv_sub hl [1, 2, 0] rfl) (by omega)
set_option maxHeartbeats 2000000 in
theorem w_X1_writeRun_J42 {h : gH} {n : Nat} {z0 : Nat} {z1 : Int32} {z2 : Int32} {res : gH × Nat} (X : gXX x base RX1 cX1_writeRun 5 none p l s m args meth c) (hst : l.stackTraces = false) {H : Heap} {locs : List Loc} {ls : Array Slot} {cells slots : Nat} (hr : f_X1_writeRun_J42 z0 z1 z2 h n = some res) (hI : gI x base s.heap h n H locs) (hl : lv_has ls 5 [(0, .ref z0), (1, .int z1), (2, .int z2)]) (hcc : cells + (9) ≤ 11 ∧ slots + (9) ≤ 11) : W p l e rm_X1_writeRun s m args below meth c H locs cells slots (MQ below (gQ x base none res.1 res.2) args s 11 11 (fun q => base ≤ q)) (F0 m 42 ls []) := by
  have hx := X.1
  have hb := X.2.1
  unfold f_X1_writeRun_J42 at hr
  refine lv_aload_n hx hb dX1_writeRun_42 rfl (lv_at hl 0 rfl) ?_
  refine lv_iconst (v := 1) hx hb dX1_writeRun_43 (by decide) ?_
  refine g_newI (t := 0) (b := 1) (atype := .int) X hI q512 rfl rfl (by decide) (show cells + 1 ≤ 11 from by omega) (show slots + 1 ≤ 11 from by omega) hr dX1_writeRun_44 (fun q2 h3 n4 H locs hI hr => ?_)
  refine lv_dup hx hb dX1_writeRun_46 rfl ?_
  refine lv_iconst (v := 0) hx hb dX1_writeRun_47 (by decide) ?_
  refine lv_bipush (v := 48) hx hb dX1_writeRun_48 (by decide) ?_
  refine lv_iload_n hx hb dX1_writeRun_50 rfl (lv_at hl 1 rfl) ?_
  refine lv_bipush (v := 10) hx hb dX1_writeRun_51 (by decide) ?_
  refine lv_irem hx hb dX1_writeRun_53 (by decide) ?_
  refine lv_iadd hx hb dX1_writeRun_54 ?_
  refine g_iast X hI hr dX1_writeRun_55 (fun h5 H locs hI hr => ?_)
  obtain ⟨_, ho6, hr⟩ := gB_i hr
  obtain ⟨h8, hc7, hr⟩ := gB_i hr
  refine gRun_v (g_runV X hI (w_X1_write hc7) ho6 rfl hl (lw_V q1092 q1094 qs16 q96 q1095) rfl rfl hd_X1_write ⟨Nat.le_of_ble_eq_true rfl, Nat.le_of_ble_eq_true rfl⟩ (as := [.ref q2]) (rest := []) rfl rfl (Nat.le_of_ble_eq_true rfl) ⟨(show (cells + 1) + 0 ≤ 11 from by omega), (show (slots + 1) + 0 ≤ 11 from by omega)⟩ dX1_writeRun_56) (fun H locs hI => ?_)
  refine lv_iload_n hx hb dX1_writeRun_59 rfl (lv_at hl 2 rfl) ?_
  refine lv_iconst (v := (-1)) hx hb dX1_writeRun_60 (by decide) ?_
  refine lv_icmp_ne (tgt := 77) hx hb dX1_writeRun_61 (by decide) (fun c9 => ?_) (fun c9 => ?_)
  · replace hr := gIf_f c9 hr
    refine lv_aload_n hx hb dX1_writeRun_77 rfl (lv_at hl 0 rfl) ?_
    refine g_getA (C := RX1) (T := TX1) (N := 10) X hI in_X1 rfl 4 (by decide) q760 (fun _ h9 => h9) hr dX1_writeRun_78 (fun v9 hr => ?_)
    refine lv_iload_n hx hb dX1_writeRun_81 rfl (lv_at hl 2 rfl) ?_
    obtain ⟨_, ho10, hr⟩ := gB_i hr
    obtain ⟨v12, hc11, hr⟩ := gB_i hr
    refine gRun_a (g_runV X hI (w_X2_sibling hc11) ho10 rfl hl (lw_V q900 q666 q667 q97 q668) rfl rfl hd_X2_sibling ⟨Nat.le_of_ble_eq_true rfl, Nat.le_of_ble_eq_true rfl⟩ (as := [.int z2]) (rest := []) rfl rfl (Nat.le_of_ble_eq_true rfl) ⟨(show ((cells + 1) + 0) + 0 ≤ 11 from by omega), (show ((slots + 1) + 0) + 0 ≤ 11 from by omega)⟩ dX1_writeRun_82) (fun H locs hI => ?_)
    refine g_getA (C := RX5) (T := TX5) (N := 2) X hI in_X5 rfl 0 (by decide) q698 (fun _ h9 => h9) hr dX1_writeRun_85 (fun v13 hr => ?_)
    refine lv_astore_n (lv' := [(3, .ref v13), (0, .ref z0), (1, .int z1), (2, .int z2)]) hx hb dX1_writeRun_88 rfl hl (by decide) rfl (fun ls hl => ?_)
    refine lv_iconst (v := 0) hx hb dX1_writeRun_89 (by decide) ?_
    refine lv_istore (lv' := [(4, .int (0 : Int32)), (3, .ref v13), (0, .ref z0), (1, .int z1), (2, .int z2)]) hx hb dX1_writeRun_90 hl (by decide) rfl (fun ls hl => ?_)
    exact w_X1_writeRun_L92 X hst 7 hr hI (lv_sub hl [2, 1, 0] rfl) (by omega)
  · replace hr := gIf_t c9 hr
    refine lv_aload_n hx hb dX1_writeRun_64 rfl (lv_at hl 0 rfl) ?_
    refine lv_iconst (v := 1) hx hb dX1_writeRun_65 (by decide) ?_
    refine g_newI (t := 0) (b := 1) (atype := .int) X hI q512 rfl rfl (by decide) (show ((cells + 1) + 0) + 1 ≤ 11 from by omega) (show ((slots + 1) + 0) + 1 ≤ 11 from by omega) hr dX1_writeRun_66 (fun q23 h24 n25 H locs hI hr => ?_)
    refine lv_dup hx hb dX1_writeRun_68 rfl ?_
    refine lv_iconst (v := 0) hx hb dX1_writeRun_69 (by decide) ?_
    refine lv_bipush (v := 45) hx hb dX1_writeRun_70 (by decide) ?_
    refine g_iast X hI hr dX1_writeRun_72 (fun h26 H locs hI hr => ?_)
    obtain ⟨_, ho27, hr⟩ := gB_i hr
    obtain ⟨h29, hc28, hr⟩ := gB_i hr
    refine gRun_v (g_runV X hI (w_X1_write hc28) ho27 rfl hl (lw_V q1092 q1094 qs16 q96 q1095) rfl rfl hd_X1_write ⟨Nat.le_of_ble_eq_true rfl, Nat.le_of_ble_eq_true rfl⟩ (as := [.ref q23]) (rest := []) rfl rfl (Nat.le_of_ble_eq_true rfl) ⟨(show (((cells + 1) + 0) + 1) + 0 ≤ 11 from by omega), (show (((slots + 1) + 0) + 1) + 0 ≤ 11 from by omega)⟩ dX1_writeRun_73) (fun H locs hI => ?_)
    have hr := gS_i hr
    subst hr
    exact g_vret X hI (show ((((cells + 1) + 0) + 1) + 0) ≤ 11 from by omega) (show ((((slots + 1) + 0) + 1) + 0) ≤ 11 from by omega) dX1_writeRun_76
set_option maxHeartbeats 2000000 in
theorem w_X1_writeRun_J19 {h : gH} {n : Nat} {z0 : Nat} {z1 : Int32} {z2 : Int32} {res : gH × Nat} (X : gXX x base RX1 cX1_writeRun 5 none p l s m args meth c) (hst : l.stackTraces = false) {H : Heap} {locs : List Loc} {ls : Array Slot} {cells slots : Nat} (hr : f_X1_writeRun_J19 z0 z1 z2 h n = some res) (hI : gI x base s.heap h n H locs) (hl : lv_has ls 5 [(0, .ref z0), (1, .int z1), (2, .int z2)]) (hcc : cells + (10) ≤ 11 ∧ slots + (10) ≤ 11) : W p l e rm_X1_writeRun s m args below meth c H locs cells slots (MQ below (gQ x base none res.1 res.2) args s 11 11 (fun q => base ≤ q)) (F0 m 19 ls []) := by
  have hx := X.1
  have hb := X.2.1
  unfold f_X1_writeRun_J19 at hr
  refine lv_iload_n hx hb dX1_writeRun_19 rfl (lv_at hl 1 rfl) ?_
  refine lv_bipush (v := 9) hx hb dX1_writeRun_20 (by decide) ?_
  refine lv_icmp_le (tgt := 42) hx hb dX1_writeRun_22 (by decide) (fun c9 => ?_) (fun c9 => ?_)
  · replace hr := gIf_t c9 hr
    exact w_X1_writeRun_J42 X hst hr hI (lv_sub hl [0, 1, 2] rfl) (by omega)
  · replace hr := gIf_f c9 hr
    refine lv_aload_n hx hb dX1_writeRun_25 rfl (lv_at hl 0 rfl) ?_
    refine lv_iconst (v := 1) hx hb dX1_writeRun_26 (by decide) ?_
    refine g_newI (t := 0) (b := 1) (atype := .int) X hI q512 rfl rfl (by decide) (show cells + 1 ≤ 11 from by omega) (show slots + 1 ≤ 11 from by omega) hr dX1_writeRun_27 (fun q30 h31 n32 H locs hI hr => ?_)
    refine lv_dup hx hb dX1_writeRun_29 rfl ?_
    refine lv_iconst (v := 0) hx hb dX1_writeRun_30 (by decide) ?_
    refine lv_bipush (v := 48) hx hb dX1_writeRun_31 (by decide) ?_
    refine lv_iload_n hx hb dX1_writeRun_33 rfl (lv_at hl 1 rfl) ?_
    refine lv_bipush (v := 10) hx hb dX1_writeRun_34 (by decide) ?_
    refine lv_idiv hx hb dX1_writeRun_36 (by decide) ?_
    refine lv_iadd hx hb dX1_writeRun_37 ?_
    refine g_iast X hI hr dX1_writeRun_38 (fun h33 H locs hI hr => ?_)
    obtain ⟨_, ho34, hr⟩ := gB_i hr
    obtain ⟨h36, hc35, hr⟩ := gB_i hr
    refine gRun_v (g_runV X hI (w_X1_write hc35) ho34 rfl hl (lw_V q1092 q1094 qs16 q96 q1095) rfl rfl hd_X1_write ⟨Nat.le_of_ble_eq_true rfl, Nat.le_of_ble_eq_true rfl⟩ (as := [.ref q30]) (rest := []) rfl rfl (Nat.le_of_ble_eq_true rfl) ⟨(show (cells + 1) + 0 ≤ 11 from by omega), (show (slots + 1) + 0 ≤ 11 from by omega)⟩ dX1_writeRun_39) (fun H locs hI => ?_)
    exact w_X1_writeRun_J42 X hst hr hI (lv_sub hl [0, 1, 2] rfl) (by omega)
set_option maxHeartbeats 2000000 in
theorem w_X1_writeRun {l : Launch} {x : gV} {base : Nat} (hst : l.stackTraces = false) {z0 : Nat} {z1 : Int32} {z2 : Int32} {h : gH} {n : Nat} {res : gH × Nat} (hr : f_X1_writeRun z0 z1 z2 h n = some res) : gM l yX1_writeRun (ws_ yX1_writeRun cX1_writeRun 5 none) rm_X1_writeRun x base [.ref z0, .int z1, .int z2] h n none res.1 res.2 11 11 := by
  refine g_met (cc := cX1_writeRun) (nL := 5) (ret := none) (by decide) (Nat.le_of_ble_eq_true rfl) (fun p e s m below meth c ls X hnm hl hI => ?_)
  have hl : lv_has ls 5 [(0, .ref z0), (1, .int z1), (2, .int z2)] := hl
  have hx := X.1
  have hb := X.2.1
  have hcc : 0 + 11 ≤ 11 ∧ 0 + 11 ≤ 11 := ⟨Nat.le_refl _, Nat.le_refl _⟩
  unfold f_X1_writeRun at hr
  refine lv_aload_n hx hb dX1_writeRun_0 rfl (lv_at hl 0 rfl) ?_
  refine g_getI (C := RX1) (T := TX1) (N := 10) X hI in_X1 rfl 9 (by decide) q766 (fun _ h9 => h9) hr dX1_writeRun_1 (fun v1 hr => ?_)
  refine lv_if_le (tgt := 19) hx hb dX1_writeRun_4 (by decide) (fun c9 => ?_) (fun c9 => ?_)
  · replace hr := gIf_t c9 hr
    exact w_X1_writeRun_J19 X hst hr hI (lv_sub hl [0, 1, 2] rfl) (by omega)
  · replace hr := gIf_f c9 hr
    refine lv_aload_n hx hb dX1_writeRun_7 rfl (lv_at hl 0 rfl) ?_
    refine lv_iconst (v := 1) hx hb dX1_writeRun_8 (by decide) ?_
    refine g_newI (t := 0) (b := 1) (atype := .int) X hI q512 rfl rfl (by decide) (show 0 + 1 ≤ 11 from by omega) (show 0 + 1 ≤ 11 from by omega) hr dX1_writeRun_9 (fun q37 h38 n39 H locs hI hr => ?_)
    refine lv_dup hx hb dX1_writeRun_11 rfl ?_
    refine lv_iconst (v := 0) hx hb dX1_writeRun_12 (by decide) ?_
    refine lv_bipush (v := 32) hx hb dX1_writeRun_13 (by decide) ?_
    refine g_iast X hI hr dX1_writeRun_15 (fun h40 H locs hI hr => ?_)
    obtain ⟨_, ho41, hr⟩ := gB_i hr
    obtain ⟨h43, hc42, hr⟩ := gB_i hr
    refine gRun_v (g_runV X hI (w_X1_write hc42) ho41 rfl hl (lw_V q1092 q1094 qs16 q96 q1095) rfl rfl hd_X1_write ⟨Nat.le_of_ble_eq_true rfl, Nat.le_of_ble_eq_true rfl⟩ (as := [.ref q37]) (rest := []) rfl rfl (Nat.le_of_ble_eq_true rfl) ⟨(show (0 + 1) + 0 ≤ 11 from by omega), (show (0 + 1) + 0 ≤ 11 from by omega)⟩ dX1_writeRun_16) (fun H locs hI => ?_)
    exact w_X1_writeRun_J19 X hst hr hI (lv_sub hl [0, 1, 2] rfl) (by omega)
abbrev rm_X1_writeOwners : Room := { frames := 5, cells := 286, slots := 286, locals := 109 }
theorem hd_X1_writeOwners : yX1_writeOwners.cls = RX1 ∧ yX1_writeOwners.cls ≠ "java/lang/invoke/MethodHandle" ∧ yX1_writeOwners.cls ≠ "java/lang/invoke/VarHandle" ∧ (parseMethodDescriptor yX1_writeOwners.desc).map (fun d => d.parameters.length) = some 0 := by decide +kernel
set_option maxHeartbeats 2000000 in
theorem w_X1_writeOwners_J52 {h : gH} {n : Nat} {r9 : Int32 → Int32 → gH → Nat → Option (Int32 × gH × Nat)} {z0 : Nat} {b9 : Nat} {d9 : Nat} {z1 : Int32} {z2 : Int32} {res : Int32 × gH × Nat} (X : gXX x base RX1 cX1_writeOwners 3 (some .int) p l s m args meth c) (hst : l.stackTraces = false) (Hr9 : ∀ {z1 : Int32} {z2 : Int32} {h : gH} {n : Nat} {H : Heap} {locs : List Loc} {ls : Array Slot} {cells slots : Nat}, r9 z1 z2 h n = some res → gI x base s.heap h n H locs → lv_has ls 3 [(0, .ref z0), (1, .int z1), (2, .int z2)] → (cells + b9 ≤ 286 ∧ slots + d9 ≤ 286) → W p l e rm_X1_writeOwners s m args below meth c H locs cells slots (MQ below (gQ x base (some (.int res.1)) res.2.1 res.2.2) args s 286 286 (fun q => base ≤ q)) (F0 m 9 ls [])) {H : Heap} {locs : List Loc} {ls : Array Slot} {cells slots : Nat} (hr : f_X1_writeOwners_J52 r9 z0 z1 z2 h n = some res) (hI : gI x base s.heap h n H locs) (hl : lv_has ls 3 [(0, .ref z0), (1, .int z1), (2, .int z2)]) (hcc : cells + (11 + b9) ≤ 286 ∧ slots + (11 + d9) ≤ 286) : W p l e rm_X1_writeOwners s m args below meth c H locs cells slots (MQ below (gQ x base (some (.int res.1)) res.2.1 res.2.2) args s 286 286 (fun q => base ≤ q)) (F0 m 52 ls []) := by
  have hx := X.1
  have hb := X.2.1
  unfold f_X1_writeOwners_J52 at hr
  refine lv_aload_n hx hb dX1_writeOwners_52 rfl (lv_at hl 0 rfl) ?_
  refine lv_iload_n hx hb dX1_writeOwners_53 rfl (lv_at hl 2 rfl) ?_
  refine lv_iload_n hx hb dX1_writeOwners_54 rfl (lv_at hl 1 rfl) ?_
  refine lv_isub hx hb dX1_writeOwners_55 ?_
  refine lv_aload_n hx hb dX1_writeOwners_56 rfl (lv_at hl 0 rfl) ?_
  refine g_getA (C := RX1) (T := TX1) (N := 10) X hI in_X1 rfl 4 (by decide) q760 (fun _ h9 => h9) hr dX1_writeOwners_57 (fun v11 hr => ?_)
  refine g_getA (C := RX2) (T := TX2) (N := 3) X hI in_X2 rfl 1 (by decide) q502 (fun _ h9 => h9) hr dX1_writeOwners_60 (fun v12 hr => ?_)
  refine lv_iload_n hx hb dX1_writeOwners_63 rfl (lv_at hl 1 rfl) ?_
  refine g_iald X hI hr dX1_writeOwners_64 (fun v13 hr => ?_)
  obtain ⟨_, ho14, hr⟩ := gB_i hr
  obtain ⟨h16, n17, hc15, hr⟩ := gT2_i hr
  refine gRun_v (g_runV X hI (w_X1_writeRun hst hc15) ho14 rfl hl (lw_V q1088 q1090 qs15 q96 q1091) rfl rfl hd_X1_writeRun ⟨Nat.le_of_ble_eq_true rfl, Nat.le_of_ble_eq_true rfl⟩ (as := [.int (z2 - z1), .int v13]) (rest := []) rfl rfl (Nat.le_of_ble_eq_true rfl) ⟨(show cells + 11 ≤ 286 from by omega), (show slots + 11 ≤ 286 from by omega)⟩ dX1_writeOwners_65) (fun H locs hI => ?_)
  refine lv_iload_n hx hb dX1_writeOwners_68 rfl (lv_at hl 2 rfl) ?_
  refine lv_istore_n (lv' := [(1, .int z2), (0, .ref z0), (2, .int z2)]) hx hb dX1_writeOwners_69 rfl hl (by decide) rfl (fun ls hl => ?_)
  refine lv_iinc (v := (z2 + (1 : Int32))) (lv' := [(2, .int (z2 + (1 : Int32))), (1, .int z2), (0, .ref z0)]) hx hb dX1_writeOwners_70 hl (k := 2) rfl (g_inc (by decide)) (by decide) rfl (fun ls hl => ?_)
  refine lv_goto (tgt := 9) hx hb dX1_writeOwners_73 (by decide) ?_
  exact Hr9 hr hI (lv_sub hl [2, 1, 0] rfl) (by omega)
set_option maxHeartbeats 2000000 in
theorem w_X1_writeOwners_L9 {z0 : Nat} {res : Int32 × gH × Nat} (X : gXX x base RX1 cX1_writeOwners 3 (some .int) p l s m args meth c) (hst : l.stackTraces = false) : ∀ (k : Nat) {z1 : Int32} {z2 : Int32} {h : gH} {n : Nat} {H : Heap} {locs : List Loc} {ls : Array Slot} {cells slots : Nat}, gL4 (f_X1_writeOwners_L9 z0) k z1 z2 h n = some res → gI x base s.heap h n H locs → lv_has ls 3 [(0, .ref z0), (1, .int z1), (2, .int z2)] → (cells + (k * 11 + (11)) ≤ 286 ∧ slots + (k * 11 + (11)) ≤ 286) → W p l e rm_X1_writeOwners s m args below meth c H locs cells slots (MQ below (gQ x base (some (.int res.1)) res.2.1 res.2.2) args s 286 286 (fun q => base ≤ q)) (F0 m 9 ls []) := by
  have hx := X.1
  have hb := X.2.1
  intro k
  induction k with
  | zero =>
    intros
    rename_i hr _ _ _
    exact nomatch (show (none : Option _) = some _ from hr)
  | succ k ih =>
    intro z1 z2 h n H locs ls cells slots hr hI hl hcc
    replace hr : f_X1_writeOwners_L9 z0 (gL4 (f_X1_writeOwners_L9 z0) k) z1 z2 h n = some res := hr
    unfold f_X1_writeOwners_L9 at hr
    refine lv_iload_n hx hb dX1_writeOwners_9 rfl (lv_at hl 2 rfl) ?_
    refine lv_aload_n hx hb dX1_writeOwners_10 rfl (lv_at hl 0 rfl) ?_
    refine g_getA (C := RX1) (T := TX1) (N := 10) X hI in_X1 rfl 4 (by decide) q760 (fun _ h9 => h9) hr dX1_writeOwners_11 (fun v2 hr => ?_)
    obtain ⟨_, ho3, hr⟩ := gB_i hr
    obtain ⟨v5, hc4, hr⟩ := gB_i hr
    refine gRun_i (g_runV X hI (w_X2_cells hc4) ho3 rfl hl (lw_V q686 q687 q688 q97 q689) rfl rfl hd_X2_cells ⟨Nat.le_of_ble_eq_true rfl, Nat.le_of_ble_eq_true rfl⟩ (as := []) (rest := [.int z2]) rfl rfl (Nat.le_of_ble_eq_true rfl) ⟨(show cells + 0 ≤ 286 from by omega), (show slots + 0 ≤ 286 from by omega)⟩ dX1_writeOwners_14) (fun H locs hI => ?_)
    refine lv_icmp_gt (tgt := 76) hx hb dX1_writeOwners_17 (by decide) (fun c9 => ?_) (fun c9 => ?_)
    · replace hr := gIf_t c9 hr
      refine lv_aload_n hx hb dX1_writeOwners_76 rfl (lv_at hl 0 rfl) ?_
      refine g_getI (C := RX1) (T := TX1) (N := 10) X hI in_X1 rfl 9 (by decide) q766 (fun _ h9 => h9) hr dX1_writeOwners_77 (fun v6 hr => ?_)
      have hr := gS_i hr
      subst hr
      exact g_iret X hI rfl (show (cells + 0) ≤ 286 from by omega) (show (slots + 0) ≤ 286 from by omega) dX1_writeOwners_80
    · replace hr := gIf_f c9 hr
      refine lv_iload_n hx hb dX1_writeOwners_20 rfl (lv_at hl 2 rfl) ?_
      refine lv_aload_n hx hb dX1_writeOwners_21 rfl (lv_at hl 0 rfl) ?_
      refine g_getA (C := RX1) (T := TX1) (N := 10) X hI in_X1 rfl 4 (by decide) q760 (fun _ h9 => h9) hr dX1_writeOwners_22 (fun v7 hr => ?_)
      obtain ⟨_, ho8, hr⟩ := gB_i hr
      obtain ⟨v10, hc9, hr⟩ := gB_i hr
      refine gRun_i (g_runV X hI (w_X2_cells hc9) ho8 rfl hl (lw_V q686 q687 q688 q97 q689) rfl rfl hd_X2_cells ⟨Nat.le_of_ble_eq_true rfl, Nat.le_of_ble_eq_true rfl⟩ (as := []) (rest := [.int z2]) rfl rfl (Nat.le_of_ble_eq_true rfl) ⟨(show (cells + 0) + 0 ≤ 286 from by omega), (show (slots + 0) + 0 ≤ 286 from by omega)⟩ dX1_writeOwners_25) (fun H locs hI => ?_)
      refine lv_icmp_eq (tgt := 52) hx hb dX1_writeOwners_28 (by decide) (fun c9 => ?_) (fun c9 => ?_)
      · replace hr := gIf_t c9 hr
        exact w_X1_writeOwners_J52 X hst ih hr hI (lv_sub hl [0, 1, 2] rfl) (by omega)
      · replace hr := gIf_f c9 hr
        refine lv_aload_n hx hb dX1_writeOwners_31 rfl (lv_at hl 0 rfl) ?_
        refine g_getA (C := RX1) (T := TX1) (N := 10) X hI in_X1 rfl 4 (by decide) q760 (fun _ h9 => h9) hr dX1_writeOwners_32 (fun v18 hr => ?_)
        refine g_getA (C := RX2) (T := TX2) (N := 3) X hI in_X2 rfl 1 (by decide) q502 (fun _ h9 => h9) hr dX1_writeOwners_35 (fun v19 hr => ?_)
        refine lv_iload_n hx hb dX1_writeOwners_38 rfl (lv_at hl 2 rfl) ?_
        refine g_iald X hI hr dX1_writeOwners_39 (fun v20 hr => ?_)
        refine lv_aload_n hx hb dX1_writeOwners_40 rfl (lv_at hl 0 rfl) ?_
        refine g_getA (C := RX1) (T := TX1) (N := 10) X hI in_X1 rfl 4 (by decide) q760 (fun _ h9 => h9) hr dX1_writeOwners_41 (fun v21 hr => ?_)
        refine g_getA (C := RX2) (T := TX2) (N := 3) X hI in_X2 rfl 1 (by decide) q502 (fun _ h9 => h9) hr dX1_writeOwners_44 (fun v22 hr => ?_)
        refine lv_iload_n hx hb dX1_writeOwners_47 rfl (lv_at hl 1 rfl) ?_
        refine g_iald X hI hr dX1_writeOwners_48 (fun v23 hr => ?_)
        refine lv_icmp_eq (tgt := 70) hx hb dX1_writeOwners_49 (by decide) (fun c9 => ?_) (fun c9 => ?_)
        · replace hr := gIf_t c9 hr
          refine lv_iinc (v := (z2 + (1 : Int32))) (lv' := [(2, .int (z2 + (1 : Int32))), (0, .ref z0), (1, .int z1)]) hx hb dX1_writeOwners_70 hl (k := 2) rfl (g_inc (by decide)) (by decide) rfl (fun ls hl => ?_)
          refine lv_goto (tgt := 9) hx hb dX1_writeOwners_73 (by decide) ?_
          exact ih hr hI (lv_sub hl [1, 2, 0] rfl) (by omega)
        · replace hr := gIf_f c9 hr
          exact w_X1_writeOwners_J52 X hst ih hr hI (lv_sub hl [0, 1, 2] rfl) (by omega)
set_option maxHeartbeats 2000000 in
theorem w_X1_writeOwners {l : Launch} {x : gV} {base : Nat} (hst : l.stackTraces = false) {z0 : Nat} {h : gH} {n : Nat} {res : Int32 × gH × Nat} (hr : f_X1_writeOwners z0 h n = some res) : gM l yX1_writeOwners (ws_ yX1_writeOwners cX1_writeOwners 3 (some .int)) rm_X1_writeOwners x base [.ref z0] h n (some (.int res.1)) res.2.1 res.2.2 286 286 := by
  refine g_met (cc := cX1_writeOwners) (nL := 3) (ret := (some .int)) (by decide) (Nat.le_of_ble_eq_true rfl) (fun p e s m below meth c ls X hnm hl hI => ?_)
  have hl : lv_has ls 3 [(0, .ref z0)] := hl
  have hx := X.1
  have hb := X.2.1
  have hcc : 0 + 286 ≤ 286 ∧ 0 + 286 ≤ 286 := ⟨Nat.le_refl _, Nat.le_refl _⟩
  unfold f_X1_writeOwners at hr
  refine lv_aload_n hx hb dX1_writeOwners_0 rfl (lv_at hl 0 rfl) ?_
  refine lv_iconst (v := 0) hx hb dX1_writeOwners_1 (by decide) ?_
  refine g_put (C := RX1) (T := TX1) (N := 10) (v := .int (0 : Int32)) (ty := .int) X hI in_X1 tyX1 tyX1_ok nmX1 rfl 9 (by decide) q766 (fun _ h9 => h9) rfl (by decide +kernel) rfl rfl hr dX1_writeOwners_2 (fun h1 H locs hI hr => ?_)
  refine lv_iconst (v := 0) hx hb dX1_writeOwners_5 (by decide) ?_
  refine lv_istore_n (lv' := [(1, .int (0 : Int32)), (0, .ref z0)]) hx hb dX1_writeOwners_6 rfl hl (by decide) rfl (fun ls hl => ?_)
  refine lv_iconst (v := 1) hx hb dX1_writeOwners_7 (by decide) ?_
  refine lv_istore_n (lv' := [(2, .int (1 : Int32)), (1, .int (0 : Int32)), (0, .ref z0)]) hx hb dX1_writeOwners_8 rfl hl (by decide) rfl (fun ls hl => ?_)
  exact w_X1_writeOwners_L9 X hst 25 hr hI (lv_sub hl [2, 1, 0] rfl) (by omega)
abbrev rm_X1_appendWords : Room := { frames := 0, cells := 0, slots := 0, locals := 0 }
theorem hd_X1_appendWords : yX1_appendWords.cls = RX1 ∧ yX1_appendWords.cls ≠ "java/lang/invoke/MethodHandle" ∧ yX1_appendWords.cls ≠ "java/lang/invoke/VarHandle" ∧ (parseMethodDescriptor yX1_appendWords.desc).map (fun d => d.parameters.length) = some 1 := by decide +kernel
set_option maxHeartbeats 2000000 in
theorem w_X1_appendWords_L11 {n : Nat} {r2 : Int32 → gH → Option gH} {z0 : Nat} {z1 : Nat} {z2 : Int32} {res : gH} (X : gXX x base RX1 cX1_appendWords 4 none p l s m args meth c) (Hr2 : ∀ {z2 : Int32} {h : gH} {H : Heap} {locs : List Loc} {ls : Array Slot}, r2 z2 h = some res → gI x base s.heap h n H locs → lv_has ls 4 [(0, .ref z0), (1, .ref z1), (2, .int z2)] → W p l e rm_X1_appendWords s m args below meth c H locs 0 0 (MQ below (gQ x base none res n) args s 0 0 (fun q => base ≤ q)) (F0 m 2 ls [])) : ∀ (k : Nat) {z3 : Int32} {h : gH} {H : Heap} {locs : List Loc} {ls : Array Slot}, gL2 (f_X1_appendWords_L11 r2 z0 z1 z2) k z3 h = some res → gI x base s.heap h n H locs → lv_has ls 4 [(0, .ref z0), (1, .ref z1), (2, .int z2), (3, .int z3)] → W p l e rm_X1_appendWords s m args below meth c H locs 0 0 (MQ below (gQ x base none res n) args s 0 0 (fun q => base ≤ q)) (F0 m 11 ls []) := by
  have hx := X.1
  have hb := X.2.1
  intro k
  induction k with
  | zero =>
    intros
    rename_i hr _ _
    exact nomatch (show (none : Option _) = some _ from hr)
  | succ k ih =>
    intro z3 h H locs ls hr hI hl
    replace hr : f_X1_appendWords_L11 r2 z0 z1 z2 (gL2 (f_X1_appendWords_L11 r2 z0 z1 z2) k) z3 h = some res := hr
    unfold f_X1_appendWords_L11 at hr
    refine lv_iload_n hx hb dX1_appendWords_11 rfl (lv_at hl 3 rfl) ?_
    refine lv_if_lt (tgt := 43) hx hb dX1_appendWords_12 (by decide) (fun c9 => ?_) (fun c9 => ?_)
    · replace hr := gIf_t c9 hr
      refine lv_iinc (v := (z2 + (1 : Int32))) (lv' := [(2, .int (z2 + (1 : Int32))), (0, .ref z0), (1, .ref z1), (3, .int z3)]) hx hb dX1_appendWords_43 hl (k := 2) rfl (g_inc (by decide)) (by decide) rfl (fun ls hl => ?_)
      refine lv_goto (tgt := 2) hx hb dX1_appendWords_46 (by decide) ?_
      exact Hr2 hr hI (lv_sub hl [1, 2, 0] rfl)
    · replace hr := gIf_f c9 hr
      refine lv_aload_n hx hb dX1_appendWords_15 rfl (lv_at hl 0 rfl) ?_
      refine g_getA (C := RX1) (T := TX1) (N := 10) X hI in_X1 rfl 0 (by decide) q754 (fun _ h9 => h9) hr dX1_appendWords_16 (fun v2 hr => ?_)
      refine lv_aload_n hx hb dX1_appendWords_19 rfl (lv_at hl 0 rfl) ?_
      refine lv_dup hx hb dX1_appendWords_20 rfl ?_
      refine g_getI (C := RX1) (T := TX1) (N := 10) X hI in_X1 rfl 1 (by decide) q757 (fun _ h9 => h9) hr dX1_appendWords_21 (fun v3 hr => ?_)
      refine lv_dup_x1 hx hb dX1_appendWords_24 rfl rfl ?_
      refine lv_iconst (v := 1) hx hb dX1_appendWords_25 (by decide) ?_
      refine lv_iadd hx hb dX1_appendWords_26 ?_
      refine g_put (C := RX1) (T := TX1) (N := 10) (v := .int (v3 + (1 : Int32))) (ty := .int) X hI in_X1 tyX1 tyX1_ok nmX1 rfl 1 (by decide) q757 (fun _ h9 => h9) rfl (by decide +kernel) rfl rfl hr dX1_appendWords_27 (fun h4 H locs hI hr => ?_)
      refine lv_aload_n hx hb dX1_appendWords_30 rfl (lv_at hl 1 rfl) ?_
      refine lv_iload_n hx hb dX1_appendWords_31 rfl (lv_at hl 2 rfl) ?_
      refine g_iald X hI hr dX1_appendWords_32 (fun v5 hr => ?_)
      refine lv_iload_n hx hb dX1_appendWords_33 rfl (lv_at hl 3 rfl) ?_
      refine lv_iushr hx hb dX1_appendWords_34 rfl ?_
      refine lv_i2b hx hb dX1_appendWords_35 rfl ?_
      refine g_bast X hI hr dX1_appendWords_36 (fun h6 H locs hI hr => ?_)
      refine lv_iinc (v := (z3 + (-8 : Int32))) (lv' := [(3, .int (z3 + (-8 : Int32))), (0, .ref z0), (1, .ref z1), (2, .int z2)]) hx hb dX1_appendWords_37 hl (k := 3) rfl (g_inc (by decide)) (by decide) rfl (fun ls hl => ?_)
      refine lv_goto (tgt := 11) hx hb dX1_appendWords_40 (by decide) ?_
      exact ih hr hI (lv_sub hl [1, 2, 3, 0] rfl)
set_option maxHeartbeats 2000000 in
theorem w_X1_appendWords_L2 {n : Nat} {z0 : Nat} {z1 : Nat} {res : gH} (X : gXX x base RX1 cX1_appendWords 4 none p l s m args meth c) : ∀ (k : Nat) {z2 : Int32} {h : gH} {H : Heap} {locs : List Loc} {ls : Array Slot}, gL2 (f_X1_appendWords_L2 z0 z1) k z2 h = some res → gI x base s.heap h n H locs → lv_has ls 4 [(0, .ref z0), (1, .ref z1), (2, .int z2)] → W p l e rm_X1_appendWords s m args below meth c H locs 0 0 (MQ below (gQ x base none res n) args s 0 0 (fun q => base ≤ q)) (F0 m 2 ls []) := by
  have hx := X.1
  have hb := X.2.1
  intro k
  induction k with
  | zero =>
    intros
    rename_i hr _ _
    exact nomatch (show (none : Option _) = some _ from hr)
  | succ k ih =>
    intro z2 h H locs ls hr hI hl
    replace hr : f_X1_appendWords_L2 z0 z1 (gL2 (f_X1_appendWords_L2 z0 z1) k) z2 h = some res := hr
    unfold f_X1_appendWords_L2 at hr
    refine lv_iload_n hx hb dX1_appendWords_2 rfl (lv_at hl 2 rfl) ?_
    refine lv_aload_n hx hb dX1_appendWords_3 rfl (lv_at hl 1 rfl) ?_
    refine g_alen X hI (t := 0) rfl hr dX1_appendWords_4 (fun v1 hr => ?_)
    refine lv_icmp_ge (tgt := 49) hx hb dX1_appendWords_5 (by decide) (fun c9 => ?_) (fun c9 => ?_)
    · replace hr := gIf_t c9 hr
      have hr := gS_i hr
      subst hr
      exact g_vret X hI (Nat.le_refl _) (Nat.le_refl _) dX1_appendWords_49
    · replace hr := gIf_f c9 hr
      refine lv_bipush (v := 24) hx hb dX1_appendWords_8 (by decide) ?_
      refine lv_istore_n (lv' := [(3, .int (24 : Int32)), (0, .ref z0), (1, .ref z1), (2, .int z2)]) hx hb dX1_appendWords_10 rfl hl (by decide) rfl (fun ls hl => ?_)
      exact w_X1_appendWords_L11 X ih gN hr hI (lv_sub hl [1, 2, 3, 0] rfl)
set_option maxHeartbeats 2000000 in
theorem w_X1_appendWords {l : Launch} {x : gV} {base : Nat} {z0 : Nat} {z1 : Nat} {h : gH} {n : Nat} {res : gH} (hr : f_X1_appendWords z0 z1 h = some res) : gM l yX1_appendWords (ws_ yX1_appendWords cX1_appendWords 4 none) rm_X1_appendWords x base [.ref z0, .ref z1] h n none res n 0 0 := by
  refine g_met (cc := cX1_appendWords) (nL := 4) (ret := none) (by decide) (Nat.le_of_ble_eq_true rfl) (fun p e s m below meth c ls X hnm hl hI => ?_)
  have hl : lv_has ls 4 [(0, .ref z0), (1, .ref z1)] := hl
  have hx := X.1
  have hb := X.2.1
  unfold f_X1_appendWords at hr
  refine lv_iconst (v := 0) hx hb dX1_appendWords_0 (by decide) ?_
  refine lv_istore_n (lv' := [(2, .int (0 : Int32)), (0, .ref z0), (1, .ref z1)]) hx hb dX1_appendWords_1 rfl hl (by decide) rfl (fun ls hl => ?_)
  exact w_X1_appendWords_L2 X gN hr hI (lv_sub hl [1, 2, 0] rfl)
abbrev rm_X1_append : Room := { frames := 8, cells := 1, slots := 6, locals := 160 }
theorem hd_X1_append : yX1_append.cls = RX1 ∧ yX1_append.cls ≠ "java/lang/invoke/MethodHandle" ∧ yX1_append.cls ≠ "java/lang/invoke/VarHandle" ∧ (parseMethodDescriptor yX1_append.desc).map (fun d => d.parameters.length) = some 5 := by decide +kernel
set_option maxHeartbeats 2000000 in
theorem w_X1_append {l : Launch} {x : gV} {base : Nat} (hst : l.stackTraces = false) {z0 : Nat} {z1 : Int32} {z2 : Int32} {z3 : Int32} {z4 : Int32} {z5 : Int32} {h : gH} {n : Nat} {res : (Int32 ⊕ gX) × gH × Nat} (hr : f_X1_append z0 z1 z2 z3 z4 z5 h n = some res) : gMX l yX1_append (ws_ yX1_append cX1_append 6 (some .int)) rm_X1_append x base (fun v => some (.int v)) [.ref z0, .int z1, .int z2, .int z3, .int z4, .int z5] h n res 1 6 := by
  refine g_metX (cc := cX1_append) (nL := 6) (ret := (some .int)) (by decide) (Nat.le_of_ble_eq_true rfl) (fun p e s m below meth c ls X hnm hxt hl hI => ?_)
  have hl : lv_has ls 6 [(0, .ref z0), (1, .int z1), (2, .int z2), (3, .int z3), (4, .int z4), (5, .int z5)] := hl
  have hx := X.1
  have hb := X.2.1
  have hcc : 0 + 1 ≤ 1 ∧ 0 + 6 ≤ 6 := ⟨Nat.le_refl _, Nat.le_refl _⟩
  unfold f_X1_append at hr
  refine lv_aload_n hx hb dX1_append_0 rfl (lv_at hl 0 rfl) ?_
  refine g_getI (C := RX1) (T := TX1) (N := 10) X hI in_X1 rfl 1 (by decide) q757 (fun _ h9 => h9) hr dX1_append_1 (fun v1 hr => ?_)
  refine lv_bipush (v := 20) hx hb dX1_append_4 (by decide) ?_
  refine lv_iadd hx hb dX1_append_6 ?_
  refine lv_sipush (v := 600) hx hb dX1_append_7 (by decide) ?_
  refine lv_icmp_le (tgt := 21) hx hb dX1_append_10 (by decide) (fun c9 => ?_) (fun c9 => ?_)
  · replace hr := gIf_t c9 hr
    refine lv_aload_n hx hb dX1_append_21 rfl (lv_at hl 0 rfl) ?_
    refine lv_iconst (v := 5) hx hb dX1_append_22 (by decide) ?_
    refine g_newI (t := 0) (b := 5) (atype := .int) X hI q512 rfl rfl (by decide) (show 0 + 1 ≤ 1 from by omega) (show 0 + 5 ≤ 6 from by omega) hr dX1_append_23 (fun q2 h3 n4 H locs hI hr => ?_)
    refine lv_dup hx hb dX1_append_25 rfl ?_
    refine lv_iconst (v := 0) hx hb dX1_append_26 (by decide) ?_
    refine lv_iload_n hx hb dX1_append_27 rfl (lv_at hl 1 rfl) ?_
    refine g_iast X hI hr dX1_append_28 (fun h5 H locs hI hr => ?_)
    refine lv_dup hx hb dX1_append_29 rfl ?_
    refine lv_iconst (v := 1) hx hb dX1_append_30 (by decide) ?_
    refine lv_iload_n hx hb dX1_append_31 rfl (lv_at hl 2 rfl) ?_
    refine g_iast X hI hr dX1_append_32 (fun h6 H locs hI hr => ?_)
    refine lv_dup hx hb dX1_append_33 rfl ?_
    refine lv_iconst (v := 2) hx hb dX1_append_34 (by decide) ?_
    refine lv_iload_n hx hb dX1_append_35 rfl (lv_at hl 3 rfl) ?_
    refine g_iast X hI hr dX1_append_36 (fun h7 H locs hI hr => ?_)
    refine lv_dup hx hb dX1_append_37 rfl ?_
    refine lv_iconst (v := 3) hx hb dX1_append_38 (by decide) ?_
    refine lv_iload hx hb dX1_append_39 (lv_at hl 4 rfl) ?_
    refine g_iast X hI hr dX1_append_41 (fun h8 H locs hI hr => ?_)
    refine lv_dup hx hb dX1_append_42 rfl ?_
    refine lv_iconst (v := 4) hx hb dX1_append_43 (by decide) ?_
    refine lv_iload hx hb dX1_append_44 (lv_at hl 5 rfl) ?_
    refine g_iast X hI hr dX1_append_46 (fun h9 H locs hI hr => ?_)
    obtain ⟨_, ho10, hr⟩ := gB_i hr
    obtain ⟨h12, hc11, hr⟩ := gB_i hr
    refine gRun_v (g_runV X hI (w_X1_appendWords hc11) ho10 rfl hl (lw_V q1109 q1111 qs17 q96 q1112) rfl rfl hd_X1_appendWords ⟨Nat.le_of_ble_eq_true rfl, Nat.le_of_ble_eq_true rfl⟩ (as := [.ref q2]) (rest := []) rfl rfl (Nat.le_of_ble_eq_true rfl) ⟨(show (0 + 1) + 0 ≤ 1 from by omega), (show (0 + 5) + 0 ≤ 6 from by omega)⟩ dX1_append_47) (fun H locs hI => ?_)
    refine lv_aload_n hx hb dX1_append_50 rfl (lv_at hl 0 rfl) ?_
    refine g_getI (C := RX1) (T := TX1) (N := 10) X hI in_X1 rfl 1 (by decide) q757 (fun _ h9 => h9) hr dX1_append_51 (fun v13 hr => ?_)
    have hr := gS_i hr
    subst hr
    exact g_xiret X hI rfl (show ((0 + 1) + 0) ≤ 1 from by omega) (show ((0 + 5) + 0) ≤ 6 from by omega) dX1_append_54
  · replace hr := gIf_f c9 hr
    refine g_mk0 (cls := "java/lang/IllegalStateException") (names := ["java/lang/RuntimeException", "java/lang/Exception"]) (ik := 78) (ic := 80) (ci := 10) X hst hI hl (by decide) (by decide) q1104 q123 gxs_ISE_80 rfl dX1_append_13 dX1_append_16 dX1_append_17 (Nat.le_of_ble_eq_true rfl) (Nat.le_of_ble_eq_true rfl) (show 0 + 1 ≤ 1 from by omega) (show 0 + 6 ≤ 6 from by omega) hr (fun q17 h18 n19 H locs hI hr => ?_)
    obtain ⟨k20, hk21, hr⟩ := gB_i hr
    refine g_athrow X hI hk21 dX1_append_20 (fun hxc => ?_)
    have hr := gS_i hr
    subst hr
    exact g_xout X hI hxc hxt gPs_0 (show (0 + 1) ≤ 1 from by omega) (show (0 + 6) ≤ 6 from by omega)
abbrev rm_X1_truncate : Room := { frames := 8, cells := 1, slots := 6, locals := 160 }
theorem hd_X1_truncate : yX1_truncate.cls = RX1 ∧ yX1_truncate.cls ≠ "java/lang/invoke/MethodHandle" ∧ yX1_truncate.cls ≠ "java/lang/invoke/VarHandle" ∧ (parseMethodDescriptor yX1_truncate.desc).map (fun d => d.parameters.length) = some 1 := by decide +kernel
set_option maxHeartbeats 2000000 in
theorem w_X1_truncate {l : Launch} {x : gV} {base : Nat} (hst : l.stackTraces = false) {z0 : Nat} {z1 : Int32} {h : gH} {n : Nat} {res : (Int32 ⊕ gX) × gH × Nat} (hr : f_X1_truncate z0 z1 h n = some res) : gMX l yX1_truncate (ws_ yX1_truncate cX1_truncate 2 (some .int)) rm_X1_truncate x base (fun v => some (.int v)) [.ref z0, .int z1] h n res 1 6 := by
  refine g_metX (cc := cX1_truncate) (nL := 2) (ret := (some .int)) (by decide) (Nat.le_of_ble_eq_true rfl) (fun p e s m below meth c ls X hnm hxt hl hI => ?_)
  have hl : lv_has ls 2 [(0, .ref z0), (1, .int z1)] := hl
  have hx := X.1
  have hb := X.2.1
  have hcc : 0 + 1 ≤ 1 ∧ 0 + 6 ≤ 6 := ⟨Nat.le_refl _, Nat.le_refl _⟩
  unfold f_X1_truncate at hr
  refine lv_iload_n hx hb dX1_truncate_0 rfl (lv_at hl 1 rfl) ?_
  refine lv_if_lt (tgt := 12) hx hb dX1_truncate_1 (by decide) (fun c9 => ?_) (fun c9 => ?_)
  · replace hr := gIf_t c9 hr
    refine g_mk0 (cls := "java/lang/IllegalArgumentException") (names := ["java/lang/RuntimeException", "java/lang/Exception"]) (ik := 85) (ic := 87) (ci := 11) X hst hI hl (by decide) (by decide) q1121 q104 gxs_IAE_87 rfl dX1_truncate_12 dX1_truncate_15 dX1_truncate_16 (Nat.le_of_ble_eq_true rfl) (Nat.le_of_ble_eq_true rfl) (show 0 + 1 ≤ 1 from by omega) (show 0 + 6 ≤ 6 from by omega) hr (fun q4 h5 n6 H locs hI hr => ?_)
    obtain ⟨k7, hk8, hr⟩ := gB_i hr
    refine g_athrow X hI hk8 dX1_truncate_19 (fun hxc => ?_)
    have hr := gS_i hr
    subst hr
    exact g_xout X hI hxc hxt gPs_0 (show (0 + 1) ≤ 1 from by omega) (show (0 + 6) ≤ 6 from by omega)
  · replace hr := gIf_f c9 hr
    refine lv_iload_n hx hb dX1_truncate_4 rfl (lv_at hl 1 rfl) ?_
    refine lv_aload_n hx hb dX1_truncate_5 rfl (lv_at hl 0 rfl) ?_
    refine g_getI (C := RX1) (T := TX1) (N := 10) X hI in_X1 rfl 1 (by decide) q757 (fun _ h9 => h9) hr dX1_truncate_6 (fun v9 hr => ?_)
    refine lv_icmp_le (tgt := 20) hx hb dX1_truncate_9 (by decide) (fun c9 => ?_) (fun c9 => ?_)
    · replace hr := gIf_t c9 hr
      refine lv_aload_n hx hb dX1_truncate_20 rfl (lv_at hl 0 rfl) ?_
      refine lv_iload_n hx hb dX1_truncate_21 rfl (lv_at hl 1 rfl) ?_
      refine g_put (C := RX1) (T := TX1) (N := 10) (v := .int z1) (ty := .int) X hI in_X1 tyX1 tyX1_ok nmX1 rfl 1 (by decide) q757 (fun _ h9 => h9) rfl (by decide +kernel) rfl rfl hr dX1_truncate_22 (fun h10 H locs hI hr => ?_)
      refine lv_iload_n hx hb dX1_truncate_25 rfl (lv_at hl 1 rfl) ?_
      have hr := gS_i hr
      subst hr
      exact g_xiret X hI rfl (show 0 ≤ 1 from by omega) (show 0 ≤ 6 from by omega) dX1_truncate_26
    · replace hr := gIf_f c9 hr
      refine g_mk0 (cls := "java/lang/IllegalArgumentException") (names := ["java/lang/RuntimeException", "java/lang/Exception"]) (ik := 85) (ic := 87) (ci := 11) X hst hI hl (by decide) (by decide) q1121 q104 gxs_IAE_87 rfl dX1_truncate_12 dX1_truncate_15 dX1_truncate_16 (Nat.le_of_ble_eq_true rfl) (Nat.le_of_ble_eq_true rfl) (show 0 + 1 ≤ 1 from by omega) (show 0 + 6 ≤ 6 from by omega) hr (fun q14 h15 n16 H locs hI hr => ?_)
      obtain ⟨k17, hk18, hr⟩ := gB_i hr
      refine g_athrow X hI hk18 dX1_truncate_19 (fun hxc => ?_)
      have hr := gS_i hr
      subst hr
      exact g_xout X hI hxc hxt gPs_0 (show (0 + 1) ≤ 1 from by omega) (show (0 + 6) ≤ 6 from by omega)
abbrev rm_X1_rejected : Room := { frames := 8, cells := 1, slots := 6, locals := 160 }
theorem hd_X1_rejected : yX1_rejected.cls = RX1 ∧ yX1_rejected.cls ≠ "java/lang/invoke/MethodHandle" ∧ yX1_rejected.cls ≠ "java/lang/invoke/VarHandle" ∧ (parseMethodDescriptor yX1_rejected.desc).map (fun d => d.parameters.length) = some 1 := by decide +kernel
set_option maxHeartbeats 2000000 in
theorem w_X1_rejected {l : Launch} {x : gV} {base : Nat} (hst : l.stackTraces = false) {z0 : Nat} {z1 : Nat} {h : gH} {n : Nat} {res : Nat × gH × Nat} (hr : f_X1_rejected z0 z1 h n = some res) : gM l yX1_rejected (ws_ yX1_rejected cX1_rejected 2 (some (.object "java/lang/IllegalArgumentException"))) rm_X1_rejected x base [.ref z0, .ref z1] h n (some (.ref res.1)) res.2.1 res.2.2 1 6 := by
  refine g_met (cc := cX1_rejected) (nL := 2) (ret := (some (.object "java/lang/IllegalArgumentException"))) (by decide) (Nat.le_of_ble_eq_true rfl) (fun p e s m below meth c ls X hnm hl hI => ?_)
  have hl : lv_has ls 2 [(0, .ref z0), (1, .ref z1)] := hl
  have hx := X.1
  have hb := X.2.1
  have hcc : 0 + 1 ≤ 1 ∧ 0 + 6 ≤ 6 := ⟨Nat.le_refl _, Nat.le_refl _⟩
  unfold f_X1_rejected at hr
  refine lv_aload_n hx hb dX1_rejected_0 rfl (lv_at hl 0 rfl) ?_
  refine lv_aload_n hx hb dX1_rejected_1 rfl (lv_at hl 1 rfl) ?_
  refine g_getI (C := RX9) (T := TX9) (N := 2) X hI in_X9 rfl 0 (by decide) q619 (fun _ h9 => h9) hr dX1_rejected_2 (fun v1 hr => ?_)
  refine g_put (C := RX1) (T := TX1) (N := 10) (v := .int v1) (ty := .int) X hI in_X1 tyX1 tyX1_ok nmX1 rfl 2 (by decide) q758 (fun _ h9 => h9) rfl (by decide +kernel) rfl rfl hr dX1_rejected_5 (fun h2 H locs hI hr => ?_)
  refine lv_aload_n hx hb dX1_rejected_8 rfl (lv_at hl 0 rfl) ?_
  refine lv_aload_n hx hb dX1_rejected_9 rfl (lv_at hl 1 rfl) ?_
  refine g_getI (C := RX9) (T := TX9) (N := 2) X hI in_X9 rfl 1 (by decide) q621 (fun _ h9 => h9) hr dX1_rejected_10 (fun v3 hr => ?_)
  refine g_put (C := RX1) (T := TX1) (N := 10) (v := .int v3) (ty := .int) X hI in_X1 tyX1 tyX1_ok nmX1 rfl 3 (by decide) q759 (fun _ h9 => h9) rfl (by decide +kernel) rfl rfl hr dX1_rejected_13 (fun h4 H locs hI hr => ?_)
  refine g_mk0 (cls := "java/lang/IllegalArgumentException") (names := ["java/lang/RuntimeException", "java/lang/Exception"]) (ik := 85) (ic := 87) (ci := 11) X hst hI hl (by decide) (by decide) q1121 q104 gxs_IAE_87 rfl dX1_rejected_16 dX1_rejected_19 dX1_rejected_20 (Nat.le_of_ble_eq_true rfl) (Nat.le_of_ble_eq_true rfl) (show 0 + 1 ≤ 1 from by omega) (show 0 + 6 ≤ 6 from by omega) hr (fun q8 h9 n10 H locs hI hr => ?_)
  have hr := gS_i hr
  subst hr
  exact g_aret X hI (Or.inl ⟨_, rfl⟩) (show (0 + 1) ≤ 1 from by omega) (show (0 + 6) ≤ 6 from by omega) dX1_rejected_23
abbrev rm_X1_load : Room := { frames := 16, cells := 298, slots := 2615, locals := 491 }
theorem hd_X1_load : yX1_load.cls = RX1 ∧ yX1_load.cls ≠ "java/lang/invoke/MethodHandle" ∧ yX1_load.cls ≠ "java/lang/invoke/VarHandle" ∧ (parseMethodDescriptor yX1_load.desc).map (fun d => d.parameters.length) = some 0 := by decide +kernel
set_option maxHeartbeats 2000000 in
theorem w_X1_load {l : Launch} {x : gV} {base : Nat} (hst : l.stackTraces = false) {z0 : Nat} {h : gH} {n : Nat} {res : (Int32 ⊕ gX) × gH × Nat} (hr : f_X1_load x z0 h n = some res) : gMX l yX1_load (wsW_ yX1_load cX1_load 3 (some .int) [(0, 16, 24, 70), (0, 16, 31, 0), (24, 32, 31, 0)]) rm_X1_load x base (fun v => some (.int v)) [.ref z0] h n res 298 2615 := by
  refine g_metW (cc := cX1_load) (nL := 3) (ret := (some .int)) (by decide) (Nat.le_of_ble_eq_true rfl) (fun p e s m below meth c ls X hnm hxt hl hI => ?_)
  have hl : lv_has ls 3 [(0, .ref z0)] := hl
  have hx := X.1
  have hb := X.2.1
  have hcc : 0 + 298 ≤ 298 ∧ 0 + 2615 ≤ 2615 := ⟨Nat.le_refl _, Nat.le_refl _⟩
  unfold f_X1_load at hr
  refine lv_aload_n hx hb dX1_load_0 rfl (lv_at hl 0 rfl) ?_
  refine lv_aload_n hx hb dX1_load_1 rfl (lv_at hl 0 rfl) ?_
  refine g_newO (C := RX3) (T := TX3) (N := 5) (ci := 2) (fs := [.int 0, .int 0, .int 0, .int 0, .null]) X hI in_X3 tyX3 tyX3_ok q556 q557 q118 rfl (g_dflt5 rfl rfl rfl rfl rfl) (show 0 + 1 ≤ 298 from by omega) (show 0 + 5 ≤ 2615 from by omega) hr dX1_load_2 (fun q1 h2 n3 H locs hI hr => ?_)
  refine lv_dup hx hb dX1_load_5 rfl ?_
  refine lv_aload_n hx hb dX1_load_6 rfl (lv_at hl 0 rfl) ?_
  obtain ⟨h5, hc4, hr⟩ := gB_i hr
  refine gRun_v (g_runIN (host := "CakeDivision") X hI (w_X3_init hc4) hl q560 (by decide +kernel) q559 q118 rfl rfl rfl hd_X3_init ⟨Nat.le_of_ble_eq_true rfl, Nat.le_of_ble_eq_true rfl⟩ (as := [.ref z0]) (rest := [.ref q1, .ref z0, .ref z0]) rfl rfl (Nat.le_of_ble_eq_true rfl) ⟨(show (0 + 1) + 0 ≤ 298 from by omega), (show (0 + 5) + 0 ≤ 2615 from by omega)⟩ dX1_load_7) (fun H locs hI => ?_)
  obtain ⟨_, ho6, hr⟩ := gB_i hr
  rcases gTX_i hr with ⟨v8, h10, n11, hc7, hr⟩ | ⟨q9, h12, n13, hc7, hr⟩
  · refine gXRet_a (g_xrunV X hI (w_X1_parseSetup hst hc7) ho6 rfl hl (lw_V q583 q585 qs1 q96 q586) rfl rfl hd_X1_parseSetup ⟨Nat.le_of_ble_eq_true rfl, Nat.le_of_ble_eq_true rfl⟩ (as := [.ref q1]) (rest := [.ref z0]) rfl rfl (Nat.le_of_ble_eq_true rfl) ⟨(show ((0 + 1) + 0) + 296 ≤ 298 from by omega), (show ((0 + 5) + 0) + 2604 ≤ 2615 from by omega)⟩ dX1_load_10) (fun H locs hI => ?_)
    refine g_put (C := RX1) (T := TX1) (N := 10) (v := .ref v8) (ty := (.object "CakeDivision$State")) X hI in_X1 tyX1 tyX1_ok nmX1 rfl 4 (by decide) q760 (fun _ h9 => h9) rfl (by decide +kernel) rfl rfl hr dX1_load_13 (fun h14 H locs hI hr => ?_)
    refine lv_aload_n hx hb dX1_load_16 rfl (lv_at hl 0 rfl) ?_
    refine lv_iconst (v := 0) hx hb dX1_load_17 (by decide) ?_
    refine g_put (C := RX1) (T := TX1) (N := 10) (v := .int (0 : Int32)) (ty := .int) X hI in_X1 tyX1 tyX1_ok nmX1 rfl 1 (by decide) q757 (fun _ h9 => h9) rfl (by decide +kernel) rfl rfl hr dX1_load_18 (fun h15 H locs hI hr => ?_)
    refine lv_goto (tgt := 39) hx hb dX1_load_21 (by decide) ?_
    refine lv_aload_n hx hb dX1_load_39 rfl (lv_at hl 0 rfl) ?_
    refine lv_iconst (v := 0) hx hb dX1_load_40 (by decide) ?_
    refine g_put (C := RX1) (T := TX1) (N := 10) (v := .int (0 : Int32)) (ty := .int) X hI in_X1 tyX1 tyX1_ok nmX1 rfl 2 (by decide) q758 (fun _ h9 => h9) rfl (by decide +kernel) rfl rfl hr dX1_load_41 (fun h16 H locs hI hr => ?_)
    refine lv_aload_n hx hb dX1_load_44 rfl (lv_at hl 0 rfl) ?_
    refine lv_iconst (v := (-1)) hx hb dX1_load_45 (by decide) ?_
    refine g_put (C := RX1) (T := TX1) (N := 10) (v := .int (-1 : Int32)) (ty := .int) X hI in_X1 tyX1 tyX1_ok nmX1 rfl 3 (by decide) q759 (fun _ h9 => h9) rfl (by decide +kernel) rfl rfl hr dX1_load_46 (fun h17 H locs hI hr => ?_)
    refine lv_aload_n hx hb dX1_load_49 rfl (lv_at hl 0 rfl) ?_
    refine g_getA (C := RX1) (T := TX1) (N := 10) X hI in_X1 rfl 5 (by decide) q762 (fun _ h9 => h9) hr dX1_load_50 (fun v18 hr => ?_)
    obtain ⟨_, ho19, hr⟩ := gB_i hr
    obtain ⟨h21, hc20, hr⟩ := gB_i hr
    refine gRun_v (g_runV X hI (w_J17_clear hc20) ho19 rfl hl (lw_V q1137 q1138 q1139 q117 q1140) rfl rfl hd_J17_clear ⟨Nat.le_of_ble_eq_true rfl, Nat.le_of_ble_eq_true rfl⟩ (as := []) (rest := []) rfl rfl (Nat.le_of_ble_eq_true rfl) ⟨(show (((0 + 1) + 0) + 296) + 0 ≤ 298 from by omega), (show (((0 + 5) + 0) + 2604) + 0 ≤ 2615 from by omega)⟩ dX1_load_53) (fun H locs hI => ?_)
    refine lv_aload_n hx hb dX1_load_56 rfl (lv_at hl 0 rfl) ?_
    refine g_getA (C := RX1) (T := TX1) (N := 10) X hI in_X1 rfl 6 (by decide) q763 (fun _ h9 => h9) hr dX1_load_57 (fun v22 hr => ?_)
    refine lv_iconst (v := 0) hx hb dX1_load_60 (by decide) ?_
    refine lv_null hx hb dX1_load_61 ?_
    refine g_aastN X hI (t := 4) rfl hr dX1_load_62 (fun h23 H locs hI hr => ?_)
    refine lv_aload_n hx hb dX1_load_63 rfl (lv_at hl 0 rfl) ?_
    refine g_getA (C := RX1) (T := TX1) (N := 10) X hI in_X1 rfl 6 (by decide) q763 (fun _ h9 => h9) hr dX1_load_64 (fun v24 hr => ?_)
    refine lv_iconst (v := 1) hx hb dX1_load_67 (by decide) ?_
    refine lv_null hx hb dX1_load_68 ?_
    refine g_aastN X hI (t := 4) rfl hr dX1_load_69 (fun h25 H locs hI hr => ?_)
    refine lv_aload_n hx hb dX1_load_70 rfl (lv_at hl 0 rfl) ?_
    refine g_getA (C := RX1) (T := TX1) (N := 10) X hI in_X1 rfl 4 (by decide) q760 (fun _ h9 => h9) hr dX1_load_71 (fun v26 hr => ?_)
    obtain ⟨_, ho27, hr⟩ := gB_i hr
    obtain ⟨v29, hc28, hr⟩ := gB_i hr
    refine gRun_i (g_runV X hI (w_X2_size hc28) ho27 rfl hl (lw_V q642 q643 q644 q97 q645) rfl rfl hd_X2_size ⟨Nat.le_of_ble_eq_true rfl, Nat.le_of_ble_eq_true rfl⟩ (as := []) (rest := []) rfl rfl (Nat.le_of_ble_eq_true rfl) ⟨(show ((((0 + 1) + 0) + 296) + 0) + 0 ≤ 298 from by omega), (show ((((0 + 5) + 0) + 2604) + 0) + 0 ≤ 2615 from by omega)⟩ dX1_load_74) (fun H locs hI => ?_)
    have hr := gS_i hr
    subst hr
    exact g_xiret X hI rfl (show (((((0 + 1) + 0) + 296) + 0) + 0) ≤ 298 from by omega) (show (((((0 + 5) + 0) + 2604) + 0) + 0) ≤ 2615 from by omega) dX1_load_77
  · refine gXThr (k := q9.1) (q := q9.2) (g_xrunV X hI (w_X1_parseSetup hst hc7) ho6 rfl hl (lw_V q583 q585 qs1 q96 q586) rfl rfl hd_X1_parseSetup ⟨Nat.le_of_ble_eq_true rfl, Nat.le_of_ble_eq_true rfl⟩ (as := [.ref q1]) (rest := [.ref z0]) rfl rfl (Nat.le_of_ble_eq_true rfl) ⟨(show ((0 + 1) + 0) + 296 ≤ 298 from by omega), (show ((0 + 5) + 0) + 2604 ≤ 2615 from by omega)⟩ dX1_load_10) (fun H locs hI hxc => ?_)
    by_cases c30 : q9.1 = 9
    · replace hr := gIf_t c30 hr
      refine g_catch (a := 0) (b := 16) (hp := 24) (ct := 70) X hxc hxt (pre := []) (suf := [(0, 16, 31, 0), (24, 32, 31, 0)]) rfl gPs_0 (by decide) (by decide) (j := 9) c30 q138 ?_
      refine lv_astore_n (lv' := [(1, .ref q9.2), (0, .ref z0)]) hx hb dX1_load_24 rfl hl (by decide) rfl (fun ls hl => ?_)
      refine lv_aload_n hx hb dX1_load_25 rfl (lv_at hl 1 rfl) ?_
      refine lv_aload_n hx hb dX1_load_26 rfl (lv_at hl 0 rfl) ?_
      obtain ⟨_, ho31, hr⟩ := gB_i hr
      obtain ⟨v33, h34, n35, hc32, hr⟩ := gT3_i hr
      refine gRun_a (g_runV X hI (w_X1_rejected hst hc32) ho31 rfl hl (lw_V q1133 q1135 qs18 q96 q1136) rfl rfl hd_X1_rejected ⟨Nat.le_of_ble_eq_true rfl, Nat.le_of_ble_eq_true rfl⟩ (as := [.ref q9.2]) (rest := []) rfl rfl (Nat.le_of_ble_eq_true rfl) ⟨(show (((0 + 1) + 0) + 296) + 1 ≤ 298 from by omega), (show (((0 + 5) + 0) + 2604) + 6 ≤ 2615 from by omega)⟩ dX1_load_27) (fun H locs hI => ?_)
      obtain ⟨k36, hk37, hr⟩ := gB_i hr
      refine g_athrow X hI hk37 dX1_load_30 (fun hxc => ?_)
      refine g_catchAll (a := 24) (b := 32) (hp := 31) X hxc hxt (pre := [(0, 16, 24, 70), (0, 16, 31, 0)]) (suf := []) rfl (gPs_c (Or.inl (by decide)) (gPs_c (Or.inl (by decide)) gPs_0)) (by decide) ?_
      refine lv_astore_n (lv' := [(2, .ref v33), (1, .ref q9.2), (0, .ref z0)]) hx hb dX1_load_31 rfl hl (by decide) rfl (fun ls hl => ?_)
      refine lv_aload_n hx hb dX1_load_32 rfl (lv_at hl 2 rfl) ?_
      refine lv_iconst (v := 0) hx hb dX1_load_33 (by decide) ?_
      refine g_put (C := RX1) (T := TX1) (N := 10) (v := .int (0 : Int32)) (ty := .int) X hI in_X1 tyX1 tyX1_ok nmX1 rfl 1 (by decide) q757 (fun _ h9 => h9) rfl (by decide +kernel) rfl rfl hr dX1_load_34 (fun h38 H locs hI hr => ?_)
      refine lv_aload_n hx hb dX1_load_37 rfl (lv_at hl 0 rfl) ?_
      obtain ⟨k39, hk40, hr⟩ := gB_i hr
      refine g_athrow X hI hk40 dX1_load_38 (fun hxc => ?_)
      have hr := gS_i hr
      subst hr
      exact g_xout X hI hxc hxt (gPs_c (Or.inl (by decide)) (gPs_c (Or.inl (by decide)) (gPs_c (Or.inl (by decide)) gPs_0))) (show ((((0 + 1) + 0) + 296) + 1) ≤ 298 from by omega) (show ((((0 + 5) + 0) + 2604) + 6) ≤ 2615 from by omega)
    replace hr := gIf_f c30 hr
    refine g_catchAll (a := 0) (b := 16) (hp := 31) X hxc hxt (pre := [(0, 16, 24, 70)]) (suf := [(24, 32, 31, 0)]) rfl (gPs_c (Or.inr ⟨by decide, 9, by decide, c30, q138⟩) gPs_0) (by decide) ?_
    refine lv_astore_n (lv' := [(2, .ref q9.2), (0, .ref z0)]) hx hb dX1_load_31 rfl hl (by decide) rfl (fun ls hl => ?_)
    refine lv_aload_n hx hb dX1_load_32 rfl (lv_at hl 1 rfl) ?_
    refine lv_iconst (v := 0) hx hb dX1_load_33 (by decide) ?_
    refine g_put (C := RX1) (T := TX1) (N := 10) (v := .int (0 : Int32)) (ty := .int) X hI in_X1 tyX1 tyX1_ok nmX1 rfl 1 (by decide) q757 (fun _ h9 => h9) rfl (by decide +kernel) rfl rfl hr dX1_load_34 (fun h41 H locs hI hr => ?_)
    refine lv_aload_n hx hb dX1_load_37 rfl (lv_at hl 0 rfl) ?_
    obtain ⟨k42, hk43, hr⟩ := gB_i hr
    refine g_athrow X hI hk43 dX1_load_38 (fun hxc => ?_)
    have hr := gS_i hr
    subst hr
    exact g_xout X hI hxc hxt (gPs_c (Or.inl (by decide)) (gPs_c (Or.inl (by decide)) (gPs_c (Or.inl (by decide)) gPs_0))) (show (((0 + 1) + 0) + 296) ≤ 298 from by omega) (show (((0 + 5) + 0) + 2604) ≤ 2615 from by omega)
end GENW
