/-! printed: the walk of the reference's constructor -/
set_option maxRecDepth 100000
section GENI
variable {p : Program} {l : Launch} {e : Env} {s : State} {m : MethodId} {args : Array Value} {below : List Frame} {meth : Method} {c : Code} {x : gV} {base : Nat}
abbrev rm_X6_init : Room := { frames := 9, cells := 10, slots := 4706, locals := 466 }
theorem hd_X6_init : yX6_init.cls ≠ "java/lang/invoke/MethodHandle" ∧ yX6_init.cls ≠ "java/lang/invoke/VarHandle" ∧ (parseMethodDescriptor yX6_init.desc).map (fun d => d.parameters.length) = some 0 := by decide +kernel
set_option maxHeartbeats 2000000 in
theorem w_X6_init_J167 {h : gH} {n : Nat} {z0 : Nat} {z1 : Nat} {res : gH × Nat} (X : gXX x base RX6 cX6_init 3 none p l s m args meth c) (hst : l.stackTraces = false) (hnm : meth.name = "<init>") {H : Heap} {locs : List Loc} {ls : Array Slot} {cells slots : Nat} (hr : f_X6_init_J167 x z0 z1 h n = some res) (hI : gI x base s.heap h n H locs) (hl : lv_has ls 3 [(0, .ref z0), (1, .ref z1)]) (hcc : cells + (0) ≤ 10 ∧ slots + (0) ≤ 4706) : W p l e rm_X6_init s m args below meth c H locs cells slots (MQ below (gQ x base none res.1 res.2) args s 10 4706 (fun q => base ≤ q)) (F0 m 167 ls []) := by
  have hx := X.1
  have hb := X.2.1
  unfold f_X6_init_J167 at hr
  refine lv_aload_n hx hb dX6_init_167 rfl (lv_at hl 0 rfl) ?_
  refine lv_aload_n hx hb dX6_init_168 rfl (lv_at hl 1 rfl) ?_
  obtain ⟨v54, hc53, hr⟩ := gB_i hr
  refine gRun_i (g_runLen X hI hl hc53 q1595 (rest := [.ref z0]) rfl (Nat.le_of_ble_eq_true rfl) ⟨Nat.le_of_ble_eq_true rfl, Nat.le_of_ble_eq_true rfl⟩ ⟨(show cells + 0 ≤ 10 from by omega), (show slots + 0 ≤ 4706 from by omega)⟩ dX6_init_169) (fun H locs hI => ?_)
  refine g_put (C := RX6) (T := TX6) (N := 20) (v := .int v54) (ty := .int) X hI in_X6 tyX6 tyX6_ok nmX6 rfl 4 (by decide) q1656 (fun _ h9 => h9) rfl (by decide +kernel) rfl rfl hr dX6_init_172 (fun h55 H locs hI hr => ?_)
  refine lv_aload_n hx hb dX6_init_175 rfl (lv_at hl 0 rfl) ?_
  obtain ⟨M56, hM57, hr⟩ := gB_i hr
  replace hI := hI.toM hM57
  obtain ⟨iE_59, iP_60, iA_61, iY_62, iF_63, iV_64, hc58, hr⟩ := gT6_i hr
  refine gRun_v (g_runV X hI (w_X6_begin hc58) (g_obj_s mH_0) rfl hl (lw_V q1597 q1599 qs34 q122 q1600) rfl rfl hd_X6_begin ⟨Nat.le_of_ble_eq_true rfl, Nat.le_of_ble_eq_true rfl⟩ (as := []) (rest := []) rfl rfl (Nat.le_of_ble_eq_true rfl) ⟨(show (cells + 0) + 0 ≤ 10 from by omega), (show (slots + 0) + 0 ≤ 4706 from by omega)⟩ dX6_init_176) (fun H locs hI => ?_)
  refine lv_aload_n hx hb dX6_init_179 rfl (lv_at hl 0 rfl) ?_
  obtain ⟨v66, aM_67, iE_68, iP_69, iA_70, iY_71, iF_72, iV_73, hc65, hr⟩ := gT8_i hr
  refine gRun_i (g_runV X hI (w_X6_parseSetup hc65) (g_obj_s mH_0) rfl hl (lw_V q1611 q1613 qs36 q122 q1614) rfl rfl hd_X6_parseSetup ⟨Nat.le_of_ble_eq_true rfl, Nat.le_of_ble_eq_true rfl⟩ (as := []) (rest := []) rfl rfl (Nat.le_of_ble_eq_true rfl) ⟨(show ((cells + 0) + 0) + 0 ≤ 10 from by omega), (show ((slots + 0) + 0) + 0 ≤ 4706 from by omega)⟩ dX6_init_180) (fun H locs hI => ?_)
  refine lv_pop hx hb dX6_init_183 rfl ?_
  refine lv_aload_n hx hb dX6_init_184 rfl (lv_at hl 0 rfl) ?_
  refine lv_iconst (v := 0) hx hb dX6_init_185 (by decide) ?_
  refine g_put (C := RX6) (T := TX6) (N := 20) (v := .int (0 : Int32)) (ty := .int) X hI in_X6 tyX6 tyX6_ok nmX6 rfl 4 (by decide) q1656 (fun _ h9 => h9) rfl (by decide +kernel) rfl rfl hr dX6_init_186 (fun h74 H locs hI hr => ?_)
  have hr := gS_i hr
  subst hr
  exact g_vret X hI (show (((cells + 0) + 0) + 0) ≤ 10 from by omega) (show (((slots + 0) + 0) + 0) ≤ 4706 from by omega) dX6_init_189
set_option maxHeartbeats 2000000 in
theorem w_X6_init_L142 {n : Nat} {z0 : Nat} {z1 : Nat} {res : gH × Nat} (X : gXX x base RX6 cX6_init 3 none p l s m args meth c) (hst : l.stackTraces = false) (hnm : meth.name = "<init>") : ∀ (k : Nat) {z2 : Int32} {h : gH} {H : Heap} {locs : List Loc} {ls : Array Slot} {cells slots : Nat}, gL2 (f_X6_init_L142 x z0 z1 n) k z2 h = some res → gI x base s.heap h n H locs → lv_has ls 3 [(0, .ref z0), (1, .ref z1), (2, .int z2)] → (cells + (k * 0 + (0)) ≤ 10 ∧ slots + (k * 0 + (0)) ≤ 4706) → W p l e rm_X6_init s m args below meth c H locs cells slots (MQ below (gQ x base none res.1 res.2) args s 10 4706 (fun q => base ≤ q)) (F0 m 142 ls []) := by
  have hx := X.1
  have hb := X.2.1
  intro k
  induction k with
  | zero =>
    intros
    rename_i hr _ _ _
    exact nomatch (show (none : Option _) = some _ from hr)
  | succ k ih =>
    intro z2 h H locs ls cells slots hr hI hl hcc
    replace hr : f_X6_init_L142 x z0 z1 n (gL2 (f_X6_init_L142 x z0 z1 n) k) z2 h = some res := hr
    unfold f_X6_init_L142 at hr
    refine lv_iload_n hx hb dX6_init_142 rfl (lv_at hl 2 rfl) ?_
    refine lv_aload_n hx hb dX6_init_143 rfl (lv_at hl 1 rfl) ?_
    obtain ⟨v52, hc51, hr⟩ := gB_i hr
    refine gRun_i (g_runLen X hI hl hc51 q1595 (rest := [.int z2]) rfl (Nat.le_of_ble_eq_true rfl) ⟨Nat.le_of_ble_eq_true rfl, Nat.le_of_ble_eq_true rfl⟩ ⟨(show cells + 0 ≤ 10 from by omega), (show slots + 0 ≤ 4706 from by omega)⟩ dX6_init_144) (fun H locs hI => ?_)
    refine lv_icmp_ge (tgt := 167) hx hb dX6_init_147 (by decide) (fun c9 => ?_) (fun c9 => ?_)
    · replace hr := gIf_t c9 hr
      exact w_X6_init_J167 X hst hnm hr hI (lv_sub hl [0, 1] rfl) (by omega)
    · replace hr := gIf_f c9 hr
      refine lv_aload_n hx hb dX6_init_150 rfl (lv_at hl 0 rfl) ?_
      refine g_getA (C := RX6) (T := TX6) (N := 20) X hI in_X6 rfl 3 (by decide) q1655 (fun _ h9 => h9) hr dX6_init_151 (fun v75 hr => ?_)
      refine lv_iload_n hx hb dX6_init_154 rfl (lv_at hl 2 rfl) ?_
      refine lv_aload_n hx hb dX6_init_155 rfl (lv_at hl 1 rfl) ?_
      refine lv_iload_n hx hb dX6_init_156 rfl (lv_at hl 2 rfl) ?_
      obtain ⟨v77, hc76, hr⟩ := gB_i hr
      refine gRun_i (g_runAt X hI hl hc76 q1596 (rest := [.int z2, .ref v75]) rfl (Nat.le_of_ble_eq_true rfl) ⟨Nat.le_of_ble_eq_true rfl, Nat.le_of_ble_eq_true rfl⟩ ⟨(show (cells + 0) + 0 ≤ 10 from by omega), (show (slots + 0) + 0 ≤ 4706 from by omega)⟩ dX6_init_157) (fun H locs hI => ?_)
      refine g_iast X hI hr dX6_init_160 (fun h78 H locs hI hr => ?_)
      refine lv_iinc (v := (z2 + (1 : Int32))) (lv' := [(2, .int (z2 + (1 : Int32))), (0, .ref z0), (1, .ref z1)]) hx hb dX6_init_161 hl (k := 2) rfl (g_inc (by decide)) (by decide) rfl (fun ls hl => ?_)
      refine lv_goto (tgt := 142) hx hb dX6_init_164 (by decide) ?_
      exact ih hr hI (lv_sub hl [1, 2, 0] rfl) (by omega)
set_option maxHeartbeats 2000000 in
theorem w_X6_init {l : Launch} {x : gV} {base : Nat} (hst : l.stackTraces = false) {z0 : Nat} {h : gH} {n : Nat} {res : gH × Nat} (hr : f_X6_init x z0 h n = some res) : gM l yX6_init (ws_ yX6_init cX6_init 3 none) rm_X6_init x base [.ref z0] h n none res.1 res.2 10 4706 := by
  refine g_met (cc := cX6_init) (nL := 3) (ret := none) (by decide) (Nat.le_of_ble_eq_true rfl) (fun p e s m below meth c ls X hnm hl hI => ?_)
  have hl : lv_has ls 3 [(0, .ref z0)] := hl
  have hx := X.1
  have hb := X.2.1
  have hcc : 0 + 10 ≤ 10 ∧ 0 + 4706 ≤ 4706 := ⟨Nat.le_refl _, Nat.le_refl _⟩
  unfold f_X6_init at hr
  refine lv_aload_n hx hb dX6_init_0 rfl (lv_at hl 0 rfl) ?_
  refine W.objInit hx hb X.2.2.2.2.1 (X.w q1593) (X.w q140) (X.w q141) rfl (by rw [X.2.2.1]; exact hl.1) rfl dX6_init_1 (Nat.le_of_ble_eq_true rfl) (Nat.le_of_ble_eq_true rfl) ?_
  refine W.eq (g2 := F0 m 4 ls []) rfl ?_
  refine lv_aload_n hx hb dX6_init_4 rfl (lv_at hl 0 rfl) ?_
  refine lv_sipush (v := 2120) hx hb dX6_init_5 (by decide) ?_
  refine g_newI (t := 0) (b := 2120) (atype := .int) X hI q512 rfl rfl (by decide) (show 0 + 1 ≤ 10 from by omega) (show 0 + 2120 ≤ 4706 from by omega) hr dX6_init_8 (fun q1 h2 n3 H locs hI hr => ?_)
  refine g_putF (C := RX6) (T := TX6) (N := 20) (v := .ref q1) (ty := (.array .int)) X hI in_X6 tyX6 tyX6_ok nmX6 rfl 0 (by decide) q1652 (fun _ h9 => h9) rfl hnm rfl (by decide +kernel) rfl rfl hr dX6_init_10 (fun h4 H locs hI hr => ?_)
  refine lv_aload_n hx hb dX6_init_13 rfl (lv_at hl 0 rfl) ?_
  refine lv_iconst (v := 2) hx hb dX6_init_14 (by decide) ?_
  refine g_newI (t := 2) (b := 2) (atype := .boolean) X hI q511 rfl rfl (by decide) (show (0 + 1) + 1 ≤ 10 from by omega) (show (0 + 2120) + 2 ≤ 4706 from by omega) hr dX6_init_15 (fun q5 h6 n7 H locs hI hr => ?_)
  refine g_putF (C := RX6) (T := TX6) (N := 20) (v := .ref q5) (ty := (.array .boolean)) X hI in_X6 tyX6 tyX6_ok nmX6 rfl 1 (by decide) q1653 (fun _ h9 => h9) rfl hnm rfl (by decide +kernel) rfl rfl hr dX6_init_17 (fun h8 H locs hI hr => ?_)
  refine lv_aload_n hx hb dX6_init_20 rfl (lv_at hl 0 rfl) ?_
  refine lv_iconst (v := 0) hx hb dX6_init_21 (by decide) ?_
  refine g_put (C := RX6) (T := TX6) (N := 20) (v := .int (0 : Int32)) (ty := .int) X hI in_X6 tyX6 tyX6_ok nmX6 rfl 2 (by decide) q1654 (fun _ h9 => h9) rfl (by decide +kernel) rfl rfl hr dX6_init_22 (fun h9 H locs hI hr => ?_)
  refine lv_aload_n hx hb dX6_init_25 rfl (lv_at hl 0 rfl) ?_
  refine lv_sipush (v := 600) hx hb dX6_init_26 (by decide) ?_
  refine g_newI (t := 0) (b := 600) (atype := .int) X hI q512 rfl rfl (by decide) (show ((0 + 1) + 1) + 1 ≤ 10 from by omega) (show ((0 + 2120) + 2) + 600 ≤ 4706 from by omega) hr dX6_init_29 (fun q10 h11 n12 H locs hI hr => ?_)
  refine g_putF (C := RX6) (T := TX6) (N := 20) (v := .ref q10) (ty := (.array .int)) X hI in_X6 tyX6 tyX6_ok nmX6 rfl 3 (by decide) q1655 (fun _ h9 => h9) rfl hnm rfl (by decide +kernel) rfl rfl hr dX6_init_31 (fun h13 H locs hI hr => ?_)
  refine lv_aload_n hx hb dX6_init_34 rfl (lv_at hl 0 rfl) ?_
  refine lv_iconst (v := 0) hx hb dX6_init_35 (by decide) ?_
  refine g_put (C := RX6) (T := TX6) (N := 20) (v := .int (0 : Int32)) (ty := .int) X hI in_X6 tyX6 tyX6_ok nmX6 rfl 4 (by decide) q1656 (fun _ h9 => h9) rfl (by decide +kernel) rfl rfl hr dX6_init_36 (fun h14 H locs hI hr => ?_)
  refine lv_aload_n hx hb dX6_init_39 rfl (lv_at hl 0 rfl) ?_
  refine lv_iconst (v := 0) hx hb dX6_init_40 (by decide) ?_
  refine g_put (C := RX6) (T := TX6) (N := 20) (v := .int (0 : Int32)) (ty := .int) X hI in_X6 tyX6 tyX6_ok nmX6 rfl 5 (by decide) q1657 (fun _ h9 => h9) rfl (by decide +kernel) rfl rfl hr dX6_init_41 (fun h15 H locs hI hr => ?_)
  refine lv_aload_n hx hb dX6_init_44 rfl (lv_at hl 0 rfl) ?_
  refine lv_iconst (v := (-1)) hx hb dX6_init_45 (by decide) ?_
  refine g_put (C := RX6) (T := TX6) (N := 20) (v := .int (-1 : Int32)) (ty := .int) X hI in_X6 tyX6 tyX6_ok nmX6 rfl 6 (by decide) q1658 (fun _ h9 => h9) rfl (by decide +kernel) rfl rfl hr dX6_init_46 (fun h16 H locs hI hr => ?_)
  refine lv_aload_n hx hb dX6_init_49 rfl (lv_at hl 0 rfl) ?_
  refine lv_sipush (v := 240) hx hb dX6_init_50 (by decide) ?_
  refine g_newI (t := 0) (b := 240) (atype := .int) X hI q512 rfl rfl (by decide) (show (((0 + 1) + 1) + 1) + 1 ≤ 10 from by omega) (show (((0 + 2120) + 2) + 600) + 240 ≤ 4706 from by omega) hr dX6_init_53 (fun q17 h18 n19 H locs hI hr => ?_)
  refine g_putF (C := RX6) (T := TX6) (N := 20) (v := .ref q17) (ty := (.array .int)) X hI in_X6 tyX6 tyX6_ok nmX6 rfl 7 (by decide) q1659 (fun _ h9 => h9) rfl hnm rfl (by decide +kernel) rfl rfl hr dX6_init_55 (fun h20 H locs hI hr => ?_)
  refine lv_aload_n hx hb dX6_init_58 rfl (lv_at hl 0 rfl) ?_
  refine lv_iconst (v := 0) hx hb dX6_init_59 (by decide) ?_
  refine g_put (C := RX6) (T := TX6) (N := 20) (v := .int (0 : Int32)) (ty := .int) X hI in_X6 tyX6 tyX6_ok nmX6 rfl 8 (by decide) q1660 (fun _ h9 => h9) rfl (by decide +kernel) rfl rfl hr dX6_init_60 (fun h21 H locs hI hr => ?_)
  refine lv_aload_n hx hb dX6_init_63 rfl (lv_at hl 0 rfl) ?_
  refine lv_iconst (v := 0) hx hb dX6_init_64 (by decide) ?_
  refine g_put (C := RX6) (T := TX6) (N := 20) (v := .int (0 : Int32)) (ty := .int) X hI in_X6 tyX6 tyX6_ok nmX6 rfl 9 (by decide) q1661 (fun _ h9 => h9) rfl (by decide +kernel) rfl rfl hr dX6_init_65 (fun h22 H locs hI hr => ?_)
  refine lv_aload_n hx hb dX6_init_68 rfl (lv_at hl 0 rfl) ?_
  refine lv_bipush (v := 6) hx hb dX6_init_69 (by decide) ?_
  refine g_newI (t := 0) (b := 6) (atype := .int) X hI q512 rfl rfl (by decide) (show ((((0 + 1) + 1) + 1) + 1) + 1 ≤ 10 from by omega) (show ((((0 + 2120) + 2) + 600) + 240) + 6 ≤ 4706 from by omega) hr dX6_init_71 (fun q23 h24 n25 H locs hI hr => ?_)
  refine g_putF (C := RX6) (T := TX6) (N := 20) (v := .ref q23) (ty := (.array .int)) X hI in_X6 tyX6 tyX6_ok nmX6 rfl 10 (by decide) q1662 (fun _ h9 => h9) rfl hnm rfl (by decide +kernel) rfl rfl hr dX6_init_73 (fun h26 H locs hI hr => ?_)
  refine lv_aload_n hx hb dX6_init_76 rfl (lv_at hl 0 rfl) ?_
  refine lv_bipush (v := 6) hx hb dX6_init_77 (by decide) ?_
  refine g_newI (t := 0) (b := 6) (atype := .int) X hI q512 rfl rfl (by decide) (show (((((0 + 1) + 1) + 1) + 1) + 1) + 1 ≤ 10 from by omega) (show (((((0 + 2120) + 2) + 600) + 240) + 6) + 6 ≤ 4706 from by omega) hr dX6_init_79 (fun q27 h28 n29 H locs hI hr => ?_)
  refine g_putF (C := RX6) (T := TX6) (N := 20) (v := .ref q27) (ty := (.array .int)) X hI in_X6 tyX6 tyX6_ok nmX6 rfl 11 (by decide) q1663 (fun _ h9 => h9) rfl hnm rfl (by decide +kernel) rfl rfl hr dX6_init_81 (fun h30 H locs hI hr => ?_)
  refine lv_aload_n hx hb dX6_init_84 rfl (lv_at hl 0 rfl) ?_
  refine lv_bipush (v := 6) hx hb dX6_init_85 (by decide) ?_
  refine g_newI (t := 2) (b := 6) (atype := .boolean) X hI q511 rfl rfl (by decide) (show ((((((0 + 1) + 1) + 1) + 1) + 1) + 1) + 1 ≤ 10 from by omega) (show ((((((0 + 2120) + 2) + 600) + 240) + 6) + 6) + 6 ≤ 4706 from by omega) hr dX6_init_87 (fun q31 h32 n33 H locs hI hr => ?_)
  refine g_putF (C := RX6) (T := TX6) (N := 20) (v := .ref q31) (ty := (.array .boolean)) X hI in_X6 tyX6 tyX6_ok nmX6 rfl 12 (by decide) q1664 (fun _ h9 => h9) rfl hnm rfl (by decide +kernel) rfl rfl hr dX6_init_89 (fun h34 H locs hI hr => ?_)
  refine lv_aload_n hx hb dX6_init_92 rfl (lv_at hl 0 rfl) ?_
  refine lv_sipush (v := 1600) hx hb dX6_init_93 (by decide) ?_
  refine g_newI (t := 0) (b := 1600) (atype := .int) X hI q512 rfl rfl (by decide) (show (((((((0 + 1) + 1) + 1) + 1) + 1) + 1) + 1) + 1 ≤ 10 from by omega) (show (((((((0 + 2120) + 2) + 600) + 240) + 6) + 6) + 6) + 1600 ≤ 4706 from by omega) hr dX6_init_96 (fun q35 h36 n37 H locs hI hr => ?_)
  refine g_putF (C := RX6) (T := TX6) (N := 20) (v := .ref q35) (ty := (.array .int)) X hI in_X6 tyX6 tyX6_ok nmX6 rfl 13 (by decide) q1665 (fun _ h9 => h9) rfl hnm rfl (by decide +kernel) rfl rfl hr dX6_init_98 (fun h38 H locs hI hr => ?_)
  refine lv_aload_n hx hb dX6_init_101 rfl (lv_at hl 0 rfl) ?_
  refine lv_bipush (v := 6) hx hb dX6_init_102 (by decide) ?_
  refine g_newI (t := 0) (b := 6) (atype := .int) X hI q512 rfl rfl (by decide) (show ((((((((0 + 1) + 1) + 1) + 1) + 1) + 1) + 1) + 1) + 1 ≤ 10 from by omega) (show ((((((((0 + 2120) + 2) + 600) + 240) + 6) + 6) + 6) + 1600) + 6 ≤ 4706 from by omega) hr dX6_init_104 (fun q39 h40 n41 H locs hI hr => ?_)
  refine g_putF (C := RX6) (T := TX6) (N := 20) (v := .ref q39) (ty := (.array .int)) X hI in_X6 tyX6 tyX6_ok nmX6 rfl 14 (by decide) q1666 (fun _ h9 => h9) rfl hnm rfl (by decide +kernel) rfl rfl hr dX6_init_106 (fun h42 H locs hI hr => ?_)
  refine lv_aload_n hx hb dX6_init_109 rfl (lv_at hl 0 rfl) ?_
  refine lv_iconst (v := 0) hx hb dX6_init_110 (by decide) ?_
  refine g_put (C := RX6) (T := TX6) (N := 20) (v := .int (0 : Int32)) (ty := .int) X hI in_X6 tyX6 tyX6_ok nmX6 rfl 15 (by decide) q1667 (fun _ h9 => h9) rfl (by decide +kernel) rfl rfl hr dX6_init_111 (fun h43 H locs hI hr => ?_)
  refine lv_aload_n hx hb dX6_init_114 rfl (lv_at hl 0 rfl) ?_
  refine lv_iconst (v := 0) hx hb dX6_init_115 (by decide) ?_
  refine g_put (C := RX6) (T := TX6) (N := 20) (v := .int (0 : Int32)) (ty := .int) X hI in_X6 tyX6 tyX6_ok nmX6 rfl 16 (by decide) q1668 (fun _ h9 => h9) rfl (by decide +kernel) rfl rfl hr dX6_init_116 (fun h44 H locs hI hr => ?_)
  refine lv_aload_n hx hb dX6_init_119 rfl (lv_at hl 0 rfl) ?_
  refine lv_iconst (v := 0) hx hb dX6_init_120 (by decide) ?_
  refine g_put (C := RX6) (T := TX6) (N := 20) (v := .int (0 : Int32)) (ty := .int) X hI in_X6 tyX6 tyX6_ok nmX6 rfl 17 (by decide) q1669 (fun _ h9 => h9) rfl (by decide +kernel) rfl rfl hr dX6_init_121 (fun h45 H locs hI hr => ?_)
  refine lv_aload_n hx hb dX6_init_124 rfl (lv_at hl 0 rfl) ?_
  refine lv_iconst (v := 0) hx hb dX6_init_125 (by decide) ?_
  refine g_put (C := RX6) (T := TX6) (N := 20) (v := .int (0 : Int32)) (ty := .int) X hI in_X6 tyX6 tyX6_ok nmX6 rfl 18 (by decide) q1670 (fun _ h9 => h9) rfl (by decide +kernel) rfl rfl hr dX6_init_126 (fun h46 H locs hI hr => ?_)
  refine lv_aload_n hx hb dX6_init_129 rfl (lv_at hl 0 rfl) ?_
  refine lv_bipush (v := 120) hx hb dX6_init_130 (by decide) ?_
  refine g_newI (t := 0) (b := 120) (atype := .int) X hI q512 rfl rfl (by decide) (show (((((((((0 + 1) + 1) + 1) + 1) + 1) + 1) + 1) + 1) + 1) + 1 ≤ 10 from by omega) (show (((((((((0 + 2120) + 2) + 600) + 240) + 6) + 6) + 6) + 1600) + 6) + 120 ≤ 4706 from by omega) hr dX6_init_132 (fun q47 h48 n49 H locs hI hr => ?_)
  refine g_putF (C := RX6) (T := TX6) (N := 20) (v := .ref q47) (ty := (.array .int)) X hI in_X6 tyX6 tyX6_ok nmX6 rfl 19 (by decide) q1671 (fun _ h9 => h9) rfl hnm rfl (by decide +kernel) rfl rfl hr dX6_init_134 (fun h50 H locs hI hr => ?_)
  refine g_ldc X (i := 0) (tx := "cake 8;sibling ann 1 2 3 4 4 3 2 1;sibling bob 9 0 0 0 0 0 0 9;sibling cid 1 1 1 1 1 1 1 1;") (by decide +kernel) dX6_init_137 ?_
  refine lv_astore_n (lv' := [(1, .ref (x.2.2.1 0)), (0, .ref z0)]) hx hb dX6_init_139 rfl hl (by decide) rfl (fun ls hl => ?_)
  refine lv_iconst (v := 0) hx hb dX6_init_140 (by decide) ?_
  refine lv_istore_n (lv' := [(2, .int (0 : Int32)), (1, .ref (x.2.2.1 0)), (0, .ref z0)]) hx hb dX6_init_141 rfl hl (by decide) rfl (fun ls hl => ?_)
  exact w_X6_init_L142 X hst hnm gN hr hI (lv_sub hl [2, 1, 0] rfl) (by omega)
end GENI
