/-! printed: the walks of the reference, 2 -/
set_option maxRecDepth 100000
section GENW
variable {p : Program} {l : Launch} {e : Env} {s : State} {m : MethodId} {args : Array Value} {below : List Frame} {meth : Method} {c : Code} {x : gV} {base : Nat}
abbrev rm_X6_contiguousLeast : Room := { frames := 2, cells := 0, slots := 0, locals := 47 }
theorem hd_X6_contiguousLeast : yX6_contiguousLeast.cls = RX6 ∧ yX6_contiguousLeast.cls ≠ "java/lang/invoke/MethodHandle" ∧ yX6_contiguousLeast.cls ≠ "java/lang/invoke/VarHandle" ∧ (parseMethodDescriptor yX6_contiguousLeast.desc).map (fun d => d.parameters.length) = some 0 := by decide +kernel
set_option maxHeartbeats 2000000 in
theorem w_X6_contiguousLeast_L33 {h : gH} {n : Nat} {o : Nat} {aM : (Nat → Int32)} {aS : (Nat → Int32)} {iU : Int32} {aB : (Nat → Int32)} {iL : Int32} {iE : Int32} {iP : Int32} {aR : (Nat → Int32)} {iW : Int32} {iT : Int32} {aT : (Nat → Int32)} {aC : (Nat → Int32)} {aH : (Nat → Int32)} {aE : (Nat → Int32)} {aQ : (Nat → Int32)} {iA : Int32} {iY : Int32} {iF : Int32} {iV : Int32} {aK : (Nat → Int32)} {r29 : Int32 → Int32 → (Nat → Int32) → Option (Int32 × (Nat → Int32))} {res : Int32 × (Nat → Int32)} (X : gXX x base RX6 cX6_contiguousLeast 3 (some .int) p l s m args meth c) (Hr29 : ∀ {z1 : Int32} {z2 : Int32} {aQ : (Nat → Int32)} {H : Heap} {locs : List Loc} {ls : Array Slot}, r29 z1 z2 aQ = some res → gI x base s.heap (mH h o aM aS iU aB iL iE iP aR iW iT aT aC aH aE aQ iA iY iF iV aK) n H locs → lv_has ls 3 [(0, .ref o), (1, .int z1), (2, .int z2)] → W p l e rm_X6_contiguousLeast s m args below meth c H locs 0 0 (MQ below (gQ x base (some (.int res.1)) (mH h o aM aS iU aB iL iE iP aR iW iT aT aC aH aE res.2 iA iY iF iV aK) n) args s 0 0 (fun q => base ≤ q)) (F0 m 29 ls [])) : ∀ (k : Nat) {z1 : Int32} {H : Heap} {locs : List Loc} {ls : Array Slot}, gL1 (f_X6_contiguousLeast_L33 r29 aM aQ) k z1 = some res → gI x base s.heap (mH h o aM aS iU aB iL iE iP aR iW iT aT aC aH aE aQ iA iY iF iV aK) n H locs → lv_has ls 3 [(0, .ref o), (1, .int z1)] → W p l e rm_X6_contiguousLeast s m args below meth c H locs 0 0 (MQ below (gQ x base (some (.int res.1)) (mH h o aM aS iU aB iL iE iP aR iW iT aT aC aH aE res.2 iA iY iF iV aK) n) args s 0 0 (fun q => base ≤ q)) (F0 m 33 ls []) := by
  have hx := X.1
  have hb := X.2.1
  intro k
  induction k with
  | zero =>
    intros
    rename_i hr _ _
    exact nomatch (show (none : Option _) = some _ from hr)
  | succ k ih =>
    intro z1 H locs ls hr hI hl
    replace hr : f_X6_contiguousLeast_L33 r29 aM aQ (gL1 (f_X6_contiguousLeast_L33 r29 aM aQ) k) z1 = some res := hr
    unfold f_X6_contiguousLeast_L33 at hr
    refine lv_aload_n hx hb dX6_contiguousLeast_33 rfl (lv_at hl 0 rfl) ?_
    refine lv_iload_n hx hb dX6_contiguousLeast_34 rfl (lv_at hl 1 rfl) ?_
    refine lv_iconst (v := 1) hx hb dX6_contiguousLeast_35 (by decide) ?_
    refine lv_iadd hx hb dX6_contiguousLeast_36 ?_
    obtain ⟨v3, hc2, hr⟩ := gB_i hr
    refine gRun_i (g_runV X hI (w_X6_reaches hc2) (g_obj_s mH_0) rfl hl (lw_V q2048 q2050 qs90 q122 q2051) rfl rfl hd_X6_reaches ⟨Nat.le_of_ble_eq_true rfl, Nat.le_of_ble_eq_true rfl⟩ (as := [.int (z1 + (1 : Int32))]) (rest := []) rfl rfl (Nat.le_of_ble_eq_true rfl) ⟨(Nat.le_refl _), (Nat.le_refl _)⟩ dX6_contiguousLeast_37) (fun H locs hI => ?_)
    refine lv_if_eq (tgt := 49) hx hb dX6_contiguousLeast_40 (by decide) (fun c9 => ?_) (fun c9 => ?_)
    · replace hr := gIf_t c9 hr
      refine lv_aload_n hx hb dX6_contiguousLeast_49 rfl (lv_at hl 0 rfl) ?_
      obtain ⟨v5, aQ_6, hc4, hr⟩ := gT2_i hr
      refine gRun_i (g_runV X hI (w_X6_advanceSequence hc4) (g_obj_s mH_0) rfl hl (lw_V q2052 q2054 qs91 q122 q2055) rfl rfl hd_X6_advanceSequence ⟨Nat.le_of_ble_eq_true rfl, Nat.le_of_ble_eq_true rfl⟩ (as := []) (rest := []) rfl rfl (Nat.le_of_ble_eq_true rfl) ⟨(Nat.le_refl _), (Nat.le_refl _)⟩ dX6_contiguousLeast_50) (fun H locs hI => ?_)
      refine lv_istore_n (lv' := [(2, .int v5), (0, .ref o), (1, .int z1)]) hx hb dX6_contiguousLeast_53 rfl hl (by decide) rfl (fun ls hl => ?_)
      refine lv_goto (tgt := 29) hx hb dX6_contiguousLeast_54 (by decide) ?_
      exact Hr29 hr hI (lv_sub hl [1, 2, 0] rfl)
    · replace hr := gIf_f c9 hr
      refine lv_iinc (v := (z1 + (1 : Int32))) (lv' := [(1, .int (z1 + (1 : Int32))), (0, .ref o)]) hx hb dX6_contiguousLeast_43 hl (k := 1) rfl (g_inc (by decide)) (by decide) rfl (fun ls hl => ?_)
      refine lv_goto (tgt := 33) hx hb dX6_contiguousLeast_46 (by decide) ?_
      exact ih hr hI (lv_sub hl [1, 0] rfl)
set_option maxHeartbeats 2000000 in
theorem w_X6_contiguousLeast_L29 {h : gH} {n : Nat} {o : Nat} {aM : (Nat → Int32)} {aS : (Nat → Int32)} {iU : Int32} {aB : (Nat → Int32)} {iL : Int32} {iE : Int32} {iP : Int32} {aR : (Nat → Int32)} {iW : Int32} {iT : Int32} {aT : (Nat → Int32)} {aC : (Nat → Int32)} {aH : (Nat → Int32)} {aE : (Nat → Int32)} {iA : Int32} {iY : Int32} {iF : Int32} {iV : Int32} {aK : (Nat → Int32)} {res : Int32 × (Nat → Int32)} (X : gXX x base RX6 cX6_contiguousLeast 3 (some .int) p l s m args meth c) : ∀ (k : Nat) {z1 : Int32} {z2 : Int32} {aQ : (Nat → Int32)} {H : Heap} {locs : List Loc} {ls : Array Slot}, gL3 (f_X6_contiguousLeast_L29 aM) k z1 z2 aQ = some res → gI x base s.heap (mH h o aM aS iU aB iL iE iP aR iW iT aT aC aH aE aQ iA iY iF iV aK) n H locs → lv_has ls 3 [(0, .ref o), (1, .int z1), (2, .int z2)] → W p l e rm_X6_contiguousLeast s m args below meth c H locs 0 0 (MQ below (gQ x base (some (.int res.1)) (mH h o aM aS iU aB iL iE iP aR iW iT aT aC aH aE res.2 iA iY iF iV aK) n) args s 0 0 (fun q => base ≤ q)) (F0 m 29 ls []) := by
  have hx := X.1
  have hb := X.2.1
  intro k
  induction k with
  | zero =>
    intros
    rename_i hr _ _
    exact nomatch (show (none : Option _) = some _ from hr)
  | succ k ih =>
    intro z1 z2 aQ H locs ls hr hI hl
    replace hr : f_X6_contiguousLeast_L29 aM (gL3 (f_X6_contiguousLeast_L29 aM) k) z1 z2 aQ = some res := hr
    unfold f_X6_contiguousLeast_L29 at hr
    refine lv_iload_n hx hb dX6_contiguousLeast_29 rfl (lv_at hl 2 rfl) ?_
    refine lv_if_eq (tgt := 57) hx hb dX6_contiguousLeast_30 (by decide) (fun c9 => ?_) (fun c9 => ?_)
    · replace hr := gIf_t c9 hr
      refine lv_iload_n hx hb dX6_contiguousLeast_57 rfl (lv_at hl 1 rfl) ?_
      have hr := gS_i hr
      subst hr
      exact g_iret X hI rfl (Nat.le_refl _) (Nat.le_refl _) dX6_contiguousLeast_58
    · replace hr := gIf_f c9 hr
      exact w_X6_contiguousLeast_L33 X ih gN hr hI (lv_sub hl [0, 1] rfl)
set_option maxHeartbeats 2000000 in
theorem w_X6_contiguousLeast_J25 {h : gH} {n : Nat} {o : Nat} {aM : (Nat → Int32)} {aS : (Nat → Int32)} {iU : Int32} {aB : (Nat → Int32)} {iL : Int32} {iE : Int32} {iP : Int32} {aR : (Nat → Int32)} {iW : Int32} {iT : Int32} {aT : (Nat → Int32)} {aC : (Nat → Int32)} {aH : (Nat → Int32)} {aE : (Nat → Int32)} {aQ : (Nat → Int32)} {iA : Int32} {iY : Int32} {iF : Int32} {iV : Int32} {aK : (Nat → Int32)} {res : Int32 × (Nat → Int32)} (X : gXX x base RX6 cX6_contiguousLeast 3 (some .int) p l s m args meth c) {H : Heap} {locs : List Loc} {ls : Array Slot} (hr : f_X6_contiguousLeast_J25 aM aQ = some res) (hI : gI x base s.heap (mH h o aM aS iU aB iL iE iP aR iW iT aT aC aH aE aQ iA iY iF iV aK) n H locs) (hl : lv_has ls 3 [(0, .ref o)]) : W p l e rm_X6_contiguousLeast s m args below meth c H locs 0 0 (MQ below (gQ x base (some (.int res.1)) (mH h o aM aS iU aB iL iE iP aR iW iT aT aC aH aE res.2 iA iY iF iV aK) n) args s 0 0 (fun q => base ≤ q)) (F0 m 25 ls []) := by
  have hx := X.1
  have hb := X.2.1
  unfold f_X6_contiguousLeast_J25 at hr
  refine lv_iconst (v := 0) hx hb dX6_contiguousLeast_25 (by decide) ?_
  refine lv_istore_n (lv' := [(1, .int (0 : Int32)), (0, .ref o)]) hx hb dX6_contiguousLeast_26 rfl hl (by decide) rfl (fun ls hl => ?_)
  refine lv_iconst (v := 1) hx hb dX6_contiguousLeast_27 (by decide) ?_
  refine lv_istore_n (lv' := [(2, .int (1 : Int32)), (1, .int (0 : Int32)), (0, .ref o)]) hx hb dX6_contiguousLeast_28 rfl hl (by decide) rfl (fun ls hl => ?_)
  exact w_X6_contiguousLeast_L29 X gN hr hI (lv_sub hl [2, 1, 0] rfl)
set_option maxHeartbeats 2000000 in
theorem w_X6_contiguousLeast_L2 {h : gH} {n : Nat} {o : Nat} {aM : (Nat → Int32)} {aS : (Nat → Int32)} {iU : Int32} {aB : (Nat → Int32)} {iL : Int32} {iE : Int32} {iP : Int32} {aR : (Nat → Int32)} {iW : Int32} {iT : Int32} {aT : (Nat → Int32)} {aC : (Nat → Int32)} {aH : (Nat → Int32)} {aE : (Nat → Int32)} {iA : Int32} {iY : Int32} {iF : Int32} {iV : Int32} {aK : (Nat → Int32)} {res : Int32 × (Nat → Int32)} (X : gXX x base RX6 cX6_contiguousLeast 3 (some .int) p l s m args meth c) : ∀ (k : Nat) {z1 : Int32} {aQ : (Nat → Int32)} {H : Heap} {locs : List Loc} {ls : Array Slot}, gL2 (f_X6_contiguousLeast_L2 aM) k z1 aQ = some res → gI x base s.heap (mH h o aM aS iU aB iL iE iP aR iW iT aT aC aH aE aQ iA iY iF iV aK) n H locs → lv_has ls 3 [(0, .ref o), (1, .int z1)] → W p l e rm_X6_contiguousLeast s m args below meth c H locs 0 0 (MQ below (gQ x base (some (.int res.1)) (mH h o aM aS iU aB iL iE iP aR iW iT aT aC aH aE res.2 iA iY iF iV aK) n) args s 0 0 (fun q => base ≤ q)) (F0 m 2 ls []) := by
  have hx := X.1
  have hb := X.2.1
  intro k
  induction k with
  | zero =>
    intros
    rename_i hr _ _
    exact nomatch (show (none : Option _) = some _ from hr)
  | succ k ih =>
    intro z1 aQ H locs ls hr hI hl
    replace hr : f_X6_contiguousLeast_L2 aM (gL2 (f_X6_contiguousLeast_L2 aM) k) z1 aQ = some res := hr
    unfold f_X6_contiguousLeast_L2 at hr
    refine lv_iload_n hx hb dX6_contiguousLeast_2 rfl (lv_at hl 1 rfl) ?_
    refine lv_aload_n hx hb dX6_contiguousLeast_3 rfl (lv_at hl 0 rfl) ?_
    refine m_get X hI mH_0 0 (by decide) q1652 rfl dX6_contiguousLeast_4 ?_
    refine lv_iconst (v := 1) hx hb dX6_contiguousLeast_7 (by decide) ?_
    refine m_iald X hI mH_aaM hr dX6_contiguousLeast_8 (fun v1 hr => ?_)
    refine lv_icmp_ge (tgt := 25) hx hb dX6_contiguousLeast_9 (by decide) (fun c9 => ?_) (fun c9 => ?_)
    · replace hr := gIf_t c9 hr
      exact w_X6_contiguousLeast_J25 X hr hI (lv_sub hl [0] rfl)
    · replace hr := gIf_f c9 hr
      refine lv_aload_n hx hb dX6_contiguousLeast_12 rfl (lv_at hl 0 rfl) ?_
      refine m_get X hI mH_0 14 (by decide) q1666 rfl dX6_contiguousLeast_13 ?_
      refine lv_iload_n hx hb dX6_contiguousLeast_16 rfl (lv_at hl 1 rfl) ?_
      refine lv_iload_n hx hb dX6_contiguousLeast_17 rfl (lv_at hl 1 rfl) ?_
      refine m_iast X hI mH_aaQ mH_saQ hr dX6_contiguousLeast_18 (fun aQ_7 H locs hI hr => ?_)
      refine lv_iinc (v := (z1 + (1 : Int32))) (lv' := [(1, .int (z1 + (1 : Int32))), (0, .ref o)]) hx hb dX6_contiguousLeast_19 hl (k := 1) rfl (g_inc (by decide)) (by decide) rfl (fun ls hl => ?_)
      refine lv_goto (tgt := 2) hx hb dX6_contiguousLeast_22 (by decide) ?_
      exact ih hr hI (lv_sub hl [1, 0] rfl)
set_option maxHeartbeats 2000000 in
theorem w_X6_contiguousLeast {l : Launch} {x : gV} {base : Nat} {h : gH} {n : Nat} {o : Nat} {aM : (Nat → Int32)} {aS : (Nat → Int32)} {iU : Int32} {aB : (Nat → Int32)} {iL : Int32} {iE : Int32} {iP : Int32} {aR : (Nat → Int32)} {iW : Int32} {iT : Int32} {aT : (Nat → Int32)} {aC : (Nat → Int32)} {aH : (Nat → Int32)} {aE : (Nat → Int32)} {aQ : (Nat → Int32)} {iA : Int32} {iY : Int32} {iF : Int32} {iV : Int32} {aK : (Nat → Int32)} {res : Int32 × (Nat → Int32)} (hr : f_X6_contiguousLeast aM aQ = some res) : gM l yX6_contiguousLeast (ws_ yX6_contiguousLeast cX6_contiguousLeast 3 (some .int)) rm_X6_contiguousLeast x base [.ref o] (mH h o aM aS iU aB iL iE iP aR iW iT aT aC aH aE aQ iA iY iF iV aK) n (some (.int res.1)) (mH h o aM aS iU aB iL iE iP aR iW iT aT aC aH aE res.2 iA iY iF iV aK) n 0 0 := by
  refine g_met (cc := cX6_contiguousLeast) (nL := 3) (ret := (some .int)) (by decide) (Nat.le_of_ble_eq_true rfl) (fun p e s m below meth c ls X hnm hl hI => ?_)
  have hl : lv_has ls 3 [(0, .ref o)] := hl
  have hx := X.1
  have hb := X.2.1
  unfold f_X6_contiguousLeast at hr
  refine lv_iconst (v := 0) hx hb dX6_contiguousLeast_0 (by decide) ?_
  refine lv_istore_n (lv' := [(1, .int (0 : Int32)), (0, .ref o)]) hx hb dX6_contiguousLeast_1 rfl hl (by decide) rfl (fun ls hl => ?_)
  exact w_X6_contiguousLeast_L2 X gN hr hI (lv_sub hl [1, 0] rfl)
abbrev rm_X6_bestLeastWelfare : Room := { frames := 3, cells := 0, slots := 0, locals := 69 }
theorem hd_X6_bestLeastWelfare : yX6_bestLeastWelfare.cls = RX6 ∧ yX6_bestLeastWelfare.cls ≠ "java/lang/invoke/MethodHandle" ∧ yX6_bestLeastWelfare.cls ≠ "java/lang/invoke/VarHandle" ∧ (parseMethodDescriptor yX6_bestLeastWelfare.desc).map (fun d => d.parameters.length) = some 0 := by decide +kernel
set_option maxHeartbeats 2000000 in
theorem w_X6_bestLeastWelfare {l : Launch} {x : gV} {base : Nat} {h : gH} {n : Nat} {o : Nat} {aM : (Nat → Int32)} {aS : (Nat → Int32)} {iU : Int32} {aB : (Nat → Int32)} {iL : Int32} {iE : Int32} {iP : Int32} {aR : (Nat → Int32)} {iW : Int32} {iT : Int32} {aT : (Nat → Int32)} {aC : (Nat → Int32)} {aH : (Nat → Int32)} {aE : (Nat → Int32)} {aQ : (Nat → Int32)} {iA : Int32} {iY : Int32} {iF : Int32} {iV : Int32} {aK : (Nat → Int32)} {res : Int32 × Int32 × (Nat → Int32)} (hr : f_X6_bestLeastWelfare aM iT aQ = some res) : gM l yX6_bestLeastWelfare (ws_ yX6_bestLeastWelfare cX6_bestLeastWelfare 1 (some .int)) rm_X6_bestLeastWelfare x base [.ref o] (mH h o aM aS iU aB iL iE iP aR iW iT aT aC aH aE aQ iA iY iF iV aK) n (some (.int res.1)) (mH h o aM aS iU aB iL iE iP aR iW res.2.1 aT aC aH aE res.2.2 iA iY iF iV aK) n 0 0 := by
  refine g_met (cc := cX6_bestLeastWelfare) (nL := 1) (ret := (some .int)) (by decide) (Nat.le_of_ble_eq_true rfl) (fun p e s m below meth c ls X hnm hl hI => ?_)
  have hl : lv_has ls 1 [(0, .ref o)] := hl
  have hx := X.1
  have hb := X.2.1
  unfold f_X6_bestLeastWelfare at hr
  refine lv_aload_n hx hb dX6_bestLeastWelfare_0 rfl (lv_at hl 0 rfl) ?_
  refine lv_aload_n hx hb dX6_bestLeastWelfare_1 rfl (lv_at hl 0 rfl) ?_
  obtain ⟨v2, aQ_3, hc1, hr⟩ := gT2_i hr
  refine gRun_i (g_runV X hI (w_X6_contiguousLeast hc1) (g_obj_s mH_0) rfl hl (lw_V q2044 q2046 qs89 q122 q2047) rfl rfl hd_X6_contiguousLeast ⟨Nat.le_of_ble_eq_true rfl, Nat.le_of_ble_eq_true rfl⟩ (as := []) (rest := [.ref o]) rfl rfl (Nat.le_of_ble_eq_true rfl) ⟨(Nat.le_refl _), (Nat.le_refl _)⟩ dX6_bestLeastWelfare_2) (fun H locs hI => ?_)
  obtain ⟨v5, iT_6, hc4, hr⟩ := gT2_i hr
  refine gRun_i (g_runV X hI (w_X6_plain hc4) (g_obj_s mH_0) rfl hl (lw_V q1884 q1886 qs78 q122 q1887) rfl rfl hd_X6_plain ⟨Nat.le_of_ble_eq_true rfl, Nat.le_of_ble_eq_true rfl⟩ (as := [.int v2]) (rest := []) rfl rfl (Nat.le_of_ble_eq_true rfl) ⟨(Nat.le_refl _), (Nat.le_refl _)⟩ dX6_bestLeastWelfare_5) (fun H locs hI => ?_)
  have hr := gS_i hr
  subst hr
  exact g_iret X hI rfl (Nat.le_refl _) (Nat.le_refl _) dX6_bestLeastWelfare_8
abbrev rm_X6_cutCount : Room := { frames := 1, cells := 0, slots := 0, locals := 21 }
theorem hd_X6_cutCount : yX6_cutCount.cls = RX6 ∧ yX6_cutCount.cls ≠ "java/lang/invoke/MethodHandle" ∧ yX6_cutCount.cls ≠ "java/lang/invoke/VarHandle" ∧ (parseMethodDescriptor yX6_cutCount.desc).map (fun d => d.parameters.length) = some 0 := by decide +kernel
set_option maxHeartbeats 2000000 in
theorem w_X6_cutCount_L9 {h : gH} {n : Nat} {o : Nat} {aM : (Nat → Int32)} {aS : (Nat → Int32)} {iU : Int32} {aB : (Nat → Int32)} {iL : Int32} {iE : Int32} {iP : Int32} {aR : (Nat → Int32)} {iW : Int32} {iT : Int32} {aT : (Nat → Int32)} {aC : (Nat → Int32)} {aH : (Nat → Int32)} {aE : (Nat → Int32)} {aQ : (Nat → Int32)} {iA : Int32} {iY : Int32} {iF : Int32} {iV : Int32} {aK : (Nat → Int32)} {res : Int32 × Int32} (X : gXX x base RX6 cX6_cutCount 3 (some .int) p l s m args meth c) : ∀ (k : Nat) {z1 : Int32} {z2 : Int32} {H : Heap} {locs : List Loc} {ls : Array Slot}, gL2 (f_X6_cutCount_L9 aM iT) k z1 z2 = some res → gI x base s.heap (mH h o aM aS iU aB iL iE iP aR iW iT aT aC aH aE aQ iA iY iF iV aK) n H locs → lv_has ls 3 [(0, .ref o), (1, .int z1), (2, .int z2)] → W p l e rm_X6_cutCount s m args below meth c H locs 0 0 (MQ below (gQ x base (some (.int res.1)) (mH h o aM aS iU aB iL iE iP aR iW res.2 aT aC aH aE aQ iA iY iF iV aK) n) args s 0 0 (fun q => base ≤ q)) (F0 m 9 ls []) := by
  have hx := X.1
  have hb := X.2.1
  intro k
  induction k with
  | zero =>
    intros
    rename_i hr _ _
    exact nomatch (show (none : Option _) = some _ from hr)
  | succ k ih =>
    intro z1 z2 H locs ls hr hI hl
    replace hr : f_X6_cutCount_L9 aM iT (gL2 (f_X6_cutCount_L9 aM iT) k) z1 z2 = some res := hr
    unfold f_X6_cutCount_L9 at hr
    refine lv_iload_n hx hb dX6_cutCount_9 rfl (lv_at hl 2 rfl) ?_
    refine lv_aload_n hx hb dX6_cutCount_10 rfl (lv_at hl 0 rfl) ?_
    refine m_get X hI mH_0 0 (by decide) q1652 rfl dX6_cutCount_11 ?_
    refine lv_iconst (v := 0) hx hb dX6_cutCount_14 (by decide) ?_
    refine m_iald X hI mH_aaM hr dX6_cutCount_15 (fun v1 hr => ?_)
    refine lv_icmp_ge (tgt := 48) hx hb dX6_cutCount_16 (by decide) (fun c9 => ?_) (fun c9 => ?_)
    · replace hr := gIf_t c9 hr
      refine lv_iload_n hx hb dX6_cutCount_48 rfl (lv_at hl 1 rfl) ?_
      have hr := gS_i hr
      subst hr
      exact g_iret X hI rfl (Nat.le_refl _) (Nat.le_refl _) dX6_cutCount_49
    · replace hr := gIf_f c9 hr
      refine lv_iload_n hx hb dX6_cutCount_19 rfl (lv_at hl 1 rfl) ?_
      refine lv_aload_n hx hb dX6_cutCount_20 rfl (lv_at hl 0 rfl) ?_
      refine lv_iload_n hx hb dX6_cutCount_21 rfl (lv_at hl 2 rfl) ?_
      obtain ⟨v3, hc2, hr⟩ := gB_i hr
      refine gRun_i (g_runV X hI (w_X6_ownerOf hc2) (g_obj_s mH_0) rfl hl (lw_V q1804 q1806 qs61 q122 q1807) rfl rfl hd_X6_ownerOf ⟨Nat.le_of_ble_eq_true rfl, Nat.le_of_ble_eq_true rfl⟩ (as := [.int z2]) (rest := [.int z1]) rfl rfl (Nat.le_of_ble_eq_true rfl) ⟨(Nat.le_refl _), (Nat.le_refl _)⟩ dX6_cutCount_22) (fun H locs hI => ?_)
      refine lv_aload_n hx hb dX6_cutCount_25 rfl (lv_at hl 0 rfl) ?_
      refine lv_iload_n hx hb dX6_cutCount_26 rfl (lv_at hl 2 rfl) ?_
      refine lv_iconst (v := 1) hx hb dX6_cutCount_27 (by decide) ?_
      refine lv_isub hx hb dX6_cutCount_28 ?_
      obtain ⟨v5, hc4, hr⟩ := gB_i hr
      refine gRun_i (g_runV X hI (w_X6_ownerOf hc4) (g_obj_s mH_0) rfl hl (lw_V q1804 q1806 qs61 q122 q1807) rfl rfl hd_X6_ownerOf ⟨Nat.le_of_ble_eq_true rfl, Nat.le_of_ble_eq_true rfl⟩ (as := [.int (z2 - (1 : Int32))]) (rest := [.int v3, .int z1]) rfl rfl (Nat.le_of_ble_eq_true rfl) ⟨(Nat.le_refl _), (Nat.le_refl _)⟩ dX6_cutCount_29) (fun H locs hI => ?_)
      refine lv_icmp_eq (tgt := 39) hx hb dX6_cutCount_32 (by decide) (fun c9 => ?_) (fun c9 => ?_)
      · replace hr := gIf_t c9 hr
        refine lv_iconst (v := 0) hx hb dX6_cutCount_39 (by decide) ?_
        refine lv_iadd hx hb dX6_cutCount_40 ?_
        refine lv_istore_n (lv' := [(1, .int (z1 + (0 : Int32))), (0, .ref o), (2, .int z2)]) hx hb dX6_cutCount_41 rfl hl (by decide) rfl (fun ls hl => ?_)
        refine lv_iinc (v := (z2 + (1 : Int32))) (lv' := [(2, .int (z2 + (1 : Int32))), (1, .int (z1 + (0 : Int32))), (0, .ref o)]) hx hb dX6_cutCount_42 hl (k := 2) rfl (g_inc (by decide)) (by decide) rfl (fun ls hl => ?_)
        refine lv_goto (tgt := 9) hx hb dX6_cutCount_45 (by decide) ?_
        exact ih hr hI (lv_sub hl [2, 1, 0] rfl)
      · replace hr := gIf_f c9 hr
        refine lv_iconst (v := 1) hx hb dX6_cutCount_35 (by decide) ?_
        refine lv_goto (tgt := 40) hx hb dX6_cutCount_36 (by decide) ?_
        refine lv_iadd hx hb dX6_cutCount_40 ?_
        refine lv_istore_n (lv' := [(1, .int (z1 + (1 : Int32))), (0, .ref o), (2, .int z2)]) hx hb dX6_cutCount_41 rfl hl (by decide) rfl (fun ls hl => ?_)
        refine lv_iinc (v := (z2 + (1 : Int32))) (lv' := [(2, .int (z2 + (1 : Int32))), (1, .int (z1 + (1 : Int32))), (0, .ref o)]) hx hb dX6_cutCount_42 hl (k := 2) rfl (g_inc (by decide)) (by decide) rfl (fun ls hl => ?_)
        refine lv_goto (tgt := 9) hx hb dX6_cutCount_45 (by decide) ?_
        exact ih hr hI (lv_sub hl [2, 1, 0] rfl)
set_option maxHeartbeats 2000000 in
theorem w_X6_cutCount {l : Launch} {x : gV} {base : Nat} {h : gH} {n : Nat} {o : Nat} {aM : (Nat → Int32)} {aS : (Nat → Int32)} {iU : Int32} {aB : (Nat → Int32)} {iL : Int32} {iE : Int32} {iP : Int32} {aR : (Nat → Int32)} {iW : Int32} {iT : Int32} {aT : (Nat → Int32)} {aC : (Nat → Int32)} {aH : (Nat → Int32)} {aE : (Nat → Int32)} {aQ : (Nat → Int32)} {iA : Int32} {iY : Int32} {iF : Int32} {iV : Int32} {aK : (Nat → Int32)} {res : Int32 × Int32} (hr : f_X6_cutCount aM iT = some res) : gM l yX6_cutCount (ws_ yX6_cutCount cX6_cutCount 3 (some .int)) rm_X6_cutCount x base [.ref o] (mH h o aM aS iU aB iL iE iP aR iW iT aT aC aH aE aQ iA iY iF iV aK) n (some (.int res.1)) (mH h o aM aS iU aB iL iE iP aR iW res.2 aT aC aH aE aQ iA iY iF iV aK) n 0 0 := by
  refine g_met (cc := cX6_cutCount) (nL := 3) (ret := (some .int)) (by decide) (Nat.le_of_ble_eq_true rfl) (fun p e s m below meth c ls X hnm hl hI => ?_)
  have hl : lv_has ls 3 [(0, .ref o)] := hl
  have hx := X.1
  have hb := X.2.1
  unfold f_X6_cutCount at hr
  refine lv_aload_n hx hb dX6_cutCount_0 rfl (lv_at hl 0 rfl) ?_
  refine lv_iconst (v := 0) hx hb dX6_cutCount_1 (by decide) ?_
  refine m_put X hI mH_0 9 (by decide) q1661 rfl (by decide +kernel) (Nat.le_of_ble_eq_true rfl) rfl mH_iT dX6_cutCount_2 (fun H locs hI => ?_)
  refine lv_iconst (v := 0) hx hb dX6_cutCount_5 (by decide) ?_
  refine lv_istore_n (lv' := [(1, .int (0 : Int32)), (0, .ref o)]) hx hb dX6_cutCount_6 rfl hl (by decide) rfl (fun ls hl => ?_)
  refine lv_iconst (v := 1) hx hb dX6_cutCount_7 (by decide) ?_
  refine lv_istore_n (lv' := [(2, .int (1 : Int32)), (1, .int (0 : Int32)), (0, .ref o)]) hx hb dX6_cutCount_8 rfl hl (by decide) rfl (fun ls hl => ?_)
  exact w_X6_cutCount_L9 X gN hr hI (lv_sub hl [2, 1, 0] rfl)
abbrev rm_X6_satisfaction : Room := { frames := 3, cells := 0, slots := 0, locals := 68 }
theorem hd_X6_satisfaction : yX6_satisfaction.cls = RX6 ∧ yX6_satisfaction.cls ≠ "java/lang/invoke/MethodHandle" ∧ yX6_satisfaction.cls ≠ "java/lang/invoke/VarHandle" ∧ (parseMethodDescriptor yX6_satisfaction.desc).map (fun d => d.parameters.length) = some 1 := by decide +kernel
set_option maxHeartbeats 2000000 in
theorem w_X6_satisfaction_J14 {h : gH} {n : Nat} {o : Nat} {aM : (Nat → Int32)} {aS : (Nat → Int32)} {iU : Int32} {aB : (Nat → Int32)} {iL : Int32} {iE : Int32} {iP : Int32} {aR : (Nat → Int32)} {iW : Int32} {iT : Int32} {aT : (Nat → Int32)} {aC : (Nat → Int32)} {aH : (Nat → Int32)} {aE : (Nat → Int32)} {aQ : (Nat → Int32)} {iA : Int32} {iY : Int32} {iF : Int32} {iV : Int32} {aK : (Nat → Int32)} {z1 : Int32} {s1 : Int32} {res : UInt32 × Int32} (X : gXX x base RX6 cX6_satisfaction 2 (some .float) p l s m args meth c) {H : Heap} {locs : List Loc} {ls : Array Slot} (hr : f_X6_satisfaction_J14 z1 s1 aM iT = some res) (hI : gI x base s.heap (mH h o aM aS iU aB iL iE iP aR iW iT aT aC aH aE aQ iA iY iF iV aK) n H locs) (hl : lv_has ls 2 [(0, .ref o), (1, .int z1)]) : W p l e rm_X6_satisfaction s m args below meth c H locs 0 0 (MQ below (gQ x base (some (.float res.1)) (mH h o aM aS iU aB iL iE iP aR iW res.2 aT aC aH aE aQ iA iY iF iV aK) n) args s 0 0 (fun q => base ≤ q)) (F0 m 14 ls [.int s1, .ref o]) := by
  have hx := X.1
  have hb := X.2.1
  unfold f_X6_satisfaction_J14 at hr
  refine lv_iconst (v := 0) hx hb dX6_satisfaction_14 (by decide) ?_
  refine lv_iconst (v := 0) hx hb dX6_satisfaction_15 (by decide) ?_
  obtain ⟨v4, iT_5, hc3, hr⟩ := gT2_i hr
  refine gRun_i (g_runV X hI (w_X6_fails hc3) (g_obj_s mH_0) rfl hl (lw_V q1717 q1719 qs45 q122 q1720) rfl rfl hd_X6_fails ⟨Nat.le_of_ble_eq_true rfl, Nat.le_of_ble_eq_true rfl⟩ (as := [.int s1, .int (0 : Int32), .int (0 : Int32)]) (rest := []) rfl rfl (Nat.le_of_ble_eq_true rfl) ⟨(Nat.le_refl _), (Nat.le_refl _)⟩ dX6_satisfaction_16) (fun H locs hI => ?_)
  refine lv_if_eq (tgt := 24) hx hb dX6_satisfaction_19 (by decide) (fun c9 => ?_) (fun c9 => ?_)
  · replace hr := gIf_t c9 hr
    refine lv_aload_n hx hb dX6_satisfaction_24 rfl (lv_at hl 0 rfl) ?_
    refine lv_iload_n hx hb dX6_satisfaction_25 rfl (lv_at hl 1 rfl) ?_
    obtain ⟨v7, hc6, hr⟩ := gB_i hr
    refine gRun_i (g_runV X hI (w_X6_totalOf hc6) (g_obj_s mH_0) rfl hl (lw_V q1836 q1838 qs69 q122 q1839) rfl rfl hd_X6_totalOf ⟨Nat.le_of_ble_eq_true rfl, Nat.le_of_ble_eq_true rfl⟩ (as := [.int z1]) (rest := []) rfl rfl (Nat.le_of_ble_eq_true rfl) ⟨(Nat.le_refl _), (Nat.le_refl _)⟩ dX6_satisfaction_26) (fun H locs hI => ?_)
    refine lv_if_ne (tgt := 36) hx hb dX6_satisfaction_29 (by decide) (fun c9 => ?_) (fun c9 => ?_)
    · replace hr := gIf_f c9 hr
      refine lv_aload_n hx hb dX6_satisfaction_36 rfl (lv_at hl 0 rfl) ?_
      refine lv_iload_n hx hb dX6_satisfaction_37 rfl (lv_at hl 1 rfl) ?_
      obtain ⟨v9, hc8, hr⟩ := gB_i hr
      refine gRun_i (g_runV X hI (w_X6_welfareOf hc8) (g_obj_s mH_0) rfl hl (lw_V q1812 q1814 qs63 q122 q1815) rfl rfl hd_X6_welfareOf ⟨Nat.le_of_ble_eq_true rfl, Nat.le_of_ble_eq_true rfl⟩ (as := [.int z1]) (rest := []) rfl rfl (Nat.le_of_ble_eq_true rfl) ⟨(Nat.le_refl _), (Nat.le_refl _)⟩ dX6_satisfaction_38) (fun H locs hI => ?_)
      refine lv_i2f hx hb dX6_satisfaction_41 ?_
      refine lv_aload_n hx hb dX6_satisfaction_42 rfl (lv_at hl 0 rfl) ?_
      refine lv_iload_n hx hb dX6_satisfaction_43 rfl (lv_at hl 1 rfl) ?_
      obtain ⟨v11, hc10, hr⟩ := gB_i hr
      refine gRun_i (g_runV X hI (w_X6_totalOf hc10) (g_obj_s mH_0) rfl hl (lw_V q1836 q1838 qs69 q122 q1839) rfl rfl hd_X6_totalOf ⟨Nat.le_of_ble_eq_true rfl, Nat.le_of_ble_eq_true rfl⟩ (as := [.int z1]) (rest := [.float (FP.i2f v9)]) rfl rfl (Nat.le_of_ble_eq_true rfl) ⟨(Nat.le_refl _), (Nat.le_refl _)⟩ dX6_satisfaction_44) (fun H locs hI => ?_)
      refine lv_i2f hx hb dX6_satisfaction_47 ?_
      obtain ⟨c9, hr⟩ := gIf_o hr
      refine lv_fdiv hx hb dX6_satisfaction_48 (g_n32_i c9) ?_
      have hr := gS_i hr
      subst hr
      exact g_fret X hI (Nat.le_refl _) (Nat.le_refl _) dX6_satisfaction_49
    · replace hr := gIf_t c9 hr
      refine lv_fconst0 hx hb dX6_satisfaction_32 ?_
      refine lv_goto (tgt := 49) hx hb dX6_satisfaction_33 (by decide) ?_
      have hr := gS_i hr
      subst hr
      exact g_fret X hI (Nat.le_refl _) (Nat.le_refl _) dX6_satisfaction_49
  · replace hr := gIf_f c9 hr
    refine lv_fconst0 hx hb dX6_satisfaction_22 ?_
    have hr := gS_i hr
    subst hr
    exact g_fret X hI (Nat.le_refl _) (Nat.le_refl _) dX6_satisfaction_23
set_option maxHeartbeats 2000000 in
theorem w_X6_satisfaction {l : Launch} {x : gV} {base : Nat} {z1 : Int32} {h : gH} {n : Nat} {o : Nat} {aM : (Nat → Int32)} {aS : (Nat → Int32)} {iU : Int32} {aB : (Nat → Int32)} {iL : Int32} {iE : Int32} {iP : Int32} {aR : (Nat → Int32)} {iW : Int32} {iT : Int32} {aT : (Nat → Int32)} {aC : (Nat → Int32)} {aH : (Nat → Int32)} {aE : (Nat → Int32)} {aQ : (Nat → Int32)} {iA : Int32} {iY : Int32} {iF : Int32} {iV : Int32} {aK : (Nat → Int32)} {res : UInt32 × Int32} (hr : f_X6_satisfaction z1 aM iT = some res) : gM l yX6_satisfaction (ws_ yX6_satisfaction cX6_satisfaction 2 (some .float)) rm_X6_satisfaction x base [.ref o, .int z1] (mH h o aM aS iU aB iL iE iP aR iW iT aT aC aH aE aQ iA iY iF iV aK) n (some (.float res.1)) (mH h o aM aS iU aB iL iE iP aR iW res.2 aT aC aH aE aQ iA iY iF iV aK) n 0 0 := by
  refine g_met (cc := cX6_satisfaction) (nL := 2) (ret := (some .float)) (by decide) (Nat.le_of_ble_eq_true rfl) (fun p e s m below meth c ls X hnm hl hI => ?_)
  have hl : lv_has ls 2 [(0, .ref o), (1, .int z1)] := hl
  have hx := X.1
  have hb := X.2.1
  unfold f_X6_satisfaction at hr
  refine lv_aload_n hx hb dX6_satisfaction_0 rfl (lv_at hl 0 rfl) ?_
  refine lv_aload_n hx hb dX6_satisfaction_1 rfl (lv_at hl 0 rfl) ?_
  refine lv_iload_n hx hb dX6_satisfaction_2 rfl (lv_at hl 1 rfl) ?_
  obtain ⟨v2, hc1, hr⟩ := gB_i hr
  refine gRun_i (g_runV X hI (w_X6_isSibling hc1) (g_obj_s mH_0) rfl hl (lw_V q1896 q1898 qs79 q122 q1899) rfl rfl hd_X6_isSibling ⟨Nat.le_of_ble_eq_true rfl, Nat.le_of_ble_eq_true rfl⟩ (as := [.int z1]) (rest := [.ref o]) rfl rfl (Nat.le_of_ble_eq_true rfl) ⟨(Nat.le_refl _), (Nat.le_refl _)⟩ dX6_satisfaction_3) (fun H locs hI => ?_)
  refine lv_if_ne (tgt := 13) hx hb dX6_satisfaction_6 (by decide) (fun c9 => ?_) (fun c9 => ?_)
  · replace hr := gIf_f c9 hr
    refine lv_iconst (v := 0) hx hb dX6_satisfaction_13 (by decide) ?_
    exact w_X6_satisfaction_J14 X hr hI (lv_sub hl [0, 1] rfl)
  · replace hr := gIf_t c9 hr
    refine lv_iconst (v := 1) hx hb dX6_satisfaction_9 (by decide) ?_
    refine lv_goto (tgt := 14) hx hb dX6_satisfaction_10 (by decide) ?_
    exact w_X6_satisfaction_J14 X hr hI (lv_sub hl [0, 1] rfl)
abbrev rm_X6_meanPieces : Room := { frames := 2, cells := 0, slots := 0, locals := 44 }
theorem hd_X6_meanPieces : yX6_meanPieces.cls = RX6 ∧ yX6_meanPieces.cls ≠ "java/lang/invoke/MethodHandle" ∧ yX6_meanPieces.cls ≠ "java/lang/invoke/VarHandle" ∧ (parseMethodDescriptor yX6_meanPieces.desc).map (fun d => d.parameters.length) = some 0 := by decide +kernel
set_option maxHeartbeats 2000000 in
theorem w_X6_meanPieces_L9 {h : gH} {n : Nat} {o : Nat} {aM : (Nat → Int32)} {aS : (Nat → Int32)} {iU : Int32} {aB : (Nat → Int32)} {iL : Int32} {iE : Int32} {iP : Int32} {aR : (Nat → Int32)} {iW : Int32} {iT : Int32} {aT : (Nat → Int32)} {aC : (Nat → Int32)} {aH : (Nat → Int32)} {aE : (Nat → Int32)} {aQ : (Nat → Int32)} {iA : Int32} {iY : Int32} {iF : Int32} {iV : Int32} {aK : (Nat → Int32)} {res : UInt64 × Int32} (X : gXX x base RX6 cX6_meanPieces 3 (some .double) p l s m args meth c) : ∀ (k : Nat) {z1 : Int32} {z2 : Int32} {H : Heap} {locs : List Loc} {ls : Array Slot}, gL2 (f_X6_meanPieces_L9 aM iT) k z1 z2 = some res → gI x base s.heap (mH h o aM aS iU aB iL iE iP aR iW iT aT aC aH aE aQ iA iY iF iV aK) n H locs → lv_has ls 3 [(0, .ref o), (1, .int z1), (2, .int z2)] → W p l e rm_X6_meanPieces s m args below meth c H locs 0 0 (MQ below (gQ x base (some (.double res.1)) (mH h o aM aS iU aB iL iE iP aR iW res.2 aT aC aH aE aQ iA iY iF iV aK) n) args s 0 0 (fun q => base ≤ q)) (F0 m 9 ls []) := by
  have hx := X.1
  have hb := X.2.1
  intro k
  induction k with
  | zero =>
    intros
    rename_i hr _ _
    exact nomatch (show (none : Option _) = some _ from hr)
  | succ k ih =>
    intro z1 z2 H locs ls hr hI hl
    replace hr : f_X6_meanPieces_L9 aM iT (gL2 (f_X6_meanPieces_L9 aM iT) k) z1 z2 = some res := hr
    unfold f_X6_meanPieces_L9 at hr
    refine lv_iload_n hx hb dX6_meanPieces_9 rfl (lv_at hl 2 rfl) ?_
    refine lv_aload_n hx hb dX6_meanPieces_10 rfl (lv_at hl 0 rfl) ?_
    refine m_get X hI mH_0 0 (by decide) q1652 rfl dX6_meanPieces_11 ?_
    refine lv_iconst (v := 1) hx hb dX6_meanPieces_14 (by decide) ?_
    refine m_iald X hI mH_aaM hr dX6_meanPieces_15 (fun v1 hr => ?_)
    refine lv_icmp_ge (tgt := 33) hx hb dX6_meanPieces_16 (by decide) (fun c9 => ?_) (fun c9 => ?_)
    · replace hr := gIf_t c9 hr
      refine lv_iload_n hx hb dX6_meanPieces_33 rfl (lv_at hl 1 rfl) ?_
      refine lv_i2d hx hb dX6_meanPieces_34 ?_
      refine lv_aload_n hx hb dX6_meanPieces_35 rfl (lv_at hl 0 rfl) ?_
      refine m_get X hI mH_0 0 (by decide) q1652 rfl dX6_meanPieces_36 ?_
      refine lv_iconst (v := 1) hx hb dX6_meanPieces_39 (by decide) ?_
      refine m_iald X hI mH_aaM hr dX6_meanPieces_40 (fun v2 hr => ?_)
      refine lv_i2d hx hb dX6_meanPieces_41 ?_
      obtain ⟨c9, hr⟩ := gIf_o hr
      refine lv_ddiv hx hb dX6_meanPieces_42 (g_n64_i c9) ?_
      have hr := gS_i hr
      subst hr
      exact g_dret X hI (Nat.le_refl _) (Nat.le_refl _) dX6_meanPieces_43
    · replace hr := gIf_f c9 hr
      refine lv_iload_n hx hb dX6_meanPieces_19 rfl (lv_at hl 1 rfl) ?_
      refine lv_aload_n hx hb dX6_meanPieces_20 rfl (lv_at hl 0 rfl) ?_
      refine lv_iload_n hx hb dX6_meanPieces_21 rfl (lv_at hl 2 rfl) ?_
      obtain ⟨v4, hc3, hr⟩ := gB_i hr
      refine gRun_i (g_runV X hI (w_X6_pieces hc3) (g_obj_s mH_0) rfl hl (lw_V q1940 q1942 qs82 q122 q1943) rfl rfl hd_X6_pieces ⟨Nat.le_of_ble_eq_true rfl, Nat.le_of_ble_eq_true rfl⟩ (as := [.int z2]) (rest := [.int z1]) rfl rfl (Nat.le_of_ble_eq_true rfl) ⟨(Nat.le_refl _), (Nat.le_refl _)⟩ dX6_meanPieces_22) (fun H locs hI => ?_)
      refine lv_iadd hx hb dX6_meanPieces_25 ?_
      refine lv_istore_n (lv' := [(1, .int (z1 + v4)), (0, .ref o), (2, .int z2)]) hx hb dX6_meanPieces_26 rfl hl (by decide) rfl (fun ls hl => ?_)
      refine lv_iinc (v := (z2 + (1 : Int32))) (lv' := [(2, .int (z2 + (1 : Int32))), (1, .int (z1 + v4)), (0, .ref o)]) hx hb dX6_meanPieces_27 hl (k := 2) rfl (g_inc (by decide)) (by decide) rfl (fun ls hl => ?_)
      refine lv_goto (tgt := 9) hx hb dX6_meanPieces_30 (by decide) ?_
      exact ih hr hI (lv_sub hl [2, 1, 0] rfl)
set_option maxHeartbeats 2000000 in
theorem w_X6_meanPieces {l : Launch} {x : gV} {base : Nat} {h : gH} {n : Nat} {o : Nat} {aM : (Nat → Int32)} {aS : (Nat → Int32)} {iU : Int32} {aB : (Nat → Int32)} {iL : Int32} {iE : Int32} {iP : Int32} {aR : (Nat → Int32)} {iW : Int32} {iT : Int32} {aT : (Nat → Int32)} {aC : (Nat → Int32)} {aH : (Nat → Int32)} {aE : (Nat → Int32)} {aQ : (Nat → Int32)} {iA : Int32} {iY : Int32} {iF : Int32} {iV : Int32} {aK : (Nat → Int32)} {res : UInt64 × Int32} (hr : f_X6_meanPieces aM iT = some res) : gM l yX6_meanPieces (ws_ yX6_meanPieces cX6_meanPieces 3 (some .double)) rm_X6_meanPieces x base [.ref o] (mH h o aM aS iU aB iL iE iP aR iW iT aT aC aH aE aQ iA iY iF iV aK) n (some (.double res.1)) (mH h o aM aS iU aB iL iE iP aR iW res.2 aT aC aH aE aQ iA iY iF iV aK) n 0 0 := by
  refine g_met (cc := cX6_meanPieces) (nL := 3) (ret := (some .double)) (by decide) (Nat.le_of_ble_eq_true rfl) (fun p e s m below meth c ls X hnm hl hI => ?_)
  have hl : lv_has ls 3 [(0, .ref o)] := hl
  have hx := X.1
  have hb := X.2.1
  unfold f_X6_meanPieces at hr
  refine lv_aload_n hx hb dX6_meanPieces_0 rfl (lv_at hl 0 rfl) ?_
  refine lv_iconst (v := 0) hx hb dX6_meanPieces_1 (by decide) ?_
  refine m_put X hI mH_0 9 (by decide) q1661 rfl (by decide +kernel) (Nat.le_of_ble_eq_true rfl) rfl mH_iT dX6_meanPieces_2 (fun H locs hI => ?_)
  refine lv_iconst (v := 0) hx hb dX6_meanPieces_5 (by decide) ?_
  refine lv_istore_n (lv' := [(1, .int (0 : Int32)), (0, .ref o)]) hx hb dX6_meanPieces_6 rfl hl (by decide) rfl (fun ls hl => ?_)
  refine lv_iconst (v := 0) hx hb dX6_meanPieces_7 (by decide) ?_
  refine lv_istore_n (lv' := [(2, .int (0 : Int32)), (1, .int (0 : Int32)), (0, .ref o)]) hx hb dX6_meanPieces_8 rfl hl (by decide) rfl (fun ls hl => ?_)
  exact w_X6_meanPieces_L9 X gN hr hI (lv_sub hl [2, 1, 0] rfl)
abbrev rm_X6_inconsistencies : Room := { frames := 4, cells := 0, slots := 0, locals := 89 }
theorem hd_X6_inconsistencies : yX6_inconsistencies.cls = RX6 ∧ yX6_inconsistencies.cls ≠ "java/lang/invoke/MethodHandle" ∧ yX6_inconsistencies.cls ≠ "java/lang/invoke/VarHandle" ∧ (parseMethodDescriptor yX6_inconsistencies.desc).map (fun d => d.parameters.length) = some 0 := by decide +kernel
set_option maxHeartbeats 2000000 in
theorem w_X6_inconsistencies_J45 {h : gH} {n : Nat} {o : Nat} {aM : (Nat → Int32)} {aS : (Nat → Int32)} {iU : Int32} {aB : (Nat → Int32)} {iL : Int32} {iE : Int32} {iP : Int32} {aR : (Nat → Int32)} {iW : Int32} {iT : Int32} {aT : (Nat → Int32)} {aC : (Nat → Int32)} {aH : (Nat → Int32)} {aE : (Nat → Int32)} {aQ : (Nat → Int32)} {iA : Int32} {iY : Int32} {iF : Int32} {iV : Int32} {aK : (Nat → Int32)} {r20 : Int32 → Int32 → Option (Int32 × Int32)} {z2 : Int32} {s0 : Int32} {s1 : Int32} {res : Int32 × Int32} (X : gXX x base RX6 cX6_inconsistencies 3 (some .int) p l s m args meth c) (Hr20 : ∀ {z1 : Int32} {z2 : Int32} {H : Heap} {locs : List Loc} {ls : Array Slot}, r20 z1 z2 = some res → gI x base s.heap (mH h o aM aS iU aB iL iE iP aR iW iT aT aC aH aE aQ iA iY iF iV aK) n H locs → lv_has ls 3 [(0, .ref o), (1, .int z1), (2, .int z2)] → W p l e rm_X6_inconsistencies s m args below meth c H locs 0 0 (MQ below (gQ x base (some (.int res.1)) (mH h o aM aS iU aB iL iE iP aR iW res.2 aT aC aH aE aQ iA iY iF iV aK) n) args s 0 0 (fun q => base ≤ q)) (F0 m 20 ls [])) {H : Heap} {locs : List Loc} {ls : Array Slot} (hr : f_X6_inconsistencies_J45 r20 z2 s0 s1 aM iT = some res) (hI : gI x base s.heap (mH h o aM aS iU aB iL iE iP aR iW iT aT aC aH aE aQ iA iY iF iV aK) n H locs) (hl : lv_has ls 3 [(0, .ref o), (2, .int z2)]) : W p l e rm_X6_inconsistencies s m args below meth c H locs 0 0 (MQ below (gQ x base (some (.int res.1)) (mH h o aM aS iU aB iL iE iP aR iW res.2 aT aC aH aE aQ iA iY iF iV aK) n) args s 0 0 (fun q => base ≤ q)) (F0 m 45 ls [.int s1, .int s0]) := by
  have hx := X.1
  have hb := X.2.1
  unfold f_X6_inconsistencies_J45 at hr
  refine lv_aload_n hx hb dX6_inconsistencies_45 rfl (lv_at hl 0 rfl) ?_
  refine lv_iload_n hx hb dX6_inconsistencies_46 rfl (lv_at hl 1 rfl) ?_
  obtain ⟨v8, hc7, hr⟩ := gB_i hr
  refine gRun_i (g_runV X hI (w_X6_sizeOf hc7) (g_obj_s mH_0) rfl hl (lw_V q1932 q1934 qs81 q122 q1935) rfl rfl hd_X6_sizeOf ⟨Nat.le_of_ble_eq_true rfl, Nat.le_of_ble_eq_true rfl⟩ (as := [.int z2]) (rest := [.int s1, .int s0]) rfl rfl (Nat.le_of_ble_eq_true rfl) ⟨(Nat.le_refl _), (Nat.le_refl _)⟩ dX6_inconsistencies_47) (fun H locs hI => ?_)
  refine lv_isub hx hb dX6_inconsistencies_50 ?_
  refine lv_iadd hx hb dX6_inconsistencies_51 ?_
  refine lv_istore_n (lv' := [(1, .int (s0 + (s1 - v8))), (0, .ref o), (2, .int z2)]) hx hb dX6_inconsistencies_52 rfl hl (by decide) rfl (fun ls hl => ?_)
  refine lv_iinc (v := (z2 + (1 : Int32))) (lv' := [(2, .int (z2 + (1 : Int32))), (1, .int (s0 + (s1 - v8))), (0, .ref o)]) hx hb dX6_inconsistencies_53 hl (k := 2) rfl (g_inc (by decide)) (by decide) rfl (fun ls hl => ?_)
  refine lv_goto (tgt := 20) hx hb dX6_inconsistencies_56 (by decide) ?_
  exact Hr20 hr hI (lv_sub hl [2, 1, 0] rfl)
set_option maxHeartbeats 2000000 in
theorem w_X6_inconsistencies_L20 {h : gH} {n : Nat} {o : Nat} {aM : (Nat → Int32)} {aS : (Nat → Int32)} {iU : Int32} {aB : (Nat → Int32)} {iL : Int32} {iE : Int32} {iP : Int32} {aR : (Nat → Int32)} {iW : Int32} {iT : Int32} {aT : (Nat → Int32)} {aC : (Nat → Int32)} {aH : (Nat → Int32)} {aE : (Nat → Int32)} {aQ : (Nat → Int32)} {iA : Int32} {iY : Int32} {iF : Int32} {iV : Int32} {aK : (Nat → Int32)} {res : Int32 × Int32} (X : gXX x base RX6 cX6_inconsistencies 3 (some .int) p l s m args meth c) : ∀ (k : Nat) {z1 : Int32} {z2 : Int32} {H : Heap} {locs : List Loc} {ls : Array Slot}, gL2 (f_X6_inconsistencies_L20 aM iT) k z1 z2 = some res → gI x base s.heap (mH h o aM aS iU aB iL iE iP aR iW iT aT aC aH aE aQ iA iY iF iV aK) n H locs → lv_has ls 3 [(0, .ref o), (1, .int z1), (2, .int z2)] → W p l e rm_X6_inconsistencies s m args below meth c H locs 0 0 (MQ below (gQ x base (some (.int res.1)) (mH h o aM aS iU aB iL iE iP aR iW res.2 aT aC aH aE aQ iA iY iF iV aK) n) args s 0 0 (fun q => base ≤ q)) (F0 m 20 ls []) := by
  have hx := X.1
  have hb := X.2.1
  intro k
  induction k with
  | zero =>
    intros
    rename_i hr _ _
    exact nomatch (show (none : Option _) = some _ from hr)
  | succ k ih =>
    intro z1 z2 H locs ls hr hI hl
    replace hr : f_X6_inconsistencies_L20 aM iT (gL2 (f_X6_inconsistencies_L20 aM iT) k) z1 z2 = some res := hr
    unfold f_X6_inconsistencies_L20 at hr
    refine lv_iload_n hx hb dX6_inconsistencies_20 rfl (lv_at hl 2 rfl) ?_
    refine lv_aload_n hx hb dX6_inconsistencies_21 rfl (lv_at hl 0 rfl) ?_
    refine m_get X hI mH_0 0 (by decide) q1652 rfl dX6_inconsistencies_22 ?_
    refine lv_iconst (v := 1) hx hb dX6_inconsistencies_25 (by decide) ?_
    refine m_iald X hI mH_aaM hr dX6_inconsistencies_26 (fun v4 hr => ?_)
    refine lv_icmp_ge (tgt := 59) hx hb dX6_inconsistencies_27 (by decide) (fun c9 => ?_) (fun c9 => ?_)
    · replace hr := gIf_t c9 hr
      refine lv_iload_n hx hb dX6_inconsistencies_59 rfl (lv_at hl 1 rfl) ?_
      have hr := gS_i hr
      subst hr
      exact g_iret X hI rfl (Nat.le_refl _) (Nat.le_refl _) dX6_inconsistencies_60
    · replace hr := gIf_f c9 hr
      refine lv_iload_n hx hb dX6_inconsistencies_30 rfl (lv_at hl 1 rfl) ?_
      refine lv_aload_n hx hb dX6_inconsistencies_31 rfl (lv_at hl 0 rfl) ?_
      refine lv_iload_n hx hb dX6_inconsistencies_32 rfl (lv_at hl 2 rfl) ?_
      refine lv_iload_n hx hb dX6_inconsistencies_33 rfl (lv_at hl 2 rfl) ?_
      obtain ⟨v6, hc5, hr⟩ := gB_i hr
      refine gRun_i (g_runV X hI (w_X6_hasEnvy hc5) (g_obj_s mH_0) rfl hl (lw_V q1796 q1798 qs59 q122 q1799) rfl rfl hd_X6_hasEnvy ⟨Nat.le_of_ble_eq_true rfl, Nat.le_of_ble_eq_true rfl⟩ (as := [.int z2, .int z2]) (rest := [.int z1]) rfl rfl (Nat.le_of_ble_eq_true rfl) ⟨(Nat.le_refl _), (Nat.le_refl _)⟩ dX6_inconsistencies_34) (fun H locs hI => ?_)
      refine lv_if_eq (tgt := 44) hx hb dX6_inconsistencies_37 (by decide) (fun c9 => ?_) (fun c9 => ?_)
      · replace hr := gIf_t c9 hr
        refine lv_iconst (v := 0) hx hb dX6_inconsistencies_44 (by decide) ?_
        exact w_X6_inconsistencies_J45 X ih hr hI (lv_sub hl [0, 2] rfl)
      · replace hr := gIf_f c9 hr
        refine lv_iconst (v := 1) hx hb dX6_inconsistencies_40 (by decide) ?_
        refine lv_goto (tgt := 45) hx hb dX6_inconsistencies_41 (by decide) ?_
        exact w_X6_inconsistencies_J45 X ih hr hI (lv_sub hl [0, 2] rfl)
set_option maxHeartbeats 2000000 in
theorem w_X6_inconsistencies {l : Launch} {x : gV} {base : Nat} {h : gH} {n : Nat} {o : Nat} {aM : (Nat → Int32)} {aS : (Nat → Int32)} {iU : Int32} {aB : (Nat → Int32)} {iL : Int32} {iE : Int32} {iP : Int32} {aR : (Nat → Int32)} {iW : Int32} {iT : Int32} {aT : (Nat → Int32)} {aC : (Nat → Int32)} {aH : (Nat → Int32)} {aE : (Nat → Int32)} {aQ : (Nat → Int32)} {iA : Int32} {iY : Int32} {iF : Int32} {iV : Int32} {aK : (Nat → Int32)} {res : Int32 × Int32} (hr : f_X6_inconsistencies aM iT = some res) : gM l yX6_inconsistencies (ws_ yX6_inconsistencies cX6_inconsistencies 3 (some .int)) rm_X6_inconsistencies x base [.ref o] (mH h o aM aS iU aB iL iE iP aR iW iT aT aC aH aE aQ iA iY iF iV aK) n (some (.int res.1)) (mH h o aM aS iU aB iL iE iP aR iW res.2 aT aC aH aE aQ iA iY iF iV aK) n 0 0 := by
  refine g_met (cc := cX6_inconsistencies) (nL := 3) (ret := (some .int)) (by decide) (Nat.le_of_ble_eq_true rfl) (fun p e s m below meth c ls X hnm hl hI => ?_)
  have hl : lv_has ls 3 [(0, .ref o)] := hl
  have hx := X.1
  have hb := X.2.1
  unfold f_X6_inconsistencies at hr
  refine lv_aload_n hx hb dX6_inconsistencies_0 rfl (lv_at hl 0 rfl) ?_
  refine lv_iconst (v := 0) hx hb dX6_inconsistencies_1 (by decide) ?_
  refine m_put X hI mH_0 9 (by decide) q1661 rfl (by decide +kernel) (Nat.le_of_ble_eq_true rfl) rfl mH_iT dX6_inconsistencies_2 (fun H locs hI => ?_)
  refine lv_aload_n hx hb dX6_inconsistencies_5 rfl (lv_at hl 0 rfl) ?_
  refine m_get X hI mH_0 0 (by decide) q1652 rfl dX6_inconsistencies_6 ?_
  refine lv_iconst (v := 0) hx hb dX6_inconsistencies_9 (by decide) ?_
  refine m_iald X hI mH_aaM hr dX6_inconsistencies_10 (fun v1 hr => ?_)
  refine lv_aload_n hx hb dX6_inconsistencies_11 rfl (lv_at hl 0 rfl) ?_
  refine lv_iconst (v := (-1)) hx hb dX6_inconsistencies_12 (by decide) ?_
  obtain ⟨v3, hc2, hr⟩ := gB_i hr
  refine gRun_i (g_runV X hI (w_X6_sizeOf hc2) (g_obj_s mH_0) rfl hl (lw_V q1932 q1934 qs81 q122 q1935) rfl rfl hd_X6_sizeOf ⟨Nat.le_of_ble_eq_true rfl, Nat.le_of_ble_eq_true rfl⟩ (as := [.int (-1 : Int32)]) (rest := [.int v1]) rfl rfl (Nat.le_of_ble_eq_true rfl) ⟨(Nat.le_refl _), (Nat.le_refl _)⟩ dX6_inconsistencies_13) (fun H locs hI => ?_)
  refine lv_isub hx hb dX6_inconsistencies_16 ?_
  refine lv_istore_n (lv' := [(1, .int (v1 - v3)), (0, .ref o)]) hx hb dX6_inconsistencies_17 rfl hl (by decide) rfl (fun ls hl => ?_)
  refine lv_iconst (v := 0) hx hb dX6_inconsistencies_18 (by decide) ?_
  refine lv_istore_n (lv' := [(2, .int (0 : Int32)), (1, .int (v1 - v3)), (0, .ref o)]) hx hb dX6_inconsistencies_19 rfl hl (by decide) rfl (fun ls hl => ?_)
  exact w_X6_inconsistencies_L20 X gN hr hI (lv_sub hl [2, 1, 0] rfl)
abbrev rm_X6_cutFor : Room := { frames := 4, cells := 0, slots := 0, locals := 93 }
theorem hd_X6_cutFor : yX6_cutFor.cls = RX6 ∧ yX6_cutFor.cls ≠ "java/lang/invoke/MethodHandle" ∧ yX6_cutFor.cls ≠ "java/lang/invoke/VarHandle" ∧ (parseMethodDescriptor yX6_cutFor.desc).map (fun d => d.parameters.length) = some 1 := by decide +kernel
set_option maxHeartbeats 2000000 in
theorem w_X6_cutFor_J14 {h : gH} {n : Nat} {o : Nat} {aM : (Nat → Int32)} {aS : (Nat → Int32)} {iU : Int32} {aB : (Nat → Int32)} {iL : Int32} {iE : Int32} {iP : Int32} {aR : (Nat → Int32)} {iW : Int32} {iT : Int32} {aT : (Nat → Int32)} {aC : (Nat → Int32)} {aH : (Nat → Int32)} {aE : (Nat → Int32)} {aQ : (Nat → Int32)} {iA : Int32} {iY : Int32} {iF : Int32} {iV : Int32} {aK : (Nat → Int32)} {z1 : Int32} {s1 : Int32} {res : Int32 × Int32} (X : gXX x base RX6 cX6_cutFor 2 (some .int) p l s m args meth c) {H : Heap} {locs : List Loc} {ls : Array Slot} (hr : f_X6_cutFor_J14 z1 s1 aM iT = some res) (hI : gI x base s.heap (mH h o aM aS iU aB iL iE iP aR iW iT aT aC aH aE aQ iA iY iF iV aK) n H locs) (hl : lv_has ls 2 [(0, .ref o), (1, .int z1)]) : W p l e rm_X6_cutFor s m args below meth c H locs 0 0 (MQ below (gQ x base (some (.int res.1)) (mH h o aM aS iU aB iL iE iP aR iW res.2 aT aC aH aE aQ iA iY iF iV aK) n) args s 0 0 (fun q => base ≤ q)) (F0 m 14 ls [.int s1, .ref o]) := by
  have hx := X.1
  have hb := X.2.1
  unfold f_X6_cutFor_J14 at hr
  refine lv_iconst (v := 0) hx hb dX6_cutFor_14 (by decide) ?_
  refine lv_iconst (v := 0) hx hb dX6_cutFor_15 (by decide) ?_
  obtain ⟨v4, iT_5, hc3, hr⟩ := gT2_i hr
  refine gRun_i (g_runV X hI (w_X6_fails hc3) (g_obj_s mH_0) rfl hl (lw_V q1717 q1719 qs45 q122 q1720) rfl rfl hd_X6_fails ⟨Nat.le_of_ble_eq_true rfl, Nat.le_of_ble_eq_true rfl⟩ (as := [.int s1, .int (0 : Int32), .int (0 : Int32)]) (rest := []) rfl rfl (Nat.le_of_ble_eq_true rfl) ⟨(Nat.le_refl _), (Nat.le_refl _)⟩ dX6_cutFor_16) (fun H locs hI => ?_)
  refine lv_if_eq (tgt := 24) hx hb dX6_cutFor_19 (by decide) (fun c9 => ?_) (fun c9 => ?_)
  · replace hr := gIf_t c9 hr
    refine lv_aload_n hx hb dX6_cutFor_24 rfl (lv_at hl 0 rfl) ?_
    refine lv_iload_n hx hb dX6_cutFor_25 rfl (lv_at hl 1 rfl) ?_
    obtain ⟨v7, hc6, hr⟩ := gB_i hr
    refine gRun_i (g_runV X hI (w_X6_cutOf hc6) (g_obj_s mH_0) rfl hl (lw_V q1832 q1834 qs68 q122 q1835) rfl rfl hd_X6_cutOf ⟨Nat.le_of_ble_eq_true rfl, Nat.le_of_ble_eq_true rfl⟩ (as := [.int z1]) (rest := []) rfl rfl (Nat.le_of_ble_eq_true rfl) ⟨(Nat.le_refl _), (Nat.le_refl _)⟩ dX6_cutFor_26) (fun H locs hI => ?_)
    have hr := gS_i hr
    subst hr
    exact g_iret X hI rfl (Nat.le_refl _) (Nat.le_refl _) dX6_cutFor_29
  · replace hr := gIf_f c9 hr
    refine lv_iconst (v := 0) hx hb dX6_cutFor_22 (by decide) ?_
    have hr := gS_i hr
    subst hr
    exact g_iret X hI rfl (Nat.le_refl _) (Nat.le_refl _) dX6_cutFor_23
set_option maxHeartbeats 2000000 in
theorem w_X6_cutFor {l : Launch} {x : gV} {base : Nat} {z1 : Int32} {h : gH} {n : Nat} {o : Nat} {aM : (Nat → Int32)} {aS : (Nat → Int32)} {iU : Int32} {aB : (Nat → Int32)} {iL : Int32} {iE : Int32} {iP : Int32} {aR : (Nat → Int32)} {iW : Int32} {iT : Int32} {aT : (Nat → Int32)} {aC : (Nat → Int32)} {aH : (Nat → Int32)} {aE : (Nat → Int32)} {aQ : (Nat → Int32)} {iA : Int32} {iY : Int32} {iF : Int32} {iV : Int32} {aK : (Nat → Int32)} {res : Int32 × Int32} (hr : f_X6_cutFor z1 aM iT = some res) : gM l yX6_cutFor (ws_ yX6_cutFor cX6_cutFor 2 (some .int)) rm_X6_cutFor x base [.ref o, .int z1] (mH h o aM aS iU aB iL iE iP aR iW iT aT aC aH aE aQ iA iY iF iV aK) n (some (.int res.1)) (mH h o aM aS iU aB iL iE iP aR iW res.2 aT aC aH aE aQ iA iY iF iV aK) n 0 0 := by
  refine g_met (cc := cX6_cutFor) (nL := 2) (ret := (some .int)) (by decide) (Nat.le_of_ble_eq_true rfl) (fun p e s m below meth c ls X hnm hl hI => ?_)
  have hl : lv_has ls 2 [(0, .ref o), (1, .int z1)] := hl
  have hx := X.1
  have hb := X.2.1
  unfold f_X6_cutFor at hr
  refine lv_aload_n hx hb dX6_cutFor_0 rfl (lv_at hl 0 rfl) ?_
  refine lv_aload_n hx hb dX6_cutFor_1 rfl (lv_at hl 0 rfl) ?_
  refine lv_iload_n hx hb dX6_cutFor_2 rfl (lv_at hl 1 rfl) ?_
  obtain ⟨v2, hc1, hr⟩ := gB_i hr
  refine gRun_i (g_runV X hI (w_X6_isSibling hc1) (g_obj_s mH_0) rfl hl (lw_V q1896 q1898 qs79 q122 q1899) rfl rfl hd_X6_isSibling ⟨Nat.le_of_ble_eq_true rfl, Nat.le_of_ble_eq_true rfl⟩ (as := [.int z1]) (rest := [.ref o]) rfl rfl (Nat.le_of_ble_eq_true rfl) ⟨(Nat.le_refl _), (Nat.le_refl _)⟩ dX6_cutFor_3) (fun H locs hI => ?_)
  refine lv_if_ne (tgt := 13) hx hb dX6_cutFor_6 (by decide) (fun c9 => ?_) (fun c9 => ?_)
  · replace hr := gIf_f c9 hr
    refine lv_iconst (v := 0) hx hb dX6_cutFor_13 (by decide) ?_
    exact w_X6_cutFor_J14 X hr hI (lv_sub hl [0, 1] rfl)
  · replace hr := gIf_t c9 hr
    refine lv_iconst (v := 1) hx hb dX6_cutFor_9 (by decide) ?_
    refine lv_goto (tgt := 14) hx hb dX6_cutFor_10 (by decide) ?_
    exact w_X6_cutFor_J14 X hr hI (lv_sub hl [0, 1] rfl)
abbrev rm_X6_welfareByKnife : Room := { frames := 6, cells := 0, slots := 0, locals := 137 }
theorem hd_X6_welfareByKnife : yX6_welfareByKnife.cls = RX6 ∧ yX6_welfareByKnife.cls ≠ "java/lang/invoke/MethodHandle" ∧ yX6_welfareByKnife.cls ≠ "java/lang/invoke/VarHandle" ∧ (parseMethodDescriptor yX6_welfareByKnife.desc).map (fun d => d.parameters.length) = some 1 := by decide +kernel
set_option maxHeartbeats 2000000 in
theorem w_X6_welfareByKnife_J14 {h : gH} {n : Nat} {o : Nat} {aM : (Nat → Int32)} {aS : (Nat → Int32)} {iU : Int32} {aB : (Nat → Int32)} {iL : Int32} {iE : Int32} {iP : Int32} {aR : (Nat → Int32)} {iW : Int32} {iT : Int32} {aT : (Nat → Int32)} {aC : (Nat → Int32)} {aH : (Nat → Int32)} {aE : (Nat → Int32)} {aQ : (Nat → Int32)} {iA : Int32} {iY : Int32} {iF : Int32} {iV : Int32} {aK : (Nat → Int32)} {z1 : Int32} {s1 : Int32} {res : Int32 × (Nat → Int32) × Int32 × (Nat → Int32)} (X : gXX x base RX6 cX6_welfareByKnife 3 (some .int) p l s m args meth c) {H : Heap} {locs : List Loc} {ls : Array Slot} (hr : f_X6_welfareByKnife_J14 z1 s1 aM iT aH = some res) (hI : gI x base s.heap (mH h o aM aS iU aB iL iE iP aR iW iT aT aC aH aE aQ iA iY iF iV aK) n H locs) (hl : lv_has ls 3 [(0, .ref o), (1, .int z1)]) : W p l e rm_X6_welfareByKnife s m args below meth c H locs 0 0 (MQ below (gQ x base (some (.int res.1)) (mH h o res.2.1 aS iU aB iL iE iP aR iW res.2.2.1 aT aC res.2.2.2 aE aQ iA iY iF iV aK) n) args s 0 0 (fun q => base ≤ q)) (F0 m 14 ls [.int s1, .ref o]) := by
  have hx := X.1
  have hb := X.2.1
  unfold f_X6_welfareByKnife_J14 at hr
  refine lv_iconst (v := 0) hx hb dX6_welfareByKnife_14 (by decide) ?_
  refine lv_iconst (v := 0) hx hb dX6_welfareByKnife_15 (by decide) ?_
  obtain ⟨v4, iT_5, hc3, hr⟩ := gT2_i hr
  refine gRun_i (g_runV X hI (w_X6_fails hc3) (g_obj_s mH_0) rfl hl (lw_V q1717 q1719 qs45 q122 q1720) rfl rfl hd_X6_fails ⟨Nat.le_of_ble_eq_true rfl, Nat.le_of_ble_eq_true rfl⟩ (as := [.int s1, .int (0 : Int32), .int (0 : Int32)]) (rest := []) rfl rfl (Nat.le_of_ble_eq_true rfl) ⟨(Nat.le_refl _), (Nat.le_refl _)⟩ dX6_welfareByKnife_16) (fun H locs hI => ?_)
  refine lv_if_eq (tgt := 24) hx hb dX6_welfareByKnife_19 (by decide) (fun c9 => ?_) (fun c9 => ?_)
  · replace hr := gIf_t c9 hr
    refine lv_aload_n hx hb dX6_welfareByKnife_24 rfl (lv_at hl 0 rfl) ?_
    refine lv_iconst (v := 0) hx hb dX6_welfareByKnife_25 (by decide) ?_
    refine lv_bipush (v := 9) hx hb dX6_welfareByKnife_26 (by decide) ?_
    obtain ⟨aM_7, hc6, hr⟩ := gB_i hr
    refine gRun_v (g_runV X hI (w_X6_copyBlock hc6) (g_obj_s mH_0) rfl hl (lw_V q1733 q1735 qs47 q122 q1736) rfl rfl hd_X6_copyBlock ⟨Nat.le_of_ble_eq_true rfl, Nat.le_of_ble_eq_true rfl⟩ (as := [.int (0 : Int32), .int (9 : Int32)]) (rest := []) rfl rfl (Nat.le_of_ble_eq_true rfl) ⟨(Nat.le_refl _), (Nat.le_refl _)⟩ dX6_welfareByKnife_28) (fun H locs hI => ?_)
    refine lv_aload_n hx hb dX6_welfareByKnife_31 rfl (lv_at hl 0 rfl) ?_
    obtain ⟨v9, aM_10, aH_11, hc8, hr⟩ := gT3_i hr
    refine gRun_i (g_runV X hI (w_X6_knife hc8) (g_obj_s mH_0) rfl hl (lw_V q1844 q1846 qs71 q122 q1847) rfl rfl hd_X6_knife ⟨Nat.le_of_ble_eq_true rfl, Nat.le_of_ble_eq_true rfl⟩ (as := []) (rest := []) rfl rfl (Nat.le_of_ble_eq_true rfl) ⟨(Nat.le_refl _), (Nat.le_refl _)⟩ dX6_welfareByKnife_32) (fun H locs hI => ?_)
    refine lv_pop hx hb dX6_welfareByKnife_35 rfl ?_
    refine lv_aload_n hx hb dX6_welfareByKnife_36 rfl (lv_at hl 0 rfl) ?_
    refine lv_iload_n hx hb dX6_welfareByKnife_37 rfl (lv_at hl 1 rfl) ?_
    obtain ⟨v13, hc12, hr⟩ := gB_i hr
    refine gRun_i (g_runV X hI (w_X6_welfareOf hc12) (g_obj_s mH_0) rfl hl (lw_V q1812 q1814 qs63 q122 q1815) rfl rfl hd_X6_welfareOf ⟨Nat.le_of_ble_eq_true rfl, Nat.le_of_ble_eq_true rfl⟩ (as := [.int z1]) (rest := []) rfl rfl (Nat.le_of_ble_eq_true rfl) ⟨(Nat.le_refl _), (Nat.le_refl _)⟩ dX6_welfareByKnife_38) (fun H locs hI => ?_)
    refine lv_istore_n (lv' := [(2, .int v13), (0, .ref o), (1, .int z1)]) hx hb dX6_welfareByKnife_41 rfl hl (by decide) rfl (fun ls hl => ?_)
    refine lv_aload_n hx hb dX6_welfareByKnife_42 rfl (lv_at hl 1 rfl) ?_
    refine lv_bipush (v := 9) hx hb dX6_welfareByKnife_43 (by decide) ?_
    refine lv_iconst (v := 0) hx hb dX6_welfareByKnife_45 (by decide) ?_
    obtain ⟨aM_15, hc14, hr⟩ := gB_i hr
    refine gRun_v (g_runV X hI (w_X6_copyBlock hc14) (g_obj_s mH_0) rfl hl (lw_V q1733 q1735 qs47 q122 q1736) rfl rfl hd_X6_copyBlock ⟨Nat.le_of_ble_eq_true rfl, Nat.le_of_ble_eq_true rfl⟩ (as := [.int (9 : Int32), .int (0 : Int32)]) (rest := []) rfl rfl (Nat.le_of_ble_eq_true rfl) ⟨(Nat.le_refl _), (Nat.le_refl _)⟩ dX6_welfareByKnife_46) (fun H locs hI => ?_)
    refine lv_iload_n hx hb dX6_welfareByKnife_49 rfl (lv_at hl 0 rfl) ?_
    have hr := gS_i hr
    subst hr
    exact g_iret X hI rfl (Nat.le_refl _) (Nat.le_refl _) dX6_welfareByKnife_50
  · replace hr := gIf_f c9 hr
    refine lv_iconst (v := 0) hx hb dX6_welfareByKnife_22 (by decide) ?_
    have hr := gS_i hr
    subst hr
    exact g_iret X hI rfl (Nat.le_refl _) (Nat.le_refl _) dX6_welfareByKnife_23
set_option maxHeartbeats 2000000 in
theorem w_X6_welfareByKnife {l : Launch} {x : gV} {base : Nat} {z1 : Int32} {h : gH} {n : Nat} {o : Nat} {aM : (Nat → Int32)} {aS : (Nat → Int32)} {iU : Int32} {aB : (Nat → Int32)} {iL : Int32} {iE : Int32} {iP : Int32} {aR : (Nat → Int32)} {iW : Int32} {iT : Int32} {aT : (Nat → Int32)} {aC : (Nat → Int32)} {aH : (Nat → Int32)} {aE : (Nat → Int32)} {aQ : (Nat → Int32)} {iA : Int32} {iY : Int32} {iF : Int32} {iV : Int32} {aK : (Nat → Int32)} {res : Int32 × (Nat → Int32) × Int32 × (Nat → Int32)} (hr : f_X6_welfareByKnife z1 aM iT aH = some res) : gM l yX6_welfareByKnife (ws_ yX6_welfareByKnife cX6_welfareByKnife 3 (some .int)) rm_X6_welfareByKnife x base [.ref o, .int z1] (mH h o aM aS iU aB iL iE iP aR iW iT aT aC aH aE aQ iA iY iF iV aK) n (some (.int res.1)) (mH h o res.2.1 aS iU aB iL iE iP aR iW res.2.2.1 aT aC res.2.2.2 aE aQ iA iY iF iV aK) n 0 0 := by
  refine g_met (cc := cX6_welfareByKnife) (nL := 3) (ret := (some .int)) (by decide) (Nat.le_of_ble_eq_true rfl) (fun p e s m below meth c ls X hnm hl hI => ?_)
  have hl : lv_has ls 3 [(0, .ref o), (1, .int z1)] := hl
  have hx := X.1
  have hb := X.2.1
  unfold f_X6_welfareByKnife at hr
  refine lv_aload_n hx hb dX6_welfareByKnife_0 rfl (lv_at hl 0 rfl) ?_
  refine lv_aload_n hx hb dX6_welfareByKnife_1 rfl (lv_at hl 0 rfl) ?_
  refine lv_iload_n hx hb dX6_welfareByKnife_2 rfl (lv_at hl 1 rfl) ?_
  obtain ⟨v2, hc1, hr⟩ := gB_i hr
  refine gRun_i (g_runV X hI (w_X6_isSibling hc1) (g_obj_s mH_0) rfl hl (lw_V q1896 q1898 qs79 q122 q1899) rfl rfl hd_X6_isSibling ⟨Nat.le_of_ble_eq_true rfl, Nat.le_of_ble_eq_true rfl⟩ (as := [.int z1]) (rest := [.ref o]) rfl rfl (Nat.le_of_ble_eq_true rfl) ⟨(Nat.le_refl _), (Nat.le_refl _)⟩ dX6_welfareByKnife_3) (fun H locs hI => ?_)
  refine lv_if_ne (tgt := 13) hx hb dX6_welfareByKnife_6 (by decide) (fun c9 => ?_) (fun c9 => ?_)
  · replace hr := gIf_f c9 hr
    refine lv_iconst (v := 0) hx hb dX6_welfareByKnife_13 (by decide) ?_
    exact w_X6_welfareByKnife_J14 X hr hI (lv_sub hl [0, 1] rfl)
  · replace hr := gIf_t c9 hr
    refine lv_iconst (v := 1) hx hb dX6_welfareByKnife_9 (by decide) ?_
    refine lv_goto (tgt := 14) hx hb dX6_welfareByKnife_10 (by decide) ?_
    exact w_X6_welfareByKnife_J14 X hr hI (lv_sub hl [0, 1] rfl)
abbrev rm_X6_welfareByRobin : Room := { frames := 3, cells := 0, slots := 0, locals := 69 }
theorem hd_X6_welfareByRobin : yX6_welfareByRobin.cls = RX6 ∧ yX6_welfareByRobin.cls ≠ "java/lang/invoke/MethodHandle" ∧ yX6_welfareByRobin.cls ≠ "java/lang/invoke/VarHandle" ∧ (parseMethodDescriptor yX6_welfareByRobin.desc).map (fun d => d.parameters.length) = some 2 := by decide +kernel
set_option maxHeartbeats 2000000 in
theorem w_X6_welfareByRobin_J15 {h : gH} {n : Nat} {o : Nat} {aM : (Nat → Int32)} {aS : (Nat → Int32)} {iU : Int32} {aB : (Nat → Int32)} {iL : Int32} {iE : Int32} {iP : Int32} {aR : (Nat → Int32)} {iW : Int32} {iT : Int32} {aT : (Nat → Int32)} {aC : (Nat → Int32)} {aH : (Nat → Int32)} {aE : (Nat → Int32)} {aQ : (Nat → Int32)} {iA : Int32} {iY : Int32} {iF : Int32} {iV : Int32} {aK : (Nat → Int32)} {z1 : Int32} {z2 : Int32} {s1 : Int32} {res : Int32 × (Nat → Int32) × Int32} (X : gXX x base RX6 cX6_welfareByRobin 4 (some .int) p l s m args meth c) {H : Heap} {locs : List Loc} {ls : Array Slot} (hr : f_X6_welfareByRobin_J15 z1 z2 s1 aM iT = some res) (hI : gI x base s.heap (mH h o aM aS iU aB iL iE iP aR iW iT aT aC aH aE aQ iA iY iF iV aK) n H locs) (hl : lv_has ls 4 [(0, .ref o), (1, .int z1), (2, .int z2)]) : W p l e rm_X6_welfareByRobin s m args below meth c H locs 0 0 (MQ below (gQ x base (some (.int res.1)) (mH h o res.2.1 aS iU aB iL iE iP aR iW res.2.2 aT aC aH aE aQ iA iY iF iV aK) n) args s 0 0 (fun q => base ≤ q)) (F0 m 15 ls [.int s1, .ref o]) := by
  have hx := X.1
  have hb := X.2.1
  unfold f_X6_welfareByRobin_J15 at hr
  refine lv_iconst (v := 0) hx hb dX6_welfareByRobin_15 (by decide) ?_
  refine lv_iconst (v := 0) hx hb dX6_welfareByRobin_16 (by decide) ?_
  obtain ⟨v4, iT_5, hc3, hr⟩ := gT2_i hr
  refine gRun_i (g_runV X hI (w_X6_fails hc3) (g_obj_s mH_0) rfl hl (lw_V q1717 q1719 qs45 q122 q1720) rfl rfl hd_X6_fails ⟨Nat.le_of_ble_eq_true rfl, Nat.le_of_ble_eq_true rfl⟩ (as := [.int s1, .int (0 : Int32), .int (0 : Int32)]) (rest := []) rfl rfl (Nat.le_of_ble_eq_true rfl) ⟨(Nat.le_refl _), (Nat.le_refl _)⟩ dX6_welfareByRobin_17) (fun H locs hI => ?_)
  refine lv_if_eq (tgt := 25) hx hb dX6_welfareByRobin_20 (by decide) (fun c9 => ?_) (fun c9 => ?_)
  · replace hr := gIf_t c9 hr
    refine lv_aload_n hx hb dX6_welfareByRobin_25 rfl (lv_at hl 0 rfl) ?_
    refine lv_iconst (v := 0) hx hb dX6_welfareByRobin_26 (by decide) ?_
    refine lv_bipush (v := 9) hx hb dX6_welfareByRobin_27 (by decide) ?_
    obtain ⟨aM_7, hc6, hr⟩ := gB_i hr
    refine gRun_v (g_runV X hI (w_X6_copyBlock hc6) (g_obj_s mH_0) rfl hl (lw_V q1733 q1735 qs47 q122 q1736) rfl rfl hd_X6_copyBlock ⟨Nat.le_of_ble_eq_true rfl, Nat.le_of_ble_eq_true rfl⟩ (as := [.int (0 : Int32), .int (9 : Int32)]) (rest := []) rfl rfl (Nat.le_of_ble_eq_true rfl) ⟨(Nat.le_refl _), (Nat.le_refl _)⟩ dX6_welfareByRobin_29) (fun H locs hI => ?_)
    refine lv_aload_n hx hb dX6_welfareByRobin_32 rfl (lv_at hl 0 rfl) ?_
    obtain ⟨aM_9, hc8, hr⟩ := gB_i hr
    refine gRun_v (g_runV X hI (w_X6_clear hc8) (g_obj_s mH_0) rfl hl (lw_V q1635 q1637 qs41 q122 q1638) rfl rfl hd_X6_clear ⟨Nat.le_of_ble_eq_true rfl, Nat.le_of_ble_eq_true rfl⟩ (as := []) (rest := []) rfl rfl (Nat.le_of_ble_eq_true rfl) ⟨(Nat.le_refl _), (Nat.le_refl _)⟩ dX6_welfareByRobin_33) (fun H locs hI => ?_)
    refine lv_aload_n hx hb dX6_welfareByRobin_36 rfl (lv_at hl 0 rfl) ?_
    refine lv_iload_n hx hb dX6_welfareByRobin_37 rfl (lv_at hl 2 rfl) ?_
    obtain ⟨v11, aM_12, hc10, hr⟩ := gT2_i hr
    refine gRun_i (g_runV X hI (w_X6_robin hc10) (g_obj_s mH_0) rfl hl (lw_V q1860 q1862 qs75 q122 q1863) rfl rfl hd_X6_robin ⟨Nat.le_of_ble_eq_true rfl, Nat.le_of_ble_eq_true rfl⟩ (as := [.int z2]) (rest := []) rfl rfl (Nat.le_of_ble_eq_true rfl) ⟨(Nat.le_refl _), (Nat.le_refl _)⟩ dX6_welfareByRobin_38) (fun H locs hI => ?_)
    refine lv_pop hx hb dX6_welfareByRobin_41 rfl ?_
    refine lv_aload_n hx hb dX6_welfareByRobin_42 rfl (lv_at hl 0 rfl) ?_
    refine lv_iload_n hx hb dX6_welfareByRobin_43 rfl (lv_at hl 1 rfl) ?_
    obtain ⟨v14, hc13, hr⟩ := gB_i hr
    refine gRun_i (g_runV X hI (w_X6_welfareOf hc13) (g_obj_s mH_0) rfl hl (lw_V q1812 q1814 qs63 q122 q1815) rfl rfl hd_X6_welfareOf ⟨Nat.le_of_ble_eq_true rfl, Nat.le_of_ble_eq_true rfl⟩ (as := [.int z1]) (rest := []) rfl rfl (Nat.le_of_ble_eq_true rfl) ⟨(Nat.le_refl _), (Nat.le_refl _)⟩ dX6_welfareByRobin_44) (fun H locs hI => ?_)
    refine lv_istore_n (lv' := [(3, .int v14), (0, .ref o), (1, .int z1), (2, .int z2)]) hx hb dX6_welfareByRobin_47 rfl hl (by decide) rfl (fun ls hl => ?_)
    refine lv_aload_n hx hb dX6_welfareByRobin_48 rfl (lv_at hl 1 rfl) ?_
    refine lv_bipush (v := 9) hx hb dX6_welfareByRobin_49 (by decide) ?_
    refine lv_iconst (v := 0) hx hb dX6_welfareByRobin_51 (by decide) ?_
    obtain ⟨aM_16, hc15, hr⟩ := gB_i hr
    refine gRun_v (g_runV X hI (w_X6_copyBlock hc15) (g_obj_s mH_0) rfl hl (lw_V q1733 q1735 qs47 q122 q1736) rfl rfl hd_X6_copyBlock ⟨Nat.le_of_ble_eq_true rfl, Nat.le_of_ble_eq_true rfl⟩ (as := [.int (9 : Int32), .int (0 : Int32)]) (rest := []) rfl rfl (Nat.le_of_ble_eq_true rfl) ⟨(Nat.le_refl _), (Nat.le_refl _)⟩ dX6_welfareByRobin_52) (fun H locs hI => ?_)
    refine lv_iload_n hx hb dX6_welfareByRobin_55 rfl (lv_at hl 0 rfl) ?_
    have hr := gS_i hr
    subst hr
    exact g_iret X hI rfl (Nat.le_refl _) (Nat.le_refl _) dX6_welfareByRobin_56
  · replace hr := gIf_f c9 hr
    refine lv_iconst (v := 0) hx hb dX6_welfareByRobin_23 (by decide) ?_
    have hr := gS_i hr
    subst hr
    exact g_iret X hI rfl (Nat.le_refl _) (Nat.le_refl _) dX6_welfareByRobin_24
set_option maxHeartbeats 2000000 in
theorem w_X6_welfareByRobin {l : Launch} {x : gV} {base : Nat} {z1 : Int32} {z2 : Int32} {h : gH} {n : Nat} {o : Nat} {aM : (Nat → Int32)} {aS : (Nat → Int32)} {iU : Int32} {aB : (Nat → Int32)} {iL : Int32} {iE : Int32} {iP : Int32} {aR : (Nat → Int32)} {iW : Int32} {iT : Int32} {aT : (Nat → Int32)} {aC : (Nat → Int32)} {aH : (Nat → Int32)} {aE : (Nat → Int32)} {aQ : (Nat → Int32)} {iA : Int32} {iY : Int32} {iF : Int32} {iV : Int32} {aK : (Nat → Int32)} {res : Int32 × (Nat → Int32) × Int32} (hr : f_X6_welfareByRobin z1 z2 aM iT = some res) : gM l yX6_welfareByRobin (ws_ yX6_welfareByRobin cX6_welfareByRobin 4 (some .int)) rm_X6_welfareByRobin x base [.ref o, .int z1, .int z2] (mH h o aM aS iU aB iL iE iP aR iW iT aT aC aH aE aQ iA iY iF iV aK) n (some (.int res.1)) (mH h o res.2.1 aS iU aB iL iE iP aR iW res.2.2 aT aC aH aE aQ iA iY iF iV aK) n 0 0 := by
  refine g_met (cc := cX6_welfareByRobin) (nL := 4) (ret := (some .int)) (by decide) (Nat.le_of_ble_eq_true rfl) (fun p e s m below meth c ls X hnm hl hI => ?_)
  have hl : lv_has ls 4 [(0, .ref o), (1, .int z1), (2, .int z2)] := hl
  have hx := X.1
  have hb := X.2.1
  unfold f_X6_welfareByRobin at hr
  refine lv_aload_n hx hb dX6_welfareByRobin_0 rfl (lv_at hl 0 rfl) ?_
  refine lv_aload_n hx hb dX6_welfareByRobin_1 rfl (lv_at hl 0 rfl) ?_
  refine lv_iload_n hx hb dX6_welfareByRobin_2 rfl (lv_at hl 1 rfl) ?_
  refine lv_iload_n hx hb dX6_welfareByRobin_3 rfl (lv_at hl 2 rfl) ?_
  obtain ⟨v2, hc1, hr⟩ := gB_i hr
  refine gRun_i (g_runV X hI (w_X6_areSiblings hc1) (g_obj_s mH_0) rfl hl (lw_V q1924 q1926 qs80 q122 q1927) rfl rfl hd_X6_areSiblings ⟨Nat.le_of_ble_eq_true rfl, Nat.le_of_ble_eq_true rfl⟩ (as := [.int z1, .int z2]) (rest := [.ref o]) rfl rfl (Nat.le_of_ble_eq_true rfl) ⟨(Nat.le_refl _), (Nat.le_refl _)⟩ dX6_welfareByRobin_4) (fun H locs hI => ?_)
  refine lv_if_ne (tgt := 14) hx hb dX6_welfareByRobin_7 (by decide) (fun c9 => ?_) (fun c9 => ?_)
  · replace hr := gIf_f c9 hr
    refine lv_iconst (v := 0) hx hb dX6_welfareByRobin_14 (by decide) ?_
    exact w_X6_welfareByRobin_J15 X hr hI (lv_sub hl [0, 1, 2] rfl)
  · replace hr := gIf_t c9 hr
    refine lv_iconst (v := 1) hx hb dX6_welfareByRobin_10 (by decide) ?_
    refine lv_goto (tgt := 15) hx hb dX6_welfareByRobin_11 (by decide) ?_
    exact w_X6_welfareByRobin_J15 X hr hI (lv_sub hl [0, 1, 2] rfl)
abbrev rm_X6_bestFirst : Room := { frames := 4, cells := 0, slots := 0, locals := 89 }
theorem hd_X6_bestFirst : yX6_bestFirst.cls = RX6 ∧ yX6_bestFirst.cls ≠ "java/lang/invoke/MethodHandle" ∧ yX6_bestFirst.cls ≠ "java/lang/invoke/VarHandle" ∧ (parseMethodDescriptor yX6_bestFirst.desc).map (fun d => d.parameters.length) = some 0 := by decide +kernel
set_option maxHeartbeats 2000000 in
theorem w_X6_bestFirst_L18 {h : gH} {n : Nat} {o : Nat} {aS : (Nat → Int32)} {iU : Int32} {aB : (Nat → Int32)} {iL : Int32} {iE : Int32} {iP : Int32} {aR : (Nat → Int32)} {iW : Int32} {iT : Int32} {aT : (Nat → Int32)} {aC : (Nat → Int32)} {aH : (Nat → Int32)} {aE : (Nat → Int32)} {aQ : (Nat → Int32)} {iA : Int32} {iY : Int32} {iF : Int32} {iV : Int32} {aK : (Nat → Int32)} {res : Int32 × (Nat → Int32) × Int32} (X : gXX x base RX6 cX6_bestFirst 4 (some .int) p l s m args meth c) : ∀ (k : Nat) {z1 : Int32} {z2 : Int32} {z3 : Int32} {aM : (Nat → Int32)} {H : Heap} {locs : List Loc} {ls : Array Slot}, gL4 (f_X6_bestFirst_L18 iT) k z1 z2 z3 aM = some res → gI x base s.heap (mH h o aM aS iU aB iL iE iP aR iW iT aT aC aH aE aQ iA iY iF iV aK) n H locs → lv_has ls 4 [(0, .ref o), (1, .int z1), (2, .int z2), (3, .int z3)] → W p l e rm_X6_bestFirst s m args below meth c H locs 0 0 (MQ below (gQ x base (some (.int res.1)) (mH h o res.2.1 aS iU aB iL iE iP aR iW res.2.2 aT aC aH aE aQ iA iY iF iV aK) n) args s 0 0 (fun q => base ≤ q)) (F0 m 18 ls []) := by
  have hx := X.1
  have hb := X.2.1
  intro k
  induction k with
  | zero =>
    intros
    rename_i hr _ _
    exact nomatch (show (none : Option _) = some _ from hr)
  | succ k ih =>
    intro z1 z2 z3 aM H locs ls hr hI hl
    replace hr : f_X6_bestFirst_L18 iT (gL4 (f_X6_bestFirst_L18 iT) k) z1 z2 z3 aM = some res := hr
    unfold f_X6_bestFirst_L18 at hr
    refine lv_iload_n hx hb dX6_bestFirst_18 rfl (lv_at hl 3 rfl) ?_
    refine lv_aload_n hx hb dX6_bestFirst_19 rfl (lv_at hl 0 rfl) ?_
    refine m_get X hI mH_0 0 (by decide) q1652 rfl dX6_bestFirst_20 ?_
    refine lv_iconst (v := 1) hx hb dX6_bestFirst_23 (by decide) ?_
    refine m_iald X hI mH_aaM hr dX6_bestFirst_24 (fun v3 hr => ?_)
    refine lv_icmp_ge (tgt := 62) hx hb dX6_bestFirst_25 (by decide) (fun c9 => ?_) (fun c9 => ?_)
    · replace hr := gIf_t c9 hr
      refine lv_aload_n hx hb dX6_bestFirst_62 rfl (lv_at hl 0 rfl) ?_
      refine lv_bipush (v := 9) hx hb dX6_bestFirst_63 (by decide) ?_
      refine lv_iconst (v := 0) hx hb dX6_bestFirst_65 (by decide) ?_
      obtain ⟨aM_5, hc4, hr⟩ := gB_i hr
      refine gRun_v (g_runV X hI (w_X6_copyBlock hc4) (g_obj_s mH_0) rfl hl (lw_V q1733 q1735 qs47 q122 q1736) rfl rfl hd_X6_copyBlock ⟨Nat.le_of_ble_eq_true rfl, Nat.le_of_ble_eq_true rfl⟩ (as := [.int (9 : Int32), .int (0 : Int32)]) (rest := []) rfl rfl (Nat.le_of_ble_eq_true rfl) ⟨(Nat.le_refl _), (Nat.le_refl _)⟩ dX6_bestFirst_66) (fun H locs hI => ?_)
      refine lv_iload_n hx hb dX6_bestFirst_69 rfl (lv_at hl 1 rfl) ?_
      have hr := gS_i hr
      subst hr
      exact g_iret X hI rfl (Nat.le_refl _) (Nat.le_refl _) dX6_bestFirst_70
    · replace hr := gIf_f c9 hr
      refine lv_aload_n hx hb dX6_bestFirst_28 rfl (lv_at hl 0 rfl) ?_
      obtain ⟨aM_7, hc6, hr⟩ := gB_i hr
      refine gRun_v (g_runV X hI (w_X6_clear hc6) (g_obj_s mH_0) rfl hl (lw_V q1635 q1637 qs41 q122 q1638) rfl rfl hd_X6_clear ⟨Nat.le_of_ble_eq_true rfl, Nat.le_of_ble_eq_true rfl⟩ (as := []) (rest := []) rfl rfl (Nat.le_of_ble_eq_true rfl) ⟨(Nat.le_refl _), (Nat.le_refl _)⟩ dX6_bestFirst_29) (fun H locs hI => ?_)
      refine lv_aload_n hx hb dX6_bestFirst_32 rfl (lv_at hl 0 rfl) ?_
      refine lv_iload_n hx hb dX6_bestFirst_33 rfl (lv_at hl 3 rfl) ?_
      obtain ⟨v9, aM_10, hc8, hr⟩ := gT2_i hr
      refine gRun_i (g_runV X hI (w_X6_robin hc8) (g_obj_s mH_0) rfl hl (lw_V q1860 q1862 qs75 q122 q1863) rfl rfl hd_X6_robin ⟨Nat.le_of_ble_eq_true rfl, Nat.le_of_ble_eq_true rfl⟩ (as := [.int z3]) (rest := []) rfl rfl (Nat.le_of_ble_eq_true rfl) ⟨(Nat.le_refl _), (Nat.le_refl _)⟩ dX6_bestFirst_34) (fun H locs hI => ?_)
      refine lv_pop hx hb dX6_bestFirst_37 rfl ?_
      refine lv_aload_n hx hb dX6_bestFirst_38 rfl (lv_at hl 0 rfl) ?_
      obtain ⟨v12, hc11, hr⟩ := gB_i hr
      refine gRun_i (g_runV X hI (w_X6_least hc11) (g_obj_s mH_0) rfl hl (lw_V q2016 q2018 qs86 q122 q2019) rfl rfl hd_X6_least ⟨Nat.le_of_ble_eq_true rfl, Nat.le_of_ble_eq_true rfl⟩ (as := []) (rest := []) rfl rfl (Nat.le_of_ble_eq_true rfl) ⟨(Nat.le_refl _), (Nat.le_refl _)⟩ dX6_bestFirst_39) (fun H locs hI => ?_)
      refine lv_iload_n hx hb dX6_bestFirst_42 rfl (lv_at hl 2 rfl) ?_
      refine lv_icmp_gt (tgt := 49) hx hb dX6_bestFirst_43 (by decide) (fun c9 => ?_) (fun c9 => ?_)
      · replace hr := gIf_t c9 hr
        refine lv_iload_n hx hb dX6_bestFirst_49 rfl (lv_at hl 3 rfl) ?_
        refine lv_istore_n (lv' := [(1, .int z3), (0, .ref o), (2, .int z2), (3, .int z3)]) hx hb dX6_bestFirst_50 rfl hl (by decide) rfl (fun ls hl => ?_)
        refine lv_aload_n hx hb dX6_bestFirst_51 rfl (lv_at hl 1 rfl) ?_
        obtain ⟨v14, hc13, hr⟩ := gB_i hr
        refine gRun_i (g_runV X hI (w_X6_least hc13) (g_obj_s mH_0) rfl hl (lw_V q2016 q2018 qs86 q122 q2019) rfl rfl hd_X6_least ⟨Nat.le_of_ble_eq_true rfl, Nat.le_of_ble_eq_true rfl⟩ (as := []) (rest := []) rfl rfl (Nat.le_of_ble_eq_true rfl) ⟨(Nat.le_refl _), (Nat.le_refl _)⟩ dX6_bestFirst_52) (fun H locs hI => ?_)
        refine lv_istore_n (lv' := [(2, .int v14), (1, .int z3), (0, .ref o), (3, .int z3)]) hx hb dX6_bestFirst_55 rfl hl (by decide) rfl (fun ls hl => ?_)
        refine lv_iinc (v := (z3 + (1 : Int32))) (lv' := [(3, .int (z3 + (1 : Int32))), (2, .int v14), (1, .int z3), (0, .ref o)]) hx hb dX6_bestFirst_56 hl (k := 3) rfl (g_inc (by decide)) (by decide) rfl (fun ls hl => ?_)
        refine lv_goto (tgt := 18) hx hb dX6_bestFirst_59 (by decide) ?_
        exact ih hr hI (lv_sub hl [3, 2, 1, 0] rfl)
      · replace hr := gIf_f c9 hr
        refine lv_goto (tgt := 56) hx hb dX6_bestFirst_46 (by decide) ?_
        refine lv_iinc (v := (z3 + (1 : Int32))) (lv' := [(3, .int (z3 + (1 : Int32))), (0, .ref o), (1, .int z1), (2, .int z2)]) hx hb dX6_bestFirst_56 hl (k := 3) rfl (g_inc (by decide)) (by decide) rfl (fun ls hl => ?_)
        refine lv_goto (tgt := 18) hx hb dX6_bestFirst_59 (by decide) ?_
        exact ih hr hI (lv_sub hl [1, 2, 3, 0] rfl)
set_option maxHeartbeats 2000000 in
theorem w_X6_bestFirst {l : Launch} {x : gV} {base : Nat} {h : gH} {n : Nat} {o : Nat} {aM : (Nat → Int32)} {aS : (Nat → Int32)} {iU : Int32} {aB : (Nat → Int32)} {iL : Int32} {iE : Int32} {iP : Int32} {aR : (Nat → Int32)} {iW : Int32} {iT : Int32} {aT : (Nat → Int32)} {aC : (Nat → Int32)} {aH : (Nat → Int32)} {aE : (Nat → Int32)} {aQ : (Nat → Int32)} {iA : Int32} {iY : Int32} {iF : Int32} {iV : Int32} {aK : (Nat → Int32)} {res : Int32 × (Nat → Int32) × Int32} (hr : f_X6_bestFirst aM iT = some res) : gM l yX6_bestFirst (ws_ yX6_bestFirst cX6_bestFirst 4 (some .int)) rm_X6_bestFirst x base [.ref o] (mH h o aM aS iU aB iL iE iP aR iW iT aT aC aH aE aQ iA iY iF iV aK) n (some (.int res.1)) (mH h o res.2.1 aS iU aB iL iE iP aR iW res.2.2 aT aC aH aE aQ iA iY iF iV aK) n 0 0 := by
  refine g_met (cc := cX6_bestFirst) (nL := 4) (ret := (some .int)) (by decide) (Nat.le_of_ble_eq_true rfl) (fun p e s m below meth c ls X hnm hl hI => ?_)
  have hl : lv_has ls 4 [(0, .ref o)] := hl
  have hx := X.1
  have hb := X.2.1
  unfold f_X6_bestFirst at hr
  refine lv_aload_n hx hb dX6_bestFirst_0 rfl (lv_at hl 0 rfl) ?_
  refine lv_iconst (v := 0) hx hb dX6_bestFirst_1 (by decide) ?_
  refine m_put X hI mH_0 9 (by decide) q1661 rfl (by decide +kernel) (Nat.le_of_ble_eq_true rfl) rfl mH_iT dX6_bestFirst_2 (fun H locs hI => ?_)
  refine lv_aload_n hx hb dX6_bestFirst_5 rfl (lv_at hl 0 rfl) ?_
  refine lv_iconst (v := 0) hx hb dX6_bestFirst_6 (by decide) ?_
  refine lv_bipush (v := 9) hx hb dX6_bestFirst_7 (by decide) ?_
  obtain ⟨aM_2, hc1, hr⟩ := gB_i hr
  refine gRun_v (g_runV X hI (w_X6_copyBlock hc1) (g_obj_s mH_0) rfl hl (lw_V q1733 q1735 qs47 q122 q1736) rfl rfl hd_X6_copyBlock ⟨Nat.le_of_ble_eq_true rfl, Nat.le_of_ble_eq_true rfl⟩ (as := [.int (0 : Int32), .int (9 : Int32)]) (rest := []) rfl rfl (Nat.le_of_ble_eq_true rfl) ⟨(Nat.le_refl _), (Nat.le_refl _)⟩ dX6_bestFirst_9) (fun H locs hI => ?_)
  refine lv_iconst (v := (-1)) hx hb dX6_bestFirst_12 (by decide) ?_
  refine lv_istore_n (lv' := [(1, .int (-1 : Int32)), (0, .ref o)]) hx hb dX6_bestFirst_13 rfl hl (by decide) rfl (fun ls hl => ?_)
  refine lv_iconst (v := (-1)) hx hb dX6_bestFirst_14 (by decide) ?_
  refine lv_istore_n (lv' := [(2, .int (-1 : Int32)), (1, .int (-1 : Int32)), (0, .ref o)]) hx hb dX6_bestFirst_15 rfl hl (by decide) rfl (fun ls hl => ?_)
  refine lv_iconst (v := 0) hx hb dX6_bestFirst_16 (by decide) ?_
  refine lv_istore_n (lv' := [(3, .int (0 : Int32)), (2, .int (-1 : Int32)), (1, .int (-1 : Int32)), (0, .ref o)]) hx hb dX6_bestFirst_17 rfl hl (by decide) rfl (fun ls hl => ?_)
  exact w_X6_bestFirst_L18 X gN hr hI (lv_sub hl [3, 2, 1, 0] rfl)
abbrev rm_X6_give : Room := { frames := 3, cells := 0, slots := 0, locals := 67 }
theorem hd_X6_give : yX6_give.cls = RX6 ∧ yX6_give.cls ≠ "java/lang/invoke/MethodHandle" ∧ yX6_give.cls ≠ "java/lang/invoke/VarHandle" ∧ (parseMethodDescriptor yX6_give.desc).map (fun d => d.parameters.length) = some 3 := by decide +kernel
set_option maxHeartbeats 2000000 in
theorem w_X6_give_J28 {h : gH} {n : Nat} {o : Nat} {aM : (Nat → Int32)} {aS : (Nat → Int32)} {iU : Int32} {aB : (Nat → Int32)} {iL : Int32} {iE : Int32} {iP : Int32} {aR : (Nat → Int32)} {iW : Int32} {iT : Int32} {aT : (Nat → Int32)} {aC : (Nat → Int32)} {aH : (Nat → Int32)} {aE : (Nat → Int32)} {aQ : (Nat → Int32)} {iA : Int32} {iY : Int32} {iF : Int32} {iV : Int32} {aK : (Nat → Int32)} {z1 : Int32} {z2 : Int32} {z3 : Int32} {s1 : Int32} {s2 : Int32} {res : Int32 × (Nat → Int32) × Int32 × Int32} (X : gXX x base RX6 cX6_give 4 (some .int) p l s m args meth c) {H : Heap} {locs : List Loc} {ls : Array Slot} (hr : f_X6_give_J28 z1 z2 z3 s1 s2 aM iU iT = some res) (hI : gI x base s.heap (mH h o aM aS iU aB iL iE iP aR iW iT aT aC aH aE aQ iA iY iF iV aK) n H locs) (hl : lv_has ls 4 [(0, .ref o), (1, .int z1), (2, .int z2), (3, .int z3)]) : W p l e rm_X6_give s m args below meth c H locs 0 0 (MQ below (gQ x base (some (.int res.1)) (mH h o res.2.1 aS res.2.2.1 aB iL iE iP aR iW res.2.2.2 aT aC aH aE aQ iA iY iF iV aK) n) args s 0 0 (fun q => base ≤ q)) (F0 m 28 ls [.int s2, .int s1, .ref o]) := by
  have hx := X.1
  have hb := X.2.1
  unfold f_X6_give_J28 at hr
  refine lv_iconst (v := 0) hx hb dX6_give_28 (by decide) ?_
  obtain ⟨v6, iT_7, hc5, hr⟩ := gT2_i hr
  refine gRun_i (g_runV X hI (w_X6_fails hc5) (g_obj_s mH_0) rfl hl (lw_V q1717 q1719 qs45 q122 q1720) rfl rfl hd_X6_fails ⟨Nat.le_of_ble_eq_true rfl, Nat.le_of_ble_eq_true rfl⟩ (as := [.int s1, .int s2, .int (0 : Int32)]) (rest := []) rfl rfl (Nat.le_of_ble_eq_true rfl) ⟨(Nat.le_refl _), (Nat.le_refl _)⟩ dX6_give_29) (fun H locs hI => ?_)
  refine lv_if_eq (tgt := 37) hx hb dX6_give_32 (by decide) (fun c9 => ?_) (fun c9 => ?_)
  · replace hr := gIf_t c9 hr
    refine lv_aload_n hx hb dX6_give_37 rfl (lv_at hl 0 rfl) ?_
    refine lv_iconst (v := 0) hx hb dX6_give_38 (by decide) ?_
    obtain ⟨aM_9, iU_10, hc8, hr⟩ := gT2_i hr
    refine gRun_v (g_runV X hI (w_X6_remember hc8) (g_obj_s mH_0) rfl hl (lw_V q1772 q1774 qs53 q122 q1775) rfl rfl hd_X6_remember ⟨Nat.le_of_ble_eq_true rfl, Nat.le_of_ble_eq_true rfl⟩ (as := [.int (0 : Int32)]) (rest := []) rfl rfl (Nat.le_of_ble_eq_true rfl) ⟨(Nat.le_refl _), (Nat.le_refl _)⟩ dX6_give_39) (fun H locs hI => ?_)
    refine lv_aload_n hx hb dX6_give_42 rfl (lv_at hl 0 rfl) ?_
    refine lv_iload_n hx hb dX6_give_43 rfl (lv_at hl 1 rfl) ?_
    refine lv_iload_n hx hb dX6_give_44 rfl (lv_at hl 2 rfl) ?_
    refine lv_iload_n hx hb dX6_give_45 rfl (lv_at hl 3 rfl) ?_
    obtain ⟨aM_12, hc11, hr⟩ := gB_i hr
    refine gRun_v (g_runV X hI (w_X6_own hc11) (g_obj_s mH_0) rfl hl (lw_V q1820 q1822 qs65 q122 q1823) rfl rfl hd_X6_own ⟨Nat.le_of_ble_eq_true rfl, Nat.le_of_ble_eq_true rfl⟩ (as := [.int z1, .int z2, .int z3]) (rest := []) rfl rfl (Nat.le_of_ble_eq_true rfl) ⟨(Nat.le_refl _), (Nat.le_refl _)⟩ dX6_give_46) (fun H locs hI => ?_)
    refine lv_aload_n hx hb dX6_give_49 rfl (lv_at hl 0 rfl) ?_
    refine lv_iload_n hx hb dX6_give_50 rfl (lv_at hl 1 rfl) ?_
    obtain ⟨v14, hc13, hr⟩ := gB_i hr
    refine gRun_i (g_runV X hI (w_X6_welfareOf hc13) (g_obj_s mH_0) rfl hl (lw_V q1812 q1814 qs63 q122 q1815) rfl rfl hd_X6_welfareOf ⟨Nat.le_of_ble_eq_true rfl, Nat.le_of_ble_eq_true rfl⟩ (as := [.int z1]) (rest := []) rfl rfl (Nat.le_of_ble_eq_true rfl) ⟨(Nat.le_refl _), (Nat.le_refl _)⟩ dX6_give_51) (fun H locs hI => ?_)
    have hr := gS_i hr
    subst hr
    exact g_iret X hI rfl (Nat.le_refl _) (Nat.le_refl _) dX6_give_54
  · replace hr := gIf_f c9 hr
    refine lv_iconst (v := 0) hx hb dX6_give_35 (by decide) ?_
    have hr := gS_i hr
    subst hr
    exact g_iret X hI rfl (Nat.le_refl _) (Nat.le_refl _) dX6_give_36
set_option maxHeartbeats 2000000 in
theorem w_X6_give_J14 {h : gH} {n : Nat} {o : Nat} {aM : (Nat → Int32)} {aS : (Nat → Int32)} {iU : Int32} {aB : (Nat → Int32)} {iL : Int32} {iE : Int32} {iP : Int32} {aR : (Nat → Int32)} {iW : Int32} {iT : Int32} {aT : (Nat → Int32)} {aC : (Nat → Int32)} {aH : (Nat → Int32)} {aE : (Nat → Int32)} {aQ : (Nat → Int32)} {iA : Int32} {iY : Int32} {iF : Int32} {iV : Int32} {aK : (Nat → Int32)} {z1 : Int32} {z2 : Int32} {z3 : Int32} {s1 : Int32} {res : Int32 × (Nat → Int32) × Int32 × Int32} (X : gXX x base RX6 cX6_give 4 (some .int) p l s m args meth c) {H : Heap} {locs : List Loc} {ls : Array Slot} (hr : f_X6_give_J14 z1 z2 z3 s1 aM iU iT = some res) (hI : gI x base s.heap (mH h o aM aS iU aB iL iE iP aR iW iT aT aC aH aE aQ iA iY iF iV aK) n H locs) (hl : lv_has ls 4 [(0, .ref o), (1, .int z1), (2, .int z2), (3, .int z3)]) : W p l e rm_X6_give s m args below meth c H locs 0 0 (MQ below (gQ x base (some (.int res.1)) (mH h o res.2.1 aS res.2.2.1 aB iL iE iP aR iW res.2.2.2 aT aC aH aE aQ iA iY iF iV aK) n) args s 0 0 (fun q => base ≤ q)) (F0 m 14 ls [.int s1, .ref o]) := by
  have hx := X.1
  have hb := X.2.1
  unfold f_X6_give_J14 at hr
  refine lv_aload_n hx hb dX6_give_14 rfl (lv_at hl 0 rfl) ?_
  refine lv_iload_n hx hb dX6_give_15 rfl (lv_at hl 2 rfl) ?_
  refine lv_iload_n hx hb dX6_give_16 rfl (lv_at hl 3 rfl) ?_
  obtain ⟨v4, hc3, hr⟩ := gB_i hr
  refine gRun_i (g_runV X hI (w_X6_isRange hc3) (g_obj_s mH_0) rfl hl (lw_V q1780 q1782 qs55 q122 q1783) rfl rfl hd_X6_isRange ⟨Nat.le_of_ble_eq_true rfl, Nat.le_of_ble_eq_true rfl⟩ (as := [.int z2, .int z3]) (rest := [.int s1, .ref o]) rfl rfl (Nat.le_of_ble_eq_true rfl) ⟨(Nat.le_refl _), (Nat.le_refl _)⟩ dX6_give_17) (fun H locs hI => ?_)
  refine lv_if_ne (tgt := 27) hx hb dX6_give_20 (by decide) (fun c9 => ?_) (fun c9 => ?_)
  · replace hr := gIf_f c9 hr
    refine lv_iconst (v := 0) hx hb dX6_give_27 (by decide) ?_
    exact w_X6_give_J28 X hr hI (lv_sub hl [0, 1, 2, 3] rfl)
  · replace hr := gIf_t c9 hr
    refine lv_iconst (v := 1) hx hb dX6_give_23 (by decide) ?_
    refine lv_goto (tgt := 28) hx hb dX6_give_24 (by decide) ?_
    exact w_X6_give_J28 X hr hI (lv_sub hl [0, 1, 2, 3] rfl)
set_option maxHeartbeats 2000000 in
theorem w_X6_give {l : Launch} {x : gV} {base : Nat} {z1 : Int32} {z2 : Int32} {z3 : Int32} {h : gH} {n : Nat} {o : Nat} {aM : (Nat → Int32)} {aS : (Nat → Int32)} {iU : Int32} {aB : (Nat → Int32)} {iL : Int32} {iE : Int32} {iP : Int32} {aR : (Nat → Int32)} {iW : Int32} {iT : Int32} {aT : (Nat → Int32)} {aC : (Nat → Int32)} {aH : (Nat → Int32)} {aE : (Nat → Int32)} {aQ : (Nat → Int32)} {iA : Int32} {iY : Int32} {iF : Int32} {iV : Int32} {aK : (Nat → Int32)} {res : Int32 × (Nat → Int32) × Int32 × Int32} (hr : f_X6_give z1 z2 z3 aM iU iT = some res) : gM l yX6_give (ws_ yX6_give cX6_give 4 (some .int)) rm_X6_give x base [.ref o, .int z1, .int z2, .int z3] (mH h o aM aS iU aB iL iE iP aR iW iT aT aC aH aE aQ iA iY iF iV aK) n (some (.int res.1)) (mH h o res.2.1 aS res.2.2.1 aB iL iE iP aR iW res.2.2.2 aT aC aH aE aQ iA iY iF iV aK) n 0 0 := by
  refine g_met (cc := cX6_give) (nL := 4) (ret := (some .int)) (by decide) (Nat.le_of_ble_eq_true rfl) (fun p e s m below meth c ls X hnm hl hI => ?_)
  have hl : lv_has ls 4 [(0, .ref o), (1, .int z1), (2, .int z2), (3, .int z3)] := hl
  have hx := X.1
  have hb := X.2.1
  unfold f_X6_give at hr
  refine lv_aload_n hx hb dX6_give_0 rfl (lv_at hl 0 rfl) ?_
  refine lv_aload_n hx hb dX6_give_1 rfl (lv_at hl 0 rfl) ?_
  refine lv_iload_n hx hb dX6_give_2 rfl (lv_at hl 1 rfl) ?_
  obtain ⟨v2, hc1, hr⟩ := gB_i hr
  refine gRun_i (g_runV X hI (w_X6_isSibling hc1) (g_obj_s mH_0) rfl hl (lw_V q1896 q1898 qs79 q122 q1899) rfl rfl hd_X6_isSibling ⟨Nat.le_of_ble_eq_true rfl, Nat.le_of_ble_eq_true rfl⟩ (as := [.int z1]) (rest := [.ref o]) rfl rfl (Nat.le_of_ble_eq_true rfl) ⟨(Nat.le_refl _), (Nat.le_refl _)⟩ dX6_give_3) (fun H locs hI => ?_)
  refine lv_if_ne (tgt := 13) hx hb dX6_give_6 (by decide) (fun c9 => ?_) (fun c9 => ?_)
  · replace hr := gIf_f c9 hr
    refine lv_iconst (v := 0) hx hb dX6_give_13 (by decide) ?_
    exact w_X6_give_J14 X hr hI (lv_sub hl [0, 1, 2, 3] rfl)
  · replace hr := gIf_t c9 hr
    refine lv_iconst (v := 1) hx hb dX6_give_9 (by decide) ?_
    refine lv_goto (tgt := 14) hx hb dX6_give_10 (by decide) ?_
    exact w_X6_give_J14 X hr hI (lv_sub hl [0, 1, 2, 3] rfl)
abbrev rm_X6_release : Room := { frames := 3, cells := 0, slots := 0, locals := 65 }
theorem hd_X6_release : yX6_release.cls = RX6 ∧ yX6_release.cls ≠ "java/lang/invoke/MethodHandle" ∧ yX6_release.cls ≠ "java/lang/invoke/VarHandle" ∧ (parseMethodDescriptor yX6_release.desc).map (fun d => d.parameters.length) = some 2 := by decide +kernel
set_option maxHeartbeats 2000000 in
theorem w_X6_release_J15 {h : gH} {n : Nat} {o : Nat} {aM : (Nat → Int32)} {aS : (Nat → Int32)} {iU : Int32} {aB : (Nat → Int32)} {iL : Int32} {iE : Int32} {iP : Int32} {aR : (Nat → Int32)} {iW : Int32} {iT : Int32} {aT : (Nat → Int32)} {aC : (Nat → Int32)} {aH : (Nat → Int32)} {aE : (Nat → Int32)} {aQ : (Nat → Int32)} {iA : Int32} {iY : Int32} {iF : Int32} {iV : Int32} {aK : (Nat → Int32)} {z1 : Int32} {z2 : Int32} {s1 : Int32} {res : Int32 × (Nat → Int32) × Int32 × Int32} (X : gXX x base RX6 cX6_release 3 (some .int) p l s m args meth c) {H : Heap} {locs : List Loc} {ls : Array Slot} (hr : f_X6_release_J15 z1 z2 s1 aM iU iT = some res) (hI : gI x base s.heap (mH h o aM aS iU aB iL iE iP aR iW iT aT aC aH aE aQ iA iY iF iV aK) n H locs) (hl : lv_has ls 3 [(0, .ref o), (1, .int z1), (2, .int z2)]) : W p l e rm_X6_release s m args below meth c H locs 0 0 (MQ below (gQ x base (some (.int res.1)) (mH h o res.2.1 aS res.2.2.1 aB iL iE iP aR iW res.2.2.2 aT aC aH aE aQ iA iY iF iV aK) n) args s 0 0 (fun q => base ≤ q)) (F0 m 15 ls [.int s1, .ref o]) := by
  have hx := X.1
  have hb := X.2.1
  unfold f_X6_release_J15 at hr
  refine lv_iconst (v := 0) hx hb dX6_release_15 (by decide) ?_
  refine lv_iconst (v := 0) hx hb dX6_release_16 (by decide) ?_
  obtain ⟨v4, iT_5, hc3, hr⟩ := gT2_i hr
  refine gRun_i (g_runV X hI (w_X6_fails hc3) (g_obj_s mH_0) rfl hl (lw_V q1717 q1719 qs45 q122 q1720) rfl rfl hd_X6_fails ⟨Nat.le_of_ble_eq_true rfl, Nat.le_of_ble_eq_true rfl⟩ (as := [.int s1, .int (0 : Int32), .int (0 : Int32)]) (rest := []) rfl rfl (Nat.le_of_ble_eq_true rfl) ⟨(Nat.le_refl _), (Nat.le_refl _)⟩ dX6_release_17) (fun H locs hI => ?_)
  refine lv_if_eq (tgt := 25) hx hb dX6_release_20 (by decide) (fun c9 => ?_) (fun c9 => ?_)
  · replace hr := gIf_t c9 hr
    refine lv_aload_n hx hb dX6_release_25 rfl (lv_at hl 0 rfl) ?_
    refine lv_iconst (v := 0) hx hb dX6_release_26 (by decide) ?_
    obtain ⟨aM_7, iU_8, hc6, hr⟩ := gT2_i hr
    refine gRun_v (g_runV X hI (w_X6_remember hc6) (g_obj_s mH_0) rfl hl (lw_V q1772 q1774 qs53 q122 q1775) rfl rfl hd_X6_remember ⟨Nat.le_of_ble_eq_true rfl, Nat.le_of_ble_eq_true rfl⟩ (as := [.int (0 : Int32)]) (rest := []) rfl rfl (Nat.le_of_ble_eq_true rfl) ⟨(Nat.le_refl _), (Nat.le_refl _)⟩ dX6_release_27) (fun H locs hI => ?_)
    refine lv_aload_n hx hb dX6_release_30 rfl (lv_at hl 0 rfl) ?_
    refine lv_iconst (v := (-1)) hx hb dX6_release_31 (by decide) ?_
    refine lv_iload_n hx hb dX6_release_32 rfl (lv_at hl 1 rfl) ?_
    refine lv_iload_n hx hb dX6_release_33 rfl (lv_at hl 2 rfl) ?_
    obtain ⟨aM_10, hc9, hr⟩ := gB_i hr
    refine gRun_v (g_runV X hI (w_X6_own hc9) (g_obj_s mH_0) rfl hl (lw_V q1820 q1822 qs65 q122 q1823) rfl rfl hd_X6_own ⟨Nat.le_of_ble_eq_true rfl, Nat.le_of_ble_eq_true rfl⟩ (as := [.int (-1 : Int32), .int z1, .int z2]) (rest := []) rfl rfl (Nat.le_of_ble_eq_true rfl) ⟨(Nat.le_refl _), (Nat.le_refl _)⟩ dX6_release_34) (fun H locs hI => ?_)
    refine lv_aload_n hx hb dX6_release_37 rfl (lv_at hl 0 rfl) ?_
    refine lv_iconst (v := (-1)) hx hb dX6_release_38 (by decide) ?_
    obtain ⟨v12, hc11, hr⟩ := gB_i hr
    refine gRun_i (g_runV X hI (w_X6_sizeOf hc11) (g_obj_s mH_0) rfl hl (lw_V q1932 q1934 qs81 q122 q1935) rfl rfl hd_X6_sizeOf ⟨Nat.le_of_ble_eq_true rfl, Nat.le_of_ble_eq_true rfl⟩ (as := [.int (-1 : Int32)]) (rest := []) rfl rfl (Nat.le_of_ble_eq_true rfl) ⟨(Nat.le_refl _), (Nat.le_refl _)⟩ dX6_release_39) (fun H locs hI => ?_)
    have hr := gS_i hr
    subst hr
    exact g_iret X hI rfl (Nat.le_refl _) (Nat.le_refl _) dX6_release_42
  · replace hr := gIf_f c9 hr
    refine lv_iconst (v := 0) hx hb dX6_release_23 (by decide) ?_
    have hr := gS_i hr
    subst hr
    exact g_iret X hI rfl (Nat.le_refl _) (Nat.le_refl _) dX6_release_24
set_option maxHeartbeats 2000000 in
theorem w_X6_release {l : Launch} {x : gV} {base : Nat} {z1 : Int32} {z2 : Int32} {h : gH} {n : Nat} {o : Nat} {aM : (Nat → Int32)} {aS : (Nat → Int32)} {iU : Int32} {aB : (Nat → Int32)} {iL : Int32} {iE : Int32} {iP : Int32} {aR : (Nat → Int32)} {iW : Int32} {iT : Int32} {aT : (Nat → Int32)} {aC : (Nat → Int32)} {aH : (Nat → Int32)} {aE : (Nat → Int32)} {aQ : (Nat → Int32)} {iA : Int32} {iY : Int32} {iF : Int32} {iV : Int32} {aK : (Nat → Int32)} {res : Int32 × (Nat → Int32) × Int32 × Int32} (hr : f_X6_release z1 z2 aM iU iT = some res) : gM l yX6_release (ws_ yX6_release cX6_release 3 (some .int)) rm_X6_release x base [.ref o, .int z1, .int z2] (mH h o aM aS iU aB iL iE iP aR iW iT aT aC aH aE aQ iA iY iF iV aK) n (some (.int res.1)) (mH h o res.2.1 aS res.2.2.1 aB iL iE iP aR iW res.2.2.2 aT aC aH aE aQ iA iY iF iV aK) n 0 0 := by
  refine g_met (cc := cX6_release) (nL := 3) (ret := (some .int)) (by decide) (Nat.le_of_ble_eq_true rfl) (fun p e s m below meth c ls X hnm hl hI => ?_)
  have hl : lv_has ls 3 [(0, .ref o), (1, .int z1), (2, .int z2)] := hl
  have hx := X.1
  have hb := X.2.1
  unfold f_X6_release at hr
  refine lv_aload_n hx hb dX6_release_0 rfl (lv_at hl 0 rfl) ?_
  refine lv_aload_n hx hb dX6_release_1 rfl (lv_at hl 0 rfl) ?_
  refine lv_iload_n hx hb dX6_release_2 rfl (lv_at hl 1 rfl) ?_
  refine lv_iload_n hx hb dX6_release_3 rfl (lv_at hl 2 rfl) ?_
  obtain ⟨v2, hc1, hr⟩ := gB_i hr
  refine gRun_i (g_runV X hI (w_X6_isRange hc1) (g_obj_s mH_0) rfl hl (lw_V q1780 q1782 qs55 q122 q1783) rfl rfl hd_X6_isRange ⟨Nat.le_of_ble_eq_true rfl, Nat.le_of_ble_eq_true rfl⟩ (as := [.int z1, .int z2]) (rest := [.ref o]) rfl rfl (Nat.le_of_ble_eq_true rfl) ⟨(Nat.le_refl _), (Nat.le_refl _)⟩ dX6_release_4) (fun H locs hI => ?_)
  refine lv_if_ne (tgt := 14) hx hb dX6_release_7 (by decide) (fun c9 => ?_) (fun c9 => ?_)
  · replace hr := gIf_f c9 hr
    refine lv_iconst (v := 0) hx hb dX6_release_14 (by decide) ?_
    exact w_X6_release_J15 X hr hI (lv_sub hl [0, 1, 2] rfl)
  · replace hr := gIf_t c9 hr
    refine lv_iconst (v := 1) hx hb dX6_release_10 (by decide) ?_
    refine lv_goto (tgt := 15) hx hb dX6_release_11 (by decide) ?_
    exact w_X6_release_J15 X hr hI (lv_sub hl [0, 1, 2] rfl)
abbrev rm_X6_swapShares : Room := { frames := 5, cells := 0, slots := 0, locals := 112 }
theorem hd_X6_swapShares : yX6_swapShares.cls = RX6 ∧ yX6_swapShares.cls ≠ "java/lang/invoke/MethodHandle" ∧ yX6_swapShares.cls ≠ "java/lang/invoke/VarHandle" ∧ (parseMethodDescriptor yX6_swapShares.desc).map (fun d => d.parameters.length) = some 2 := by decide +kernel
set_option maxHeartbeats 2000000 in
theorem w_X6_swapShares_J25 {h : gH} {n : Nat} {o : Nat} {aM : (Nat → Int32)} {aS : (Nat → Int32)} {iU : Int32} {aB : (Nat → Int32)} {iL : Int32} {iE : Int32} {iP : Int32} {aR : (Nat → Int32)} {iW : Int32} {iT : Int32} {aT : (Nat → Int32)} {aC : (Nat → Int32)} {aH : (Nat → Int32)} {aE : (Nat → Int32)} {aQ : (Nat → Int32)} {iA : Int32} {iY : Int32} {iF : Int32} {iV : Int32} {aK : (Nat → Int32)} {z1 : Int32} {z2 : Int32} {s1 : Int32} {s2 : Int32} {res : Int32 × (Nat → Int32) × Int32 × Int32} (X : gXX x base RX6 cX6_swapShares 3 (some .int) p l s m args meth c) {H : Heap} {locs : List Loc} {ls : Array Slot} (hr : f_X6_swapShares_J25 z1 z2 s1 s2 aM iU iT = some res) (hI : gI x base s.heap (mH h o aM aS iU aB iL iE iP aR iW iT aT aC aH aE aQ iA iY iF iV aK) n H locs) (hl : lv_has ls 3 [(0, .ref o), (1, .int z1), (2, .int z2)]) : W p l e rm_X6_swapShares s m args below meth c H locs 0 0 (MQ below (gQ x base (some (.int res.1)) (mH h o res.2.1 aS res.2.2.1 aB iL iE iP aR iW res.2.2.2 aT aC aH aE aQ iA iY iF iV aK) n) args s 0 0 (fun q => base ≤ q)) (F0 m 25 ls [.int s2, .int s1, .ref o]) := by
  have hx := X.1
  have hb := X.2.1
  unfold f_X6_swapShares_J25 at hr
  refine lv_iconst (v := 0) hx hb dX6_swapShares_25 (by decide) ?_
  obtain ⟨v4, iT_5, hc3, hr⟩ := gT2_i hr
  refine gRun_i (g_runV X hI (w_X6_fails hc3) (g_obj_s mH_0) rfl hl (lw_V q1717 q1719 qs45 q122 q1720) rfl rfl hd_X6_fails ⟨Nat.le_of_ble_eq_true rfl, Nat.le_of_ble_eq_true rfl⟩ (as := [.int s1, .int s2, .int (0 : Int32)]) (rest := []) rfl rfl (Nat.le_of_ble_eq_true rfl) ⟨(Nat.le_refl _), (Nat.le_refl _)⟩ dX6_swapShares_26) (fun H locs hI => ?_)
  refine lv_if_eq (tgt := 34) hx hb dX6_swapShares_29 (by decide) (fun c9 => ?_) (fun c9 => ?_)
  · replace hr := gIf_t c9 hr
    refine lv_aload_n hx hb dX6_swapShares_34 rfl (lv_at hl 0 rfl) ?_
    refine lv_iconst (v := 0) hx hb dX6_swapShares_35 (by decide) ?_
    obtain ⟨aM_7, iU_8, hc6, hr⟩ := gT2_i hr
    refine gRun_v (g_runV X hI (w_X6_remember hc6) (g_obj_s mH_0) rfl hl (lw_V q1772 q1774 qs53 q122 q1775) rfl rfl hd_X6_remember ⟨Nat.le_of_ble_eq_true rfl, Nat.le_of_ble_eq_true rfl⟩ (as := [.int (0 : Int32)]) (rest := []) rfl rfl (Nat.le_of_ble_eq_true rfl) ⟨(Nat.le_refl _), (Nat.le_refl _)⟩ dX6_swapShares_36) (fun H locs hI => ?_)
    refine lv_aload_n hx hb dX6_swapShares_39 rfl (lv_at hl 0 rfl) ?_
    refine lv_iload_n hx hb dX6_swapShares_40 rfl (lv_at hl 1 rfl) ?_
    refine lv_iload_n hx hb dX6_swapShares_41 rfl (lv_at hl 2 rfl) ?_
    obtain ⟨aM_10, hc9, hr⟩ := gB_i hr
    refine gRun_v (g_runV X hI (w_X6_exchange hc9) (g_obj_s mH_0) rfl hl (lw_V q1824 q1826 qs66 q122 q1827) rfl rfl hd_X6_exchange ⟨Nat.le_of_ble_eq_true rfl, Nat.le_of_ble_eq_true rfl⟩ (as := [.int z1, .int z2]) (rest := []) rfl rfl (Nat.le_of_ble_eq_true rfl) ⟨(Nat.le_refl _), (Nat.le_refl _)⟩ dX6_swapShares_42) (fun H locs hI => ?_)
    refine lv_aload_n hx hb dX6_swapShares_45 rfl (lv_at hl 0 rfl) ?_
    obtain ⟨v12, hc11, hr⟩ := gB_i hr
    refine gRun_i (g_runV X hI (w_X6_envyTotal hc11) (g_obj_s mH_0) rfl hl (lw_V q1972 q1974 qs84 q122 q1975) rfl rfl hd_X6_envyTotal ⟨Nat.le_of_ble_eq_true rfl, Nat.le_of_ble_eq_true rfl⟩ (as := []) (rest := []) rfl rfl (Nat.le_of_ble_eq_true rfl) ⟨(Nat.le_refl _), (Nat.le_refl _)⟩ dX6_swapShares_46) (fun H locs hI => ?_)
    have hr := gS_i hr
    subst hr
    exact g_iret X hI rfl (Nat.le_refl _) (Nat.le_refl _) dX6_swapShares_49
  · replace hr := gIf_f c9 hr
    refine lv_iconst (v := 0) hx hb dX6_swapShares_32 (by decide) ?_
    have hr := gS_i hr
    subst hr
    exact g_iret X hI rfl (Nat.le_refl _) (Nat.le_refl _) dX6_swapShares_33
set_option maxHeartbeats 2000000 in
theorem w_X6_swapShares_J15 {h : gH} {n : Nat} {o : Nat} {aM : (Nat → Int32)} {aS : (Nat → Int32)} {iU : Int32} {aB : (Nat → Int32)} {iL : Int32} {iE : Int32} {iP : Int32} {aR : (Nat → Int32)} {iW : Int32} {iT : Int32} {aT : (Nat → Int32)} {aC : (Nat → Int32)} {aH : (Nat → Int32)} {aE : (Nat → Int32)} {aQ : (Nat → Int32)} {iA : Int32} {iY : Int32} {iF : Int32} {iV : Int32} {aK : (Nat → Int32)} {z1 : Int32} {z2 : Int32} {s1 : Int32} {res : Int32 × (Nat → Int32) × Int32 × Int32} (X : gXX x base RX6 cX6_swapShares 3 (some .int) p l s m args meth c) {H : Heap} {locs : List Loc} {ls : Array Slot} (hr : f_X6_swapShares_J15 z1 z2 s1 aM iU iT = some res) (hI : gI x base s.heap (mH h o aM aS iU aB iL iE iP aR iW iT aT aC aH aE aQ iA iY iF iV aK) n H locs) (hl : lv_has ls 3 [(0, .ref o), (1, .int z1), (2, .int z2)]) : W p l e rm_X6_swapShares s m args below meth c H locs 0 0 (MQ below (gQ x base (some (.int res.1)) (mH h o res.2.1 aS res.2.2.1 aB iL iE iP aR iW res.2.2.2 aT aC aH aE aQ iA iY iF iV aK) n) args s 0 0 (fun q => base ≤ q)) (F0 m 15 ls [.int s1, .ref o]) := by
  have hx := X.1
  have hb := X.2.1
  unfold f_X6_swapShares_J15 at hr
  refine lv_iload_n hx hb dX6_swapShares_15 rfl (lv_at hl 1 rfl) ?_
  refine lv_iload_n hx hb dX6_swapShares_16 rfl (lv_at hl 2 rfl) ?_
  refine lv_icmp_ne (tgt := 24) hx hb dX6_swapShares_17 (by decide) (fun c9 => ?_) (fun c9 => ?_)
  · replace hr := gIf_f c9 hr
    refine lv_iconst (v := 0) hx hb dX6_swapShares_24 (by decide) ?_
    exact w_X6_swapShares_J25 X hr hI (lv_sub hl [0, 1, 2] rfl)
  · replace hr := gIf_t c9 hr
    refine lv_iconst (v := 1) hx hb dX6_swapShares_20 (by decide) ?_
    refine lv_goto (tgt := 25) hx hb dX6_swapShares_21 (by decide) ?_
    exact w_X6_swapShares_J25 X hr hI (lv_sub hl [0, 1, 2] rfl)
set_option maxHeartbeats 2000000 in
theorem w_X6_swapShares {l : Launch} {x : gV} {base : Nat} {z1 : Int32} {z2 : Int32} {h : gH} {n : Nat} {o : Nat} {aM : (Nat → Int32)} {aS : (Nat → Int32)} {iU : Int32} {aB : (Nat → Int32)} {iL : Int32} {iE : Int32} {iP : Int32} {aR : (Nat → Int32)} {iW : Int32} {iT : Int32} {aT : (Nat → Int32)} {aC : (Nat → Int32)} {aH : (Nat → Int32)} {aE : (Nat → Int32)} {aQ : (Nat → Int32)} {iA : Int32} {iY : Int32} {iF : Int32} {iV : Int32} {aK : (Nat → Int32)} {res : Int32 × (Nat → Int32) × Int32 × Int32} (hr : f_X6_swapShares z1 z2 aM iU iT = some res) : gM l yX6_swapShares (ws_ yX6_swapShares cX6_swapShares 3 (some .int)) rm_X6_swapShares x base [.ref o, .int z1, .int z2] (mH h o aM aS iU aB iL iE iP aR iW iT aT aC aH aE aQ iA iY iF iV aK) n (some (.int res.1)) (mH h o res.2.1 aS res.2.2.1 aB iL iE iP aR iW res.2.2.2 aT aC aH aE aQ iA iY iF iV aK) n 0 0 := by
  refine g_met (cc := cX6_swapShares) (nL := 3) (ret := (some .int)) (by decide) (Nat.le_of_ble_eq_true rfl) (fun p e s m below meth c ls X hnm hl hI => ?_)
  have hl : lv_has ls 3 [(0, .ref o), (1, .int z1), (2, .int z2)] := hl
  have hx := X.1
  have hb := X.2.1
  unfold f_X6_swapShares at hr
  refine lv_aload_n hx hb dX6_swapShares_0 rfl (lv_at hl 0 rfl) ?_
  refine lv_aload_n hx hb dX6_swapShares_1 rfl (lv_at hl 0 rfl) ?_
  refine lv_iload_n hx hb dX6_swapShares_2 rfl (lv_at hl 1 rfl) ?_
  refine lv_iload_n hx hb dX6_swapShares_3 rfl (lv_at hl 2 rfl) ?_
  obtain ⟨v2, hc1, hr⟩ := gB_i hr
  refine gRun_i (g_runV X hI (w_X6_areSiblings hc1) (g_obj_s mH_0) rfl hl (lw_V q1924 q1926 qs80 q122 q1927) rfl rfl hd_X6_areSiblings ⟨Nat.le_of_ble_eq_true rfl, Nat.le_of_ble_eq_true rfl⟩ (as := [.int z1, .int z2]) (rest := [.ref o]) rfl rfl (Nat.le_of_ble_eq_true rfl) ⟨(Nat.le_refl _), (Nat.le_refl _)⟩ dX6_swapShares_4) (fun H locs hI => ?_)
  refine lv_if_ne (tgt := 14) hx hb dX6_swapShares_7 (by decide) (fun c9 => ?_) (fun c9 => ?_)
  · replace hr := gIf_f c9 hr
    refine lv_iconst (v := 0) hx hb dX6_swapShares_14 (by decide) ?_
    exact w_X6_swapShares_J15 X hr hI (lv_sub hl [0, 1, 2] rfl)
  · replace hr := gIf_t c9 hr
    refine lv_iconst (v := 1) hx hb dX6_swapShares_10 (by decide) ?_
    refine lv_goto (tgt := 15) hx hb dX6_swapShares_11 (by decide) ?_
    exact w_X6_swapShares_J15 X hr hI (lv_sub hl [0, 1, 2] rfl)
abbrev rm_X6_setValue : Room := { frames := 2, cells := 0, slots := 0, locals := 45 }
theorem hd_X6_setValue : yX6_setValue.cls = RX6 ∧ yX6_setValue.cls ≠ "java/lang/invoke/MethodHandle" ∧ yX6_setValue.cls ≠ "java/lang/invoke/VarHandle" ∧ (parseMethodDescriptor yX6_setValue.desc).map (fun d => d.parameters.length) = some 3 := by decide +kernel
set_option maxHeartbeats 2000000 in
theorem w_X6_setValue_J37 {h : gH} {n : Nat} {o : Nat} {aM : (Nat → Int32)} {aS : (Nat → Int32)} {iU : Int32} {aB : (Nat → Int32)} {iL : Int32} {iE : Int32} {iP : Int32} {aR : (Nat → Int32)} {iW : Int32} {iT : Int32} {aT : (Nat → Int32)} {aC : (Nat → Int32)} {aH : (Nat → Int32)} {aE : (Nat → Int32)} {aQ : (Nat → Int32)} {iA : Int32} {iY : Int32} {iF : Int32} {iV : Int32} {aK : (Nat → Int32)} {z1 : Int32} {z2 : Int32} {z3 : Int32} {s1 : Int32} {s2 : Int32} {res : Int32 × (Nat → Int32) × Int32 × Int32} (X : gXX x base RX6 cX6_setValue 5 (some .int) p l s m args meth c) {H : Heap} {locs : List Loc} {ls : Array Slot} (hr : f_X6_setValue_J37 z1 z2 z3 s1 s2 aM iU iT = some res) (hI : gI x base s.heap (mH h o aM aS iU aB iL iE iP aR iW iT aT aC aH aE aQ iA iY iF iV aK) n H locs) (hl : lv_has ls 5 [(0, .ref o), (1, .int z1), (2, .int z2), (3, .int z3)]) : W p l e rm_X6_setValue s m args below meth c H locs 0 0 (MQ below (gQ x base (some (.int res.1)) (mH h o res.2.1 aS res.2.2.1 aB iL iE iP aR iW res.2.2.2 aT aC aH aE aQ iA iY iF iV aK) n) args s 0 0 (fun q => base ≤ q)) (F0 m 37 ls [.int s2, .int s1, .ref o]) := by
  have hx := X.1
  have hb := X.2.1
  unfold f_X6_setValue_J37 at hr
  refine lv_iconst (v := 0) hx hb dX6_setValue_37 (by decide) ?_
  obtain ⟨v6, iT_7, hc5, hr⟩ := gT2_i hr
  refine gRun_i (g_runV X hI (w_X6_fails hc5) (g_obj_s mH_0) rfl hl (lw_V q1717 q1719 qs45 q122 q1720) rfl rfl hd_X6_fails ⟨Nat.le_of_ble_eq_true rfl, Nat.le_of_ble_eq_true rfl⟩ (as := [.int s1, .int s2, .int (0 : Int32)]) (rest := []) rfl rfl (Nat.le_of_ble_eq_true rfl) ⟨(Nat.le_refl _), (Nat.le_refl _)⟩ dX6_setValue_38) (fun H locs hI => ?_)
  refine lv_if_eq (tgt := 46) hx hb dX6_setValue_41 (by decide) (fun c9 => ?_) (fun c9 => ?_)
  · replace hr := gIf_t c9 hr
    refine lv_aload_n hx hb dX6_setValue_46 rfl (lv_at hl 0 rfl) ?_
    refine lv_iconst (v := 0) hx hb dX6_setValue_47 (by decide) ?_
    obtain ⟨aM_9, iU_10, hc8, hr⟩ := gT2_i hr
    refine gRun_v (g_runV X hI (w_X6_remember hc8) (g_obj_s mH_0) rfl hl (lw_V q1772 q1774 qs53 q122 q1775) rfl rfl hd_X6_remember ⟨Nat.le_of_ble_eq_true rfl, Nat.le_of_ble_eq_true rfl⟩ (as := [.int (0 : Int32)]) (rest := []) rfl rfl (Nat.le_of_ble_eq_true rfl) ⟨(Nat.le_refl _), (Nat.le_refl _)⟩ dX6_setValue_48) (fun H locs hI => ?_)
    refine lv_aload_n hx hb dX6_setValue_51 rfl (lv_at hl 0 rfl) ?_
    refine lv_iload_n hx hb dX6_setValue_52 rfl (lv_at hl 1 rfl) ?_
    refine lv_iload_n hx hb dX6_setValue_53 rfl (lv_at hl 2 rfl) ?_
    obtain ⟨v12, hc11, hr⟩ := gB_i hr
    refine gRun_i (g_runV X hI (w_X6_valueOf hc11) (g_obj_s mH_0) rfl hl (lw_V q1808 q1810 qs62 q122 q1811) rfl rfl hd_X6_valueOf ⟨Nat.le_of_ble_eq_true rfl, Nat.le_of_ble_eq_true rfl⟩ (as := [.int z1, .int z2]) (rest := []) rfl rfl (Nat.le_of_ble_eq_true rfl) ⟨(Nat.le_refl _), (Nat.le_refl _)⟩ dX6_setValue_54) (fun H locs hI => ?_)
    refine lv_istore (lv' := [(4, .int v12), (0, .ref o), (1, .int z1), (2, .int z2), (3, .int z3)]) hx hb dX6_setValue_57 hl (by decide) rfl (fun ls hl => ?_)
    refine lv_aload_n hx hb dX6_setValue_59 rfl (lv_at hl 1 rfl) ?_
    refine m_get X hI mH_0 0 (by decide) q1652 rfl dX6_setValue_60 ?_
    refine lv_bipush (v := 26) hx hb dX6_setValue_63 (by decide) ?_
    refine lv_iload_n hx hb dX6_setValue_65 rfl (lv_at hl 2 rfl) ?_
    refine lv_bipush (v := 31) hx hb dX6_setValue_66 (by decide) ?_
    refine lv_imul hx hb dX6_setValue_68 ?_
    refine lv_iadd hx hb dX6_setValue_69 ?_
    refine lv_bipush (v := 7) hx hb dX6_setValue_70 (by decide) ?_
    refine lv_iadd hx hb dX6_setValue_72 ?_
    refine lv_iload_n hx hb dX6_setValue_73 rfl (lv_at hl 3 rfl) ?_
    refine lv_iadd hx hb dX6_setValue_74 ?_
    refine lv_iload_n hx hb dX6_setValue_75 rfl (lv_at hl 4 rfl) ?_
    refine m_iast X hI mH_aaM mH_saM hr dX6_setValue_76 (fun aM_13 H locs hI hr => ?_)
    refine lv_iload hx hb dX6_setValue_77 (lv_at hl 0 rfl) ?_
    have hr := gS_i hr
    subst hr
    exact g_iret X hI rfl (Nat.le_refl _) (Nat.le_refl _) dX6_setValue_79
  · replace hr := gIf_f c9 hr
    refine lv_iconst (v := 0) hx hb dX6_setValue_44 (by decide) ?_
    have hr := gS_i hr
    subst hr
    exact g_iret X hI rfl (Nat.le_refl _) (Nat.le_refl _) dX6_setValue_45
set_option maxHeartbeats 2000000 in
theorem w_X6_setValue_J22 {h : gH} {n : Nat} {o : Nat} {aM : (Nat → Int32)} {aS : (Nat → Int32)} {iU : Int32} {aB : (Nat → Int32)} {iL : Int32} {iE : Int32} {iP : Int32} {aR : (Nat → Int32)} {iW : Int32} {iT : Int32} {aT : (Nat → Int32)} {aC : (Nat → Int32)} {aH : (Nat → Int32)} {aE : (Nat → Int32)} {aQ : (Nat → Int32)} {iA : Int32} {iY : Int32} {iF : Int32} {iV : Int32} {aK : (Nat → Int32)} {z1 : Int32} {z2 : Int32} {z3 : Int32} {s1 : Int32} {res : Int32 × (Nat → Int32) × Int32 × Int32} (X : gXX x base RX6 cX6_setValue 5 (some .int) p l s m args meth c) {H : Heap} {locs : List Loc} {ls : Array Slot} (hr : f_X6_setValue_J22 z1 z2 z3 s1 aM iU iT = some res) (hI : gI x base s.heap (mH h o aM aS iU aB iL iE iP aR iW iT aT aC aH aE aQ iA iY iF iV aK) n H locs) (hl : lv_has ls 5 [(0, .ref o), (1, .int z1), (2, .int z2), (3, .int z3)]) : W p l e rm_X6_setValue s m args below meth c H locs 0 0 (MQ below (gQ x base (some (.int res.1)) (mH h o res.2.1 aS res.2.2.1 aB iL iE iP aR iW res.2.2.2 aT aC aH aE aQ iA iY iF iV aK) n) args s 0 0 (fun q => base ≤ q)) (F0 m 22 ls [.int s1, .ref o]) := by
  have hx := X.1
  have hb := X.2.1
  unfold f_X6_setValue_J22 at hr
  refine lv_iload_n hx hb dX6_setValue_22 rfl (lv_at hl 3 rfl) ?_
  refine lv_iconst (v := 0) hx hb dX6_setValue_23 (by decide) ?_
  refine lv_bipush (v := 9) hx hb dX6_setValue_24 (by decide) ?_
  obtain ⟨v4, hc3, hr⟩ := gB_i hr
  refine gRun_i (g_runS X hI (w_X6_in hc3) hl (lw_S q1628 q1629 q122 q1630) rfl rfl hd_X6_in ⟨Nat.le_of_ble_eq_true rfl, Nat.le_of_ble_eq_true rfl⟩ (as := [.int z3, .int (0 : Int32), .int (9 : Int32)]) (rest := [.int s1, .ref o]) rfl rfl (Nat.le_of_ble_eq_true rfl) ⟨(Nat.le_refl _), (Nat.le_refl _)⟩ dX6_setValue_26) (fun H locs hI => ?_)
  refine lv_if_ne (tgt := 36) hx hb dX6_setValue_29 (by decide) (fun c9 => ?_) (fun c9 => ?_)
  · replace hr := gIf_f c9 hr
    refine lv_iconst (v := 0) hx hb dX6_setValue_36 (by decide) ?_
    exact w_X6_setValue_J37 X hr hI (lv_sub hl [0, 1, 2, 3] rfl)
  · replace hr := gIf_t c9 hr
    refine lv_iconst (v := 1) hx hb dX6_setValue_32 (by decide) ?_
    refine lv_goto (tgt := 37) hx hb dX6_setValue_33 (by decide) ?_
    exact w_X6_setValue_J37 X hr hI (lv_sub hl [0, 1, 2, 3] rfl)
set_option maxHeartbeats 2000000 in
theorem w_X6_setValue_J17 {h : gH} {n : Nat} {o : Nat} {aM : (Nat → Int32)} {aS : (Nat → Int32)} {iU : Int32} {aB : (Nat → Int32)} {iL : Int32} {iE : Int32} {iP : Int32} {aR : (Nat → Int32)} {iW : Int32} {iT : Int32} {aT : (Nat → Int32)} {aC : (Nat → Int32)} {aH : (Nat → Int32)} {aE : (Nat → Int32)} {aQ : (Nat → Int32)} {iA : Int32} {iY : Int32} {iF : Int32} {iV : Int32} {aK : (Nat → Int32)} {z1 : Int32} {z2 : Int32} {z3 : Int32} {res : Int32 × (Nat → Int32) × Int32 × Int32} (X : gXX x base RX6 cX6_setValue 5 (some .int) p l s m args meth c) {H : Heap} {locs : List Loc} {ls : Array Slot} (hr : f_X6_setValue_J17 z1 z2 z3 aM iU iT = some res) (hI : gI x base s.heap (mH h o aM aS iU aB iL iE iP aR iW iT aT aC aH aE aQ iA iY iF iV aK) n H locs) (hl : lv_has ls 5 [(0, .ref o), (1, .int z1), (2, .int z2), (3, .int z3)]) : W p l e rm_X6_setValue s m args below meth c H locs 0 0 (MQ below (gQ x base (some (.int res.1)) (mH h o res.2.1 aS res.2.2.1 aB iL iE iP aR iW res.2.2.2 aT aC aH aE aQ iA iY iF iV aK) n) args s 0 0 (fun q => base ≤ q)) (F0 m 17 ls [.ref o]) := by
  have hx := X.1
  have hb := X.2.1
  unfold f_X6_setValue_J17 at hr
  refine lv_iconst (v := 1) hx hb dX6_setValue_17 (by decide) ?_
  refine lv_goto (tgt := 22) hx hb dX6_setValue_18 (by decide) ?_
  exact w_X6_setValue_J22 X hr hI (lv_sub hl [0, 1, 2, 3] rfl)
set_option maxHeartbeats 2000000 in
theorem w_X6_setValue {l : Launch} {x : gV} {base : Nat} {z1 : Int32} {z2 : Int32} {z3 : Int32} {h : gH} {n : Nat} {o : Nat} {aM : (Nat → Int32)} {aS : (Nat → Int32)} {iU : Int32} {aB : (Nat → Int32)} {iL : Int32} {iE : Int32} {iP : Int32} {aR : (Nat → Int32)} {iW : Int32} {iT : Int32} {aT : (Nat → Int32)} {aC : (Nat → Int32)} {aH : (Nat → Int32)} {aE : (Nat → Int32)} {aQ : (Nat → Int32)} {iA : Int32} {iY : Int32} {iF : Int32} {iV : Int32} {aK : (Nat → Int32)} {res : Int32 × (Nat → Int32) × Int32 × Int32} (hr : f_X6_setValue z1 z2 z3 aM iU iT = some res) : gM l yX6_setValue (ws_ yX6_setValue cX6_setValue 5 (some .int)) rm_X6_setValue x base [.ref o, .int z1, .int z2, .int z3] (mH h o aM aS iU aB iL iE iP aR iW iT aT aC aH aE aQ iA iY iF iV aK) n (some (.int res.1)) (mH h o res.2.1 aS res.2.2.1 aB iL iE iP aR iW res.2.2.2 aT aC aH aE aQ iA iY iF iV aK) n 0 0 := by
  refine g_met (cc := cX6_setValue) (nL := 5) (ret := (some .int)) (by decide) (Nat.le_of_ble_eq_true rfl) (fun p e s m below meth c ls X hnm hl hI => ?_)
  have hl : lv_has ls 5 [(0, .ref o), (1, .int z1), (2, .int z2), (3, .int z3)] := hl
  have hx := X.1
  have hb := X.2.1
  unfold f_X6_setValue at hr
  refine lv_aload_n hx hb dX6_setValue_0 rfl (lv_at hl 0 rfl) ?_
  refine lv_aload_n hx hb dX6_setValue_1 rfl (lv_at hl 0 rfl) ?_
  refine lv_iload_n hx hb dX6_setValue_2 rfl (lv_at hl 1 rfl) ?_
  obtain ⟨v2, hc1, hr⟩ := gB_i hr
  refine gRun_i (g_runV X hI (w_X6_isSibling hc1) (g_obj_s mH_0) rfl hl (lw_V q1896 q1898 qs79 q122 q1899) rfl rfl hd_X6_isSibling ⟨Nat.le_of_ble_eq_true rfl, Nat.le_of_ble_eq_true rfl⟩ (as := [.int z1]) (rest := [.ref o]) rfl rfl (Nat.le_of_ble_eq_true rfl) ⟨(Nat.le_refl _), (Nat.le_refl _)⟩ dX6_setValue_3) (fun H locs hI => ?_)
  refine lv_if_eq (tgt := 17) hx hb dX6_setValue_6 (by decide) (fun c9 => ?_) (fun c9 => ?_)
  · replace hr := gIf_t c9 hr
    exact w_X6_setValue_J17 X hr hI (lv_sub hl [0, 1, 2, 3] rfl)
  · replace hr := gIf_f c9 hr
    refine lv_aload_n hx hb dX6_setValue_9 rfl (lv_at hl 0 rfl) ?_
    refine lv_iload_n hx hb dX6_setValue_10 rfl (lv_at hl 2 rfl) ?_
    obtain ⟨v15, hc14, hr⟩ := gB_i hr
    refine gRun_i (g_runV X hI (w_X6_isCell hc14) (g_obj_s mH_0) rfl hl (lw_V q1784 q1786 qs56 q122 q1787) rfl rfl hd_X6_isCell ⟨Nat.le_of_ble_eq_true rfl, Nat.le_of_ble_eq_true rfl⟩ (as := [.int z2]) (rest := [.ref o]) rfl rfl (Nat.le_of_ble_eq_true rfl) ⟨(Nat.le_refl _), (Nat.le_refl _)⟩ dX6_setValue_11) (fun H locs hI => ?_)
    refine lv_if_ne (tgt := 21) hx hb dX6_setValue_14 (by decide) (fun c9 => ?_) (fun c9 => ?_)
    · replace hr := gIf_f c9 hr
      refine lv_iconst (v := 0) hx hb dX6_setValue_21 (by decide) ?_
      exact w_X6_setValue_J22 X hr hI (lv_sub hl [0, 1, 2, 3] rfl)
    · replace hr := gIf_t c9 hr
      exact w_X6_setValue_J17 X hr hI (lv_sub hl [0, 1, 2, 3] rfl)
abbrev rm_X6_divideAndChoose : Room := { frames := 5, cells := 0, slots := 0, locals := 117 }
theorem hd_X6_divideAndChoose : yX6_divideAndChoose.cls = RX6 ∧ yX6_divideAndChoose.cls ≠ "java/lang/invoke/MethodHandle" ∧ yX6_divideAndChoose.cls ≠ "java/lang/invoke/VarHandle" ∧ (parseMethodDescriptor yX6_divideAndChoose.desc).map (fun d => d.parameters.length) = some 2 := by decide +kernel
set_option maxHeartbeats 2000000 in
theorem w_X6_divideAndChoose_J25 {h : gH} {n : Nat} {o : Nat} {aM : (Nat → Int32)} {aS : (Nat → Int32)} {iU : Int32} {aB : (Nat → Int32)} {iL : Int32} {iE : Int32} {iP : Int32} {aR : (Nat → Int32)} {iW : Int32} {iT : Int32} {aT : (Nat → Int32)} {aC : (Nat → Int32)} {aH : (Nat → Int32)} {aE : (Nat → Int32)} {aQ : (Nat → Int32)} {iA : Int32} {iY : Int32} {iF : Int32} {iV : Int32} {aK : (Nat → Int32)} {z1 : Int32} {z2 : Int32} {s1 : Int32} {s2 : Int32} {res : Int32 × (Nat → Int32) × Int32 × Int32} (X : gXX x base RX6 cX6_divideAndChoose 3 (some .int) p l s m args meth c) {H : Heap} {locs : List Loc} {ls : Array Slot} (hr : f_X6_divideAndChoose_J25 z1 z2 s1 s2 aM iU iT = some res) (hI : gI x base s.heap (mH h o aM aS iU aB iL iE iP aR iW iT aT aC aH aE aQ iA iY iF iV aK) n H locs) (hl : lv_has ls 3 [(0, .ref o), (1, .int z1), (2, .int z2)]) : W p l e rm_X6_divideAndChoose s m args below meth c H locs 0 0 (MQ below (gQ x base (some (.int res.1)) (mH h o res.2.1 aS res.2.2.1 aB iL iE iP aR iW res.2.2.2 aT aC aH aE aQ iA iY iF iV aK) n) args s 0 0 (fun q => base ≤ q)) (F0 m 25 ls [.int s2, .int s1, .ref o]) := by
  have hx := X.1
  have hb := X.2.1
  unfold f_X6_divideAndChoose_J25 at hr
  refine lv_iconst (v := 0) hx hb dX6_divideAndChoose_25 (by decide) ?_
  obtain ⟨v4, iT_5, hc3, hr⟩ := gT2_i hr
  refine gRun_i (g_runV X hI (w_X6_fails hc3) (g_obj_s mH_0) rfl hl (lw_V q1717 q1719 qs45 q122 q1720) rfl rfl hd_X6_fails ⟨Nat.le_of_ble_eq_true rfl, Nat.le_of_ble_eq_true rfl⟩ (as := [.int s1, .int s2, .int (0 : Int32)]) (rest := []) rfl rfl (Nat.le_of_ble_eq_true rfl) ⟨(Nat.le_refl _), (Nat.le_refl _)⟩ dX6_divideAndChoose_26) (fun H locs hI => ?_)
  refine lv_if_eq (tgt := 34) hx hb dX6_divideAndChoose_29 (by decide) (fun c9 => ?_) (fun c9 => ?_)
  · replace hr := gIf_t c9 hr
    refine lv_aload_n hx hb dX6_divideAndChoose_34 rfl (lv_at hl 0 rfl) ?_
    refine lv_iconst (v := 0) hx hb dX6_divideAndChoose_35 (by decide) ?_
    obtain ⟨aM_7, iU_8, hc6, hr⟩ := gT2_i hr
    refine gRun_v (g_runV X hI (w_X6_remember hc6) (g_obj_s mH_0) rfl hl (lw_V q1772 q1774 qs53 q122 q1775) rfl rfl hd_X6_remember ⟨Nat.le_of_ble_eq_true rfl, Nat.le_of_ble_eq_true rfl⟩ (as := [.int (0 : Int32)]) (rest := []) rfl rfl (Nat.le_of_ble_eq_true rfl) ⟨(Nat.le_refl _), (Nat.le_refl _)⟩ dX6_divideAndChoose_36) (fun H locs hI => ?_)
    refine lv_aload_n hx hb dX6_divideAndChoose_39 rfl (lv_at hl 0 rfl) ?_
    refine lv_iload_n hx hb dX6_divideAndChoose_40 rfl (lv_at hl 1 rfl) ?_
    refine lv_iload_n hx hb dX6_divideAndChoose_41 rfl (lv_at hl 2 rfl) ?_
    obtain ⟨v10, aM_11, hc9, hr⟩ := gT2_i hr
    refine gRun_i (g_runV X hI (w_X6_divide hc9) (g_obj_s mH_0) rfl hl (lw_V q1828 q1830 qs67 q122 q1831) rfl rfl hd_X6_divide ⟨Nat.le_of_ble_eq_true rfl, Nat.le_of_ble_eq_true rfl⟩ (as := [.int z1, .int z2]) (rest := []) rfl rfl (Nat.le_of_ble_eq_true rfl) ⟨(Nat.le_refl _), (Nat.le_refl _)⟩ dX6_divideAndChoose_42) (fun H locs hI => ?_)
    have hr := gS_i hr
    subst hr
    exact g_iret X hI rfl (Nat.le_refl _) (Nat.le_refl _) dX6_divideAndChoose_45
  · replace hr := gIf_f c9 hr
    refine lv_iconst (v := 0) hx hb dX6_divideAndChoose_32 (by decide) ?_
    have hr := gS_i hr
    subst hr
    exact g_iret X hI rfl (Nat.le_refl _) (Nat.le_refl _) dX6_divideAndChoose_33
set_option maxHeartbeats 2000000 in
theorem w_X6_divideAndChoose_J15 {h : gH} {n : Nat} {o : Nat} {aM : (Nat → Int32)} {aS : (Nat → Int32)} {iU : Int32} {aB : (Nat → Int32)} {iL : Int32} {iE : Int32} {iP : Int32} {aR : (Nat → Int32)} {iW : Int32} {iT : Int32} {aT : (Nat → Int32)} {aC : (Nat → Int32)} {aH : (Nat → Int32)} {aE : (Nat → Int32)} {aQ : (Nat → Int32)} {iA : Int32} {iY : Int32} {iF : Int32} {iV : Int32} {aK : (Nat → Int32)} {z1 : Int32} {z2 : Int32} {s1 : Int32} {res : Int32 × (Nat → Int32) × Int32 × Int32} (X : gXX x base RX6 cX6_divideAndChoose 3 (some .int) p l s m args meth c) {H : Heap} {locs : List Loc} {ls : Array Slot} (hr : f_X6_divideAndChoose_J15 z1 z2 s1 aM iU iT = some res) (hI : gI x base s.heap (mH h o aM aS iU aB iL iE iP aR iW iT aT aC aH aE aQ iA iY iF iV aK) n H locs) (hl : lv_has ls 3 [(0, .ref o), (1, .int z1), (2, .int z2)]) : W p l e rm_X6_divideAndChoose s m args below meth c H locs 0 0 (MQ below (gQ x base (some (.int res.1)) (mH h o res.2.1 aS res.2.2.1 aB iL iE iP aR iW res.2.2.2 aT aC aH aE aQ iA iY iF iV aK) n) args s 0 0 (fun q => base ≤ q)) (F0 m 15 ls [.int s1, .ref o]) := by
  have hx := X.1
  have hb := X.2.1
  unfold f_X6_divideAndChoose_J15 at hr
  refine lv_iload_n hx hb dX6_divideAndChoose_15 rfl (lv_at hl 1 rfl) ?_
  refine lv_iload_n hx hb dX6_divideAndChoose_16 rfl (lv_at hl 2 rfl) ?_
  refine lv_icmp_ne (tgt := 24) hx hb dX6_divideAndChoose_17 (by decide) (fun c9 => ?_) (fun c9 => ?_)
  · replace hr := gIf_f c9 hr
    refine lv_iconst (v := 0) hx hb dX6_divideAndChoose_24 (by decide) ?_
    exact w_X6_divideAndChoose_J25 X hr hI (lv_sub hl [0, 1, 2] rfl)
  · replace hr := gIf_t c9 hr
    refine lv_iconst (v := 1) hx hb dX6_divideAndChoose_20 (by decide) ?_
    refine lv_goto (tgt := 25) hx hb dX6_divideAndChoose_21 (by decide) ?_
    exact w_X6_divideAndChoose_J25 X hr hI (lv_sub hl [0, 1, 2] rfl)
set_option maxHeartbeats 2000000 in
theorem w_X6_divideAndChoose {l : Launch} {x : gV} {base : Nat} {z1 : Int32} {z2 : Int32} {h : gH} {n : Nat} {o : Nat} {aM : (Nat → Int32)} {aS : (Nat → Int32)} {iU : Int32} {aB : (Nat → Int32)} {iL : Int32} {iE : Int32} {iP : Int32} {aR : (Nat → Int32)} {iW : Int32} {iT : Int32} {aT : (Nat → Int32)} {aC : (Nat → Int32)} {aH : (Nat → Int32)} {aE : (Nat → Int32)} {aQ : (Nat → Int32)} {iA : Int32} {iY : Int32} {iF : Int32} {iV : Int32} {aK : (Nat → Int32)} {res : Int32 × (Nat → Int32) × Int32 × Int32} (hr : f_X6_divideAndChoose z1 z2 aM iU iT = some res) : gM l yX6_divideAndChoose (ws_ yX6_divideAndChoose cX6_divideAndChoose 3 (some .int)) rm_X6_divideAndChoose x base [.ref o, .int z1, .int z2] (mH h o aM aS iU aB iL iE iP aR iW iT aT aC aH aE aQ iA iY iF iV aK) n (some (.int res.1)) (mH h o res.2.1 aS res.2.2.1 aB iL iE iP aR iW res.2.2.2 aT aC aH aE aQ iA iY iF iV aK) n 0 0 := by
  refine g_met (cc := cX6_divideAndChoose) (nL := 3) (ret := (some .int)) (by decide) (Nat.le_of_ble_eq_true rfl) (fun p e s m below meth c ls X hnm hl hI => ?_)
  have hl : lv_has ls 3 [(0, .ref o), (1, .int z1), (2, .int z2)] := hl
  have hx := X.1
  have hb := X.2.1
  unfold f_X6_divideAndChoose at hr
  refine lv_aload_n hx hb dX6_divideAndChoose_0 rfl (lv_at hl 0 rfl) ?_
  refine lv_aload_n hx hb dX6_divideAndChoose_1 rfl (lv_at hl 0 rfl) ?_
  refine lv_iload_n hx hb dX6_divideAndChoose_2 rfl (lv_at hl 1 rfl) ?_
  refine lv_iload_n hx hb dX6_divideAndChoose_3 rfl (lv_at hl 2 rfl) ?_
  obtain ⟨v2, hc1, hr⟩ := gB_i hr
  refine gRun_i (g_runV X hI (w_X6_areSiblings hc1) (g_obj_s mH_0) rfl hl (lw_V q1924 q1926 qs80 q122 q1927) rfl rfl hd_X6_areSiblings ⟨Nat.le_of_ble_eq_true rfl, Nat.le_of_ble_eq_true rfl⟩ (as := [.int z1, .int z2]) (rest := [.ref o]) rfl rfl (Nat.le_of_ble_eq_true rfl) ⟨(Nat.le_refl _), (Nat.le_refl _)⟩ dX6_divideAndChoose_4) (fun H locs hI => ?_)
  refine lv_if_ne (tgt := 14) hx hb dX6_divideAndChoose_7 (by decide) (fun c9 => ?_) (fun c9 => ?_)
  · replace hr := gIf_f c9 hr
    refine lv_iconst (v := 0) hx hb dX6_divideAndChoose_14 (by decide) ?_
    exact w_X6_divideAndChoose_J15 X hr hI (lv_sub hl [0, 1, 2] rfl)
  · replace hr := gIf_t c9 hr
    refine lv_iconst (v := 1) hx hb dX6_divideAndChoose_10 (by decide) ?_
    refine lv_goto (tgt := 15) hx hb dX6_divideAndChoose_11 (by decide) ?_
    exact w_X6_divideAndChoose_J15 X hr hI (lv_sub hl [0, 1, 2] rfl)
abbrev rm_X6_movingKnife : Room := { frames := 6, cells := 0, slots := 0, locals := 137 }
theorem hd_X6_movingKnife : yX6_movingKnife.cls = RX6 ∧ yX6_movingKnife.cls ≠ "java/lang/invoke/MethodHandle" ∧ yX6_movingKnife.cls ≠ "java/lang/invoke/VarHandle" ∧ (parseMethodDescriptor yX6_movingKnife.desc).map (fun d => d.parameters.length) = some 0 := by decide +kernel
set_option maxHeartbeats 2000000 in
theorem w_X6_movingKnife {l : Launch} {x : gV} {base : Nat} {h : gH} {n : Nat} {o : Nat} {aM : (Nat → Int32)} {aS : (Nat → Int32)} {iU : Int32} {aB : (Nat → Int32)} {iL : Int32} {iE : Int32} {iP : Int32} {aR : (Nat → Int32)} {iW : Int32} {iT : Int32} {aT : (Nat → Int32)} {aC : (Nat → Int32)} {aH : (Nat → Int32)} {aE : (Nat → Int32)} {aQ : (Nat → Int32)} {iA : Int32} {iY : Int32} {iF : Int32} {iV : Int32} {aK : (Nat → Int32)} {res : Int32 × (Nat → Int32) × Int32 × Int32 × (Nat → Int32)} (hr : f_X6_movingKnife aM iU iT aH = some res) : gM l yX6_movingKnife (ws_ yX6_movingKnife cX6_movingKnife 1 (some .int)) rm_X6_movingKnife x base [.ref o] (mH h o aM aS iU aB iL iE iP aR iW iT aT aC aH aE aQ iA iY iF iV aK) n (some (.int res.1)) (mH h o res.2.1 aS res.2.2.1 aB iL iE iP aR iW res.2.2.2.1 aT aC res.2.2.2.2 aE aQ iA iY iF iV aK) n 0 0 := by
  refine g_met (cc := cX6_movingKnife) (nL := 1) (ret := (some .int)) (by decide) (Nat.le_of_ble_eq_true rfl) (fun p e s m below meth c ls X hnm hl hI => ?_)
  have hl : lv_has ls 1 [(0, .ref o)] := hl
  have hx := X.1
  have hb := X.2.1
  unfold f_X6_movingKnife at hr
  refine lv_aload_n hx hb dX6_movingKnife_0 rfl (lv_at hl 0 rfl) ?_
  refine lv_iconst (v := 0) hx hb dX6_movingKnife_1 (by decide) ?_
  refine m_put X hI mH_0 9 (by decide) q1661 rfl (by decide +kernel) (Nat.le_of_ble_eq_true rfl) rfl mH_iT dX6_movingKnife_2 (fun H locs hI => ?_)
  refine lv_aload_n hx hb dX6_movingKnife_5 rfl (lv_at hl 0 rfl) ?_
  refine lv_iconst (v := 0) hx hb dX6_movingKnife_6 (by decide) ?_
  obtain ⟨aM_2, iU_3, hc1, hr⟩ := gT2_i hr
  refine gRun_v (g_runV X hI (w_X6_remember hc1) (g_obj_s mH_0) rfl hl (lw_V q1772 q1774 qs53 q122 q1775) rfl rfl hd_X6_remember ⟨Nat.le_of_ble_eq_true rfl, Nat.le_of_ble_eq_true rfl⟩ (as := [.int (0 : Int32)]) (rest := []) rfl rfl (Nat.le_of_ble_eq_true rfl) ⟨(Nat.le_refl _), (Nat.le_refl _)⟩ dX6_movingKnife_7) (fun H locs hI => ?_)
  refine lv_aload_n hx hb dX6_movingKnife_10 rfl (lv_at hl 0 rfl) ?_
  obtain ⟨v5, aM_6, aH_7, hc4, hr⟩ := gT3_i hr
  refine gRun_i (g_runV X hI (w_X6_knife hc4) (g_obj_s mH_0) rfl hl (lw_V q1844 q1846 qs71 q122 q1847) rfl rfl hd_X6_knife ⟨Nat.le_of_ble_eq_true rfl, Nat.le_of_ble_eq_true rfl⟩ (as := []) (rest := []) rfl rfl (Nat.le_of_ble_eq_true rfl) ⟨(Nat.le_refl _), (Nat.le_refl _)⟩ dX6_movingKnife_11) (fun H locs hI => ?_)
  have hr := gS_i hr
  subst hr
  exact g_iret X hI rfl (Nat.le_refl _) (Nat.le_refl _) dX6_movingKnife_14
abbrev rm_X6_roundRobin : Room := { frames := 3, cells := 0, slots := 0, locals := 69 }
theorem hd_X6_roundRobin : yX6_roundRobin.cls = RX6 ∧ yX6_roundRobin.cls ≠ "java/lang/invoke/MethodHandle" ∧ yX6_roundRobin.cls ≠ "java/lang/invoke/VarHandle" ∧ (parseMethodDescriptor yX6_roundRobin.desc).map (fun d => d.parameters.length) = some 1 := by decide +kernel
set_option maxHeartbeats 2000000 in
theorem w_X6_roundRobin_J14 {h : gH} {n : Nat} {o : Nat} {aM : (Nat → Int32)} {aS : (Nat → Int32)} {iU : Int32} {aB : (Nat → Int32)} {iL : Int32} {iE : Int32} {iP : Int32} {aR : (Nat → Int32)} {iW : Int32} {iT : Int32} {aT : (Nat → Int32)} {aC : (Nat → Int32)} {aH : (Nat → Int32)} {aE : (Nat → Int32)} {aQ : (Nat → Int32)} {iA : Int32} {iY : Int32} {iF : Int32} {iV : Int32} {aK : (Nat → Int32)} {z1 : Int32} {s1 : Int32} {res : Int32 × (Nat → Int32) × Int32 × Int32} (X : gXX x base RX6 cX6_roundRobin 2 (some .int) p l s m args meth c) {H : Heap} {locs : List Loc} {ls : Array Slot} (hr : f_X6_roundRobin_J14 z1 s1 aM iU iT = some res) (hI : gI x base s.heap (mH h o aM aS iU aB iL iE iP aR iW iT aT aC aH aE aQ iA iY iF iV aK) n H locs) (hl : lv_has ls 2 [(0, .ref o), (1, .int z1)]) : W p l e rm_X6_roundRobin s m args below meth c H locs 0 0 (MQ below (gQ x base (some (.int res.1)) (mH h o res.2.1 aS res.2.2.1 aB iL iE iP aR iW res.2.2.2 aT aC aH aE aQ iA iY iF iV aK) n) args s 0 0 (fun q => base ≤ q)) (F0 m 14 ls [.int s1, .ref o]) := by
  have hx := X.1
  have hb := X.2.1
  unfold f_X6_roundRobin_J14 at hr
  refine lv_iconst (v := 0) hx hb dX6_roundRobin_14 (by decide) ?_
  refine lv_iconst (v := 0) hx hb dX6_roundRobin_15 (by decide) ?_
  obtain ⟨v4, iT_5, hc3, hr⟩ := gT2_i hr
  refine gRun_i (g_runV X hI (w_X6_fails hc3) (g_obj_s mH_0) rfl hl (lw_V q1717 q1719 qs45 q122 q1720) rfl rfl hd_X6_fails ⟨Nat.le_of_ble_eq_true rfl, Nat.le_of_ble_eq_true rfl⟩ (as := [.int s1, .int (0 : Int32), .int (0 : Int32)]) (rest := []) rfl rfl (Nat.le_of_ble_eq_true rfl) ⟨(Nat.le_refl _), (Nat.le_refl _)⟩ dX6_roundRobin_16) (fun H locs hI => ?_)
  refine lv_if_eq (tgt := 24) hx hb dX6_roundRobin_19 (by decide) (fun c9 => ?_) (fun c9 => ?_)
  · replace hr := gIf_t c9 hr
    refine lv_aload_n hx hb dX6_roundRobin_24 rfl (lv_at hl 0 rfl) ?_
    refine lv_iconst (v := 0) hx hb dX6_roundRobin_25 (by decide) ?_
    obtain ⟨aM_7, iU_8, hc6, hr⟩ := gT2_i hr
    refine gRun_v (g_runV X hI (w_X6_remember hc6) (g_obj_s mH_0) rfl hl (lw_V q1772 q1774 qs53 q122 q1775) rfl rfl hd_X6_remember ⟨Nat.le_of_ble_eq_true rfl, Nat.le_of_ble_eq_true rfl⟩ (as := [.int (0 : Int32)]) (rest := []) rfl rfl (Nat.le_of_ble_eq_true rfl) ⟨(Nat.le_refl _), (Nat.le_refl _)⟩ dX6_roundRobin_26) (fun H locs hI => ?_)
    refine lv_aload_n hx hb dX6_roundRobin_29 rfl (lv_at hl 0 rfl) ?_
    refine lv_iload_n hx hb dX6_roundRobin_30 rfl (lv_at hl 1 rfl) ?_
    obtain ⟨v10, aM_11, hc9, hr⟩ := gT2_i hr
    refine gRun_i (g_runV X hI (w_X6_robin hc9) (g_obj_s mH_0) rfl hl (lw_V q1860 q1862 qs75 q122 q1863) rfl rfl hd_X6_robin ⟨Nat.le_of_ble_eq_true rfl, Nat.le_of_ble_eq_true rfl⟩ (as := [.int z1]) (rest := []) rfl rfl (Nat.le_of_ble_eq_true rfl) ⟨(Nat.le_refl _), (Nat.le_refl _)⟩ dX6_roundRobin_31) (fun H locs hI => ?_)
    have hr := gS_i hr
    subst hr
    exact g_iret X hI rfl (Nat.le_refl _) (Nat.le_refl _) dX6_roundRobin_34
  · replace hr := gIf_f c9 hr
    refine lv_iconst (v := 0) hx hb dX6_roundRobin_22 (by decide) ?_
    have hr := gS_i hr
    subst hr
    exact g_iret X hI rfl (Nat.le_refl _) (Nat.le_refl _) dX6_roundRobin_23
set_option maxHeartbeats 2000000 in
theorem w_X6_roundRobin {l : Launch} {x : gV} {base : Nat} {z1 : Int32} {h : gH} {n : Nat} {o : Nat} {aM : (Nat → Int32)} {aS : (Nat → Int32)} {iU : Int32} {aB : (Nat → Int32)} {iL : Int32} {iE : Int32} {iP : Int32} {aR : (Nat → Int32)} {iW : Int32} {iT : Int32} {aT : (Nat → Int32)} {aC : (Nat → Int32)} {aH : (Nat → Int32)} {aE : (Nat → Int32)} {aQ : (Nat → Int32)} {iA : Int32} {iY : Int32} {iF : Int32} {iV : Int32} {aK : (Nat → Int32)} {res : Int32 × (Nat → Int32) × Int32 × Int32} (hr : f_X6_roundRobin z1 aM iU iT = some res) : gM l yX6_roundRobin (ws_ yX6_roundRobin cX6_roundRobin 2 (some .int)) rm_X6_roundRobin x base [.ref o, .int z1] (mH h o aM aS iU aB iL iE iP aR iW iT aT aC aH aE aQ iA iY iF iV aK) n (some (.int res.1)) (mH h o res.2.1 aS res.2.2.1 aB iL iE iP aR iW res.2.2.2 aT aC aH aE aQ iA iY iF iV aK) n 0 0 := by
  refine g_met (cc := cX6_roundRobin) (nL := 2) (ret := (some .int)) (by decide) (Nat.le_of_ble_eq_true rfl) (fun p e s m below meth c ls X hnm hl hI => ?_)
  have hl : lv_has ls 2 [(0, .ref o), (1, .int z1)] := hl
  have hx := X.1
  have hb := X.2.1
  unfold f_X6_roundRobin at hr
  refine lv_aload_n hx hb dX6_roundRobin_0 rfl (lv_at hl 0 rfl) ?_
  refine lv_aload_n hx hb dX6_roundRobin_1 rfl (lv_at hl 0 rfl) ?_
  refine lv_iload_n hx hb dX6_roundRobin_2 rfl (lv_at hl 1 rfl) ?_
  obtain ⟨v2, hc1, hr⟩ := gB_i hr
  refine gRun_i (g_runV X hI (w_X6_isSibling hc1) (g_obj_s mH_0) rfl hl (lw_V q1896 q1898 qs79 q122 q1899) rfl rfl hd_X6_isSibling ⟨Nat.le_of_ble_eq_true rfl, Nat.le_of_ble_eq_true rfl⟩ (as := [.int z1]) (rest := [.ref o]) rfl rfl (Nat.le_of_ble_eq_true rfl) ⟨(Nat.le_refl _), (Nat.le_refl _)⟩ dX6_roundRobin_3) (fun H locs hI => ?_)
  refine lv_if_ne (tgt := 13) hx hb dX6_roundRobin_6 (by decide) (fun c9 => ?_) (fun c9 => ?_)
  · replace hr := gIf_f c9 hr
    refine lv_iconst (v := 0) hx hb dX6_roundRobin_13 (by decide) ?_
    exact w_X6_roundRobin_J14 X hr hI (lv_sub hl [0, 1] rfl)
  · replace hr := gIf_t c9 hr
    refine lv_iconst (v := 1) hx hb dX6_roundRobin_9 (by decide) ?_
    refine lv_goto (tgt := 14) hx hb dX6_roundRobin_10 (by decide) ?_
    exact w_X6_roundRobin_J14 X hr hI (lv_sub hl [0, 1] rfl)
abbrev rm_X6_rotate : Room := { frames := 7, cells := 0, slots := 0, locals := 163 }
theorem hd_X6_rotate : yX6_rotate.cls = RX6 ∧ yX6_rotate.cls ≠ "java/lang/invoke/MethodHandle" ∧ yX6_rotate.cls ≠ "java/lang/invoke/VarHandle" ∧ (parseMethodDescriptor yX6_rotate.desc).map (fun d => d.parameters.length) = some 1 := by decide +kernel
set_option maxHeartbeats 2000000 in
theorem w_X6_rotate_J34 {h : gH} {n : Nat} {o : Nat} {aM : (Nat → Int32)} {aS : (Nat → Int32)} {iU : Int32} {aB : (Nat → Int32)} {iL : Int32} {iE : Int32} {iP : Int32} {aR : (Nat → Int32)} {iW : Int32} {iT : Int32} {aT : (Nat → Int32)} {aC : (Nat → Int32)} {aH : (Nat → Int32)} {aE : (Nat → Int32)} {aQ : (Nat → Int32)} {iA : Int32} {iY : Int32} {iF : Int32} {iV : Int32} {aK : (Nat → Int32)} {z1 : Int32} {s1 : Int32} {s2 : Int32} {res : Int32 × (Nat → Int32) × Int32 × Int32 × (Nat → Int32) × (Nat → Int32)} (X : gXX x base RX6 cX6_rotate 3 (some .int) p l s m args meth c) {H : Heap} {locs : List Loc} {ls : Array Slot} (hr : f_X6_rotate_J34 z1 s1 s2 aM iU iT aT aC = some res) (hI : gI x base s.heap (mH h o aM aS iU aB iL iE iP aR iW iT aT aC aH aE aQ iA iY iF iV aK) n H locs) (hl : lv_has ls 3 [(0, .ref o), (1, .int z1)]) : W p l e rm_X6_rotate s m args below meth c H locs 0 0 (MQ below (gQ x base (some (.int res.1)) (mH h o res.2.1 aS res.2.2.1 aB iL iE iP aR iW res.2.2.2.1 res.2.2.2.2.1 res.2.2.2.2.2 aH aE aQ iA iY iF iV aK) n) args s 0 0 (fun q => base ≤ q)) (F0 m 34 ls [.int s2, .int s1, .ref o]) := by
  have hx := X.1
  have hb := X.2.1
  unfold f_X6_rotate_J34 at hr
  refine lv_iconst (v := 0) hx hb dX6_rotate_34 (by decide) ?_
  obtain ⟨v4, iT_5, hc3, hr⟩ := gT2_i hr
  refine gRun_i (g_runV X hI (w_X6_fails hc3) (g_obj_s mH_0) rfl hl (lw_V q1717 q1719 qs45 q122 q1720) rfl rfl hd_X6_fails ⟨Nat.le_of_ble_eq_true rfl, Nat.le_of_ble_eq_true rfl⟩ (as := [.int s1, .int s2, .int (0 : Int32)]) (rest := []) rfl rfl (Nat.le_of_ble_eq_true rfl) ⟨(Nat.le_refl _), (Nat.le_refl _)⟩ dX6_rotate_35) (fun H locs hI => ?_)
  refine lv_if_eq (tgt := 43) hx hb dX6_rotate_38 (by decide) (fun c9 => ?_) (fun c9 => ?_)
  · replace hr := gIf_t c9 hr
    refine lv_aload_n hx hb dX6_rotate_43 rfl (lv_at hl 0 rfl) ?_
    refine lv_iconst (v := 0) hx hb dX6_rotate_44 (by decide) ?_
    obtain ⟨aM_7, iU_8, hc6, hr⟩ := gT2_i hr
    refine gRun_v (g_runV X hI (w_X6_remember hc6) (g_obj_s mH_0) rfl hl (lw_V q1772 q1774 qs53 q122 q1775) rfl rfl hd_X6_remember ⟨Nat.le_of_ble_eq_true rfl, Nat.le_of_ble_eq_true rfl⟩ (as := [.int (0 : Int32)]) (rest := []) rfl rfl (Nat.le_of_ble_eq_true rfl) ⟨(Nat.le_refl _), (Nat.le_refl _)⟩ dX6_rotate_45) (fun H locs hI => ?_)
    refine lv_aload_n hx hb dX6_rotate_48 rfl (lv_at hl 0 rfl) ?_
    refine lv_iload_n hx hb dX6_rotate_49 rfl (lv_at hl 1 rfl) ?_
    obtain ⟨v10, aM_11, aT_12, aC_13, hc9, hr⟩ := gT4_i hr
    refine gRun_i (g_runV X hI (w_X6_turnCycle hc9) (g_obj_s mH_0) rfl hl (lw_V q1868 q1870 qs77 q122 q1871) rfl rfl hd_X6_turnCycle ⟨Nat.le_of_ble_eq_true rfl, Nat.le_of_ble_eq_true rfl⟩ (as := [.int z1]) (rest := []) rfl rfl (Nat.le_of_ble_eq_true rfl) ⟨(Nat.le_refl _), (Nat.le_refl _)⟩ dX6_rotate_50) (fun H locs hI => ?_)
    have hr := gS_i hr
    subst hr
    exact g_iret X hI rfl (Nat.le_refl _) (Nat.le_refl _) dX6_rotate_53
  · replace hr := gIf_f c9 hr
    refine lv_iconst (v := 0) hx hb dX6_rotate_41 (by decide) ?_
    have hr := gS_i hr
    subst hr
    exact g_iret X hI rfl (Nat.le_refl _) (Nat.le_refl _) dX6_rotate_42
set_option maxHeartbeats 2000000 in
theorem w_X6_rotate_J33 {h : gH} {n : Nat} {o : Nat} {aM : (Nat → Int32)} {aS : (Nat → Int32)} {iU : Int32} {aB : (Nat → Int32)} {iL : Int32} {iE : Int32} {iP : Int32} {aR : (Nat → Int32)} {iW : Int32} {iT : Int32} {aT : (Nat → Int32)} {aC : (Nat → Int32)} {aH : (Nat → Int32)} {aE : (Nat → Int32)} {aQ : (Nat → Int32)} {iA : Int32} {iY : Int32} {iF : Int32} {iV : Int32} {aK : (Nat → Int32)} {z1 : Int32} {s1 : Int32} {res : Int32 × (Nat → Int32) × Int32 × Int32 × (Nat → Int32) × (Nat → Int32)} (X : gXX x base RX6 cX6_rotate 3 (some .int) p l s m args meth c) {H : Heap} {locs : List Loc} {ls : Array Slot} (hr : f_X6_rotate_J33 z1 s1 aM iU iT aT aC = some res) (hI : gI x base s.heap (mH h o aM aS iU aB iL iE iP aR iW iT aT aC aH aE aQ iA iY iF iV aK) n H locs) (hl : lv_has ls 3 [(0, .ref o), (1, .int z1)]) : W p l e rm_X6_rotate s m args below meth c H locs 0 0 (MQ below (gQ x base (some (.int res.1)) (mH h o res.2.1 aS res.2.2.1 aB iL iE iP aR iW res.2.2.2.1 res.2.2.2.2.1 res.2.2.2.2.2 aH aE aQ iA iY iF iV aK) n) args s 0 0 (fun q => base ≤ q)) (F0 m 33 ls [.int s1, .ref o]) := by
  have hx := X.1
  have hb := X.2.1
  unfold f_X6_rotate_J33 at hr
  refine lv_iconst (v := 0) hx hb dX6_rotate_33 (by decide) ?_
  exact w_X6_rotate_J34 X hr hI (lv_sub hl [0, 1] rfl)
set_option maxHeartbeats 2000000 in
theorem w_X6_rotate_J16 {h : gH} {n : Nat} {o : Nat} {aM : (Nat → Int32)} {aS : (Nat → Int32)} {iU : Int32} {aB : (Nat → Int32)} {iL : Int32} {iE : Int32} {iP : Int32} {aR : (Nat → Int32)} {iW : Int32} {iT : Int32} {aT : (Nat → Int32)} {aC : (Nat → Int32)} {aH : (Nat → Int32)} {aE : (Nat → Int32)} {aQ : (Nat → Int32)} {iA : Int32} {iY : Int32} {iF : Int32} {iV : Int32} {aK : (Nat → Int32)} {z1 : Int32} {z2 : Int32} {s1 : Int32} {res : Int32 × (Nat → Int32) × Int32 × Int32 × (Nat → Int32) × (Nat → Int32)} (X : gXX x base RX6 cX6_rotate 3 (some .int) p l s m args meth c) {H : Heap} {locs : List Loc} {ls : Array Slot} (hr : f_X6_rotate_J16 z1 z2 s1 aM iU iT aT aC = some res) (hI : gI x base s.heap (mH h o aM aS iU aB iL iE iP aR iW iT aT aC aH aE aQ iA iY iF iV aK) n H locs) (hl : lv_has ls 3 [(0, .ref o), (1, .int z1), (2, .int z2)]) : W p l e rm_X6_rotate s m args below meth c H locs 0 0 (MQ below (gQ x base (some (.int res.1)) (mH h o res.2.1 aS res.2.2.1 aB iL iE iP aR iW res.2.2.2.1 res.2.2.2.2.1 res.2.2.2.2.2 aH aE aQ iA iY iF iV aK) n) args s 0 0 (fun q => base ≤ q)) (F0 m 16 ls [.int s1, .ref o]) := by
  have hx := X.1
  have hb := X.2.1
  unfold f_X6_rotate_J16 at hr
  refine lv_iload_n hx hb dX6_rotate_16 rfl (lv_at hl 2 rfl) ?_
  refine lv_if_eq (tgt := 33) hx hb dX6_rotate_17 (by decide) (fun c9 => ?_) (fun c9 => ?_)
  · replace hr := gIf_t c9 hr
    exact w_X6_rotate_J33 X hr hI (lv_sub hl [0, 1] rfl)
  · replace hr := gIf_f c9 hr
    refine lv_aload_n hx hb dX6_rotate_20 rfl (lv_at hl 0 rfl) ?_
    refine lv_iload_n hx hb dX6_rotate_21 rfl (lv_at hl 1 rfl) ?_
    obtain ⟨v15, aT_16, aC_17, hc14, hr⟩ := gT3_i hr
    refine gRun_i (g_runV X hI (w_X6_findCycle hc14) (g_obj_s mH_0) rfl hl (lw_V q1788 q1790 qs57 q122 q1791) rfl rfl hd_X6_findCycle ⟨Nat.le_of_ble_eq_true rfl, Nat.le_of_ble_eq_true rfl⟩ (as := [.int z1]) (rest := [.int s1, .ref o]) rfl rfl (Nat.le_of_ble_eq_true rfl) ⟨(Nat.le_refl _), (Nat.le_refl _)⟩ dX6_rotate_22) (fun H locs hI => ?_)
    refine lv_iconst (v := (-1)) hx hb dX6_rotate_25 (by decide) ?_
    refine lv_icmp_ne (tgt := 33) hx hb dX6_rotate_26 (by decide) (fun c9 => ?_) (fun c9 => ?_)
    · replace hr := gIf_f c9 hr
      exact w_X6_rotate_J33 X hr hI (lv_sub hl [0, 1] rfl)
    · replace hr := gIf_t c9 hr
      refine lv_iconst (v := 1) hx hb dX6_rotate_29 (by decide) ?_
      refine lv_goto (tgt := 34) hx hb dX6_rotate_30 (by decide) ?_
      exact w_X6_rotate_J34 X hr hI (lv_sub hl [0, 1] rfl)
set_option maxHeartbeats 2000000 in
theorem w_X6_rotate {l : Launch} {x : gV} {base : Nat} {z1 : Int32} {h : gH} {n : Nat} {o : Nat} {aM : (Nat → Int32)} {aS : (Nat → Int32)} {iU : Int32} {aB : (Nat → Int32)} {iL : Int32} {iE : Int32} {iP : Int32} {aR : (Nat → Int32)} {iW : Int32} {iT : Int32} {aT : (Nat → Int32)} {aC : (Nat → Int32)} {aH : (Nat → Int32)} {aE : (Nat → Int32)} {aQ : (Nat → Int32)} {iA : Int32} {iY : Int32} {iF : Int32} {iV : Int32} {aK : (Nat → Int32)} {res : Int32 × (Nat → Int32) × Int32 × Int32 × (Nat → Int32) × (Nat → Int32)} (hr : f_X6_rotate z1 aM iU iT aT aC = some res) : gM l yX6_rotate (ws_ yX6_rotate cX6_rotate 3 (some .int)) rm_X6_rotate x base [.ref o, .int z1] (mH h o aM aS iU aB iL iE iP aR iW iT aT aC aH aE aQ iA iY iF iV aK) n (some (.int res.1)) (mH h o res.2.1 aS res.2.2.1 aB iL iE iP aR iW res.2.2.2.1 res.2.2.2.2.1 res.2.2.2.2.2 aH aE aQ iA iY iF iV aK) n 0 0 := by
  refine g_met (cc := cX6_rotate) (nL := 3) (ret := (some .int)) (by decide) (Nat.le_of_ble_eq_true rfl) (fun p e s m below meth c ls X hnm hl hI => ?_)
  have hl : lv_has ls 3 [(0, .ref o), (1, .int z1)] := hl
  have hx := X.1
  have hb := X.2.1
  unfold f_X6_rotate at hr
  refine lv_aload_n hx hb dX6_rotate_0 rfl (lv_at hl 0 rfl) ?_
  refine lv_iload_n hx hb dX6_rotate_1 rfl (lv_at hl 1 rfl) ?_
  obtain ⟨v2, hc1, hr⟩ := gB_i hr
  refine gRun_i (g_runV X hI (w_X6_isSibling hc1) (g_obj_s mH_0) rfl hl (lw_V q1896 q1898 qs79 q122 q1899) rfl rfl hd_X6_isSibling ⟨Nat.le_of_ble_eq_true rfl, Nat.le_of_ble_eq_true rfl⟩ (as := [.int z1]) (rest := []) rfl rfl (Nat.le_of_ble_eq_true rfl) ⟨(Nat.le_refl _), (Nat.le_refl _)⟩ dX6_rotate_2) (fun H locs hI => ?_)
  refine lv_istore_n (lv' := [(2, .int v2), (0, .ref o), (1, .int z1)]) hx hb dX6_rotate_5 rfl hl (by decide) rfl (fun ls hl => ?_)
  refine lv_aload_n hx hb dX6_rotate_6 rfl (lv_at hl 1 rfl) ?_
  refine lv_iload_n hx hb dX6_rotate_7 rfl (lv_at hl 0 rfl) ?_
  refine lv_if_ne (tgt := 15) hx hb dX6_rotate_8 (by decide) (fun c9 => ?_) (fun c9 => ?_)
  · replace hr := gIf_f c9 hr
    refine lv_iconst (v := 0) hx hb dX6_rotate_15 (by decide) ?_
    exact w_X6_rotate_J16 X hr hI (lv_sub hl [1, 2, 0] rfl)
  · replace hr := gIf_t c9 hr
    refine lv_iconst (v := 1) hx hb dX6_rotate_11 (by decide) ?_
    refine lv_goto (tgt := 16) hx hb dX6_rotate_12 (by decide) ?_
    exact w_X6_rotate_J16 X hr hI (lv_sub hl [1, 2, 0] rfl)
abbrev rm_X6_undo : Room := { frames := 1, cells := 0, slots := 0, locals := 23 }
theorem hd_X6_undo : yX6_undo.cls = RX6 ∧ yX6_undo.cls ≠ "java/lang/invoke/MethodHandle" ∧ yX6_undo.cls ≠ "java/lang/invoke/VarHandle" ∧ (parseMethodDescriptor yX6_undo.desc).map (fun d => d.parameters.length) = some 0 := by decide +kernel
set_option maxHeartbeats 2000000 in
theorem w_X6_undo_J13 {h : gH} {n : Nat} {o : Nat} {aM : (Nat → Int32)} {aS : (Nat → Int32)} {iU : Int32} {aB : (Nat → Int32)} {iL : Int32} {iE : Int32} {iP : Int32} {aR : (Nat → Int32)} {iW : Int32} {iT : Int32} {aT : (Nat → Int32)} {aC : (Nat → Int32)} {aH : (Nat → Int32)} {aE : (Nat → Int32)} {aQ : (Nat → Int32)} {iA : Int32} {iY : Int32} {iF : Int32} {iV : Int32} {aK : (Nat → Int32)} {s1 : Int32} {res : Int32 × (Nat → Int32) × Int32 × Int32} (X : gXX x base RX6 cX6_undo 1 (some .int) p l s m args meth c) {H : Heap} {locs : List Loc} {ls : Array Slot} (hr : f_X6_undo_J13 s1 aM iU iT = some res) (hI : gI x base s.heap (mH h o aM aS iU aB iL iE iP aR iW iT aT aC aH aE aQ iA iY iF iV aK) n H locs) (hl : lv_has ls 1 [(0, .ref o)]) : W p l e rm_X6_undo s m args below meth c H locs 0 0 (MQ below (gQ x base (some (.int res.1)) (mH h o res.2.1 aS res.2.2.1 aB iL iE iP aR iW res.2.2.2 aT aC aH aE aQ iA iY iF iV aK) n) args s 0 0 (fun q => base ≤ q)) (F0 m 13 ls [.int s1, .ref o]) := by
  have hx := X.1
  have hb := X.2.1
  unfold f_X6_undo_J13 at hr
  refine lv_iconst (v := 0) hx hb dX6_undo_13 (by decide) ?_
  refine lv_iconst (v := 0) hx hb dX6_undo_14 (by decide) ?_
  obtain ⟨v2, iT_3, hc1, hr⟩ := gT2_i hr
  refine gRun_i (g_runV X hI (w_X6_fails hc1) (g_obj_s mH_0) rfl hl (lw_V q1717 q1719 qs45 q122 q1720) rfl rfl hd_X6_fails ⟨Nat.le_of_ble_eq_true rfl, Nat.le_of_ble_eq_true rfl⟩ (as := [.int s1, .int (0 : Int32), .int (0 : Int32)]) (rest := []) rfl rfl (Nat.le_of_ble_eq_true rfl) ⟨(Nat.le_refl _), (Nat.le_refl _)⟩ dX6_undo_15) (fun H locs hI => ?_)
  refine lv_if_eq (tgt := 23) hx hb dX6_undo_18 (by decide) (fun c9 => ?_) (fun c9 => ?_)
  · replace hr := gIf_t c9 hr
    refine lv_aload_n hx hb dX6_undo_23 rfl (lv_at hl 0 rfl) ?_
    refine lv_aload_n hx hb dX6_undo_24 rfl (lv_at hl 0 rfl) ?_
    refine m_get X hI mH_0 2 (by decide) q1654 rfl dX6_undo_25 ?_
    refine lv_iconst (v := 0) hx hb dX6_undo_28 (by decide) ?_
    obtain ⟨aM_5, hc4, hr⟩ := gB_i hr
    refine gRun_v (g_runV X hI (w_X6_copyBlock hc4) (g_obj_s mH_0) rfl hl (lw_V q1733 q1735 qs47 q122 q1736) rfl rfl hd_X6_copyBlock ⟨Nat.le_of_ble_eq_true rfl, Nat.le_of_ble_eq_true rfl⟩ (as := [.int iU, .int (0 : Int32)]) (rest := []) rfl rfl (Nat.le_of_ble_eq_true rfl) ⟨(Nat.le_refl _), (Nat.le_refl _)⟩ dX6_undo_29) (fun H locs hI => ?_)
    refine lv_aload_n hx hb dX6_undo_32 rfl (lv_at hl 0 rfl) ?_
    refine lv_dup hx hb dX6_undo_33 rfl ?_
    refine m_get X hI mH_0 2 (by decide) q1654 rfl dX6_undo_34 ?_
    refine lv_iconst (v := 1) hx hb dX6_undo_37 (by decide) ?_
    refine lv_isub hx hb dX6_undo_38 ?_
    refine m_put X hI mH_0 2 (by decide) q1654 rfl (by decide +kernel) (Nat.le_of_ble_eq_true rfl) rfl mH_iU dX6_undo_39 (fun H locs hI => ?_)
    refine lv_aload_n hx hb dX6_undo_42 rfl (lv_at hl 0 rfl) ?_
    refine m_get X hI mH_0 2 (by decide) q1654 rfl dX6_undo_43 ?_
    have hr := gS_i hr
    subst hr
    exact g_iret X hI rfl (Nat.le_refl _) (Nat.le_refl _) dX6_undo_46
  · replace hr := gIf_f c9 hr
    refine lv_iconst (v := 0) hx hb dX6_undo_21 (by decide) ?_
    have hr := gS_i hr
    subst hr
    exact g_iret X hI rfl (Nat.le_refl _) (Nat.le_refl _) dX6_undo_22
set_option maxHeartbeats 2000000 in
theorem w_X6_undo {l : Launch} {x : gV} {base : Nat} {h : gH} {n : Nat} {o : Nat} {aM : (Nat → Int32)} {aS : (Nat → Int32)} {iU : Int32} {aB : (Nat → Int32)} {iL : Int32} {iE : Int32} {iP : Int32} {aR : (Nat → Int32)} {iW : Int32} {iT : Int32} {aT : (Nat → Int32)} {aC : (Nat → Int32)} {aH : (Nat → Int32)} {aE : (Nat → Int32)} {aQ : (Nat → Int32)} {iA : Int32} {iY : Int32} {iF : Int32} {iV : Int32} {aK : (Nat → Int32)} {res : Int32 × (Nat → Int32) × Int32 × Int32} (hr : f_X6_undo aM iU iT = some res) : gM l yX6_undo (ws_ yX6_undo cX6_undo 1 (some .int)) rm_X6_undo x base [.ref o] (mH h o aM aS iU aB iL iE iP aR iW iT aT aC aH aE aQ iA iY iF iV aK) n (some (.int res.1)) (mH h o res.2.1 aS res.2.2.1 aB iL iE iP aR iW res.2.2.2 aT aC aH aE aQ iA iY iF iV aK) n 0 0 := by
  refine g_met (cc := cX6_undo) (nL := 1) (ret := (some .int)) (by decide) (Nat.le_of_ble_eq_true rfl) (fun p e s m below meth c ls X hnm hl hI => ?_)
  have hl : lv_has ls 1 [(0, .ref o)] := hl
  have hx := X.1
  have hb := X.2.1
  unfold f_X6_undo at hr
  refine lv_aload_n hx hb dX6_undo_0 rfl (lv_at hl 0 rfl) ?_
  refine lv_aload_n hx hb dX6_undo_1 rfl (lv_at hl 0 rfl) ?_
  refine m_get X hI mH_0 2 (by decide) q1654 rfl dX6_undo_2 ?_
  refine lv_if_ne (tgt := 12) hx hb dX6_undo_5 (by decide) (fun c9 => ?_) (fun c9 => ?_)
  · replace hr := gIf_f c9 hr
    refine lv_iconst (v := 0) hx hb dX6_undo_12 (by decide) ?_
    exact w_X6_undo_J13 X hr hI (lv_sub hl [0] rfl)
  · replace hr := gIf_t c9 hr
    refine lv_iconst (v := 1) hx hb dX6_undo_8 (by decide) ?_
    refine lv_goto (tgt := 13) hx hb dX6_undo_9 (by decide) ?_
    exact w_X6_undo_J13 X hr hI (lv_sub hl [0] rfl)
abbrev rm_X6_save : Room := { frames := 2, cells := 0, slots := 0, locals := 44 }
theorem hd_X6_save : yX6_save.cls = RX6 ∧ yX6_save.cls ≠ "java/lang/invoke/MethodHandle" ∧ yX6_save.cls ≠ "java/lang/invoke/VarHandle" ∧ (parseMethodDescriptor yX6_save.desc).map (fun d => d.parameters.length) = some 1 := by decide +kernel
set_option maxHeartbeats 2000000 in
theorem w_X6_save_J15 {h : gH} {n : Nat} {o : Nat} {aM : (Nat → Int32)} {aS : (Nat → Int32)} {iU : Int32} {aB : (Nat → Int32)} {iL : Int32} {iE : Int32} {iP : Int32} {aR : (Nat → Int32)} {iW : Int32} {iT : Int32} {aT : (Nat → Int32)} {aC : (Nat → Int32)} {aH : (Nat → Int32)} {aE : (Nat → Int32)} {aQ : (Nat → Int32)} {iA : Int32} {iY : Int32} {iF : Int32} {iV : Int32} {aK : (Nat → Int32)} {z1 : Int32} {s1 : Int32} {res : Int32 × (Nat → Int32) × (Nat → Int32) × Int32} (X : gXX x base RX6 cX6_save 2 (some .int) p l s m args meth c) {H : Heap} {locs : List Loc} {ls : Array Slot} (hr : f_X6_save_J15 z1 s1 aM aS iT = some res) (hI : gI x base s.heap (mH h o aM aS iU aB iL iE iP aR iW iT aT aC aH aE aQ iA iY iF iV aK) n H locs) (hl : lv_has ls 2 [(0, .ref o), (1, .int z1)]) : W p l e rm_X6_save s m args below meth c H locs 0 0 (MQ below (gQ x base (some (.int res.1)) (mH h o res.2.1 res.2.2.1 iU aB iL iE iP aR iW res.2.2.2 aT aC aH aE aQ iA iY iF iV aK) n) args s 0 0 (fun q => base ≤ q)) (F0 m 15 ls [.int s1, .ref o]) := by
  have hx := X.1
  have hb := X.2.1
  unfold f_X6_save_J15 at hr
  refine lv_iconst (v := 0) hx hb dX6_save_15 (by decide) ?_
  refine lv_iconst (v := 0) hx hb dX6_save_16 (by decide) ?_
  obtain ⟨v4, iT_5, hc3, hr⟩ := gT2_i hr
  refine gRun_i (g_runV X hI (w_X6_fails hc3) (g_obj_s mH_0) rfl hl (lw_V q1717 q1719 qs45 q122 q1720) rfl rfl hd_X6_fails ⟨Nat.le_of_ble_eq_true rfl, Nat.le_of_ble_eq_true rfl⟩ (as := [.int s1, .int (0 : Int32), .int (0 : Int32)]) (rest := []) rfl rfl (Nat.le_of_ble_eq_true rfl) ⟨(Nat.le_refl _), (Nat.le_refl _)⟩ dX6_save_17) (fun H locs hI => ?_)
  refine lv_if_eq (tgt := 25) hx hb dX6_save_20 (by decide) (fun c9 => ?_) (fun c9 => ?_)
  · replace hr := gIf_t c9 hr
    refine lv_aload_n hx hb dX6_save_25 rfl (lv_at hl 0 rfl) ?_
    refine lv_iconst (v := 0) hx hb dX6_save_26 (by decide) ?_
    refine lv_bipush (v := 7) hx hb dX6_save_27 (by decide) ?_
    refine lv_iload_n hx hb dX6_save_29 rfl (lv_at hl 1 rfl) ?_
    refine lv_iadd hx hb dX6_save_30 ?_
    obtain ⟨aM_7, hc6, hr⟩ := gB_i hr
    refine gRun_v (g_runV X hI (w_X6_copyBlock hc6) (g_obj_s mH_0) rfl hl (lw_V q1733 q1735 qs47 q122 q1736) rfl rfl hd_X6_copyBlock ⟨Nat.le_of_ble_eq_true rfl, Nat.le_of_ble_eq_true rfl⟩ (as := [.int (0 : Int32), .int ((7 : Int32) + z1)]) (rest := []) rfl rfl (Nat.le_of_ble_eq_true rfl) ⟨(Nat.le_refl _), (Nat.le_refl _)⟩ dX6_save_31) (fun H locs hI => ?_)
    refine lv_aload_n hx hb dX6_save_34 rfl (lv_at hl 0 rfl) ?_
    refine m_get X hI mH_0 1 (by decide) q1653 rfl dX6_save_35 ?_
    refine lv_iload_n hx hb dX6_save_38 rfl (lv_at hl 1 rfl) ?_
    refine lv_iconst (v := 1) hx hb dX6_save_39 (by decide) ?_
    refine m_zast X hI mH_aaS mH_saS hr dX6_save_40 (fun aS_8 H locs hI hr => ?_)
    refine lv_aload_n hx hb dX6_save_41 rfl (lv_at hl 0 rfl) ?_
    refine lv_iconst (v := (-1)) hx hb dX6_save_42 (by decide) ?_
    obtain ⟨v10, hc9, hr⟩ := gB_i hr
    refine gRun_i (g_runV X hI (w_X6_sizeOf hc9) (g_obj_s mH_0) rfl hl (lw_V q1932 q1934 qs81 q122 q1935) rfl rfl hd_X6_sizeOf ⟨Nat.le_of_ble_eq_true rfl, Nat.le_of_ble_eq_true rfl⟩ (as := [.int (-1 : Int32)]) (rest := []) rfl rfl (Nat.le_of_ble_eq_true rfl) ⟨(Nat.le_refl _), (Nat.le_refl _)⟩ dX6_save_43) (fun H locs hI => ?_)
    have hr := gS_i hr
    subst hr
    exact g_iret X hI rfl (Nat.le_refl _) (Nat.le_refl _) dX6_save_46
  · replace hr := gIf_f c9 hr
    refine lv_iconst (v := 0) hx hb dX6_save_23 (by decide) ?_
    have hr := gS_i hr
    subst hr
    exact g_iret X hI rfl (Nat.le_refl _) (Nat.le_refl _) dX6_save_24
set_option maxHeartbeats 2000000 in
theorem w_X6_save {l : Launch} {x : gV} {base : Nat} {z1 : Int32} {h : gH} {n : Nat} {o : Nat} {aM : (Nat → Int32)} {aS : (Nat → Int32)} {iU : Int32} {aB : (Nat → Int32)} {iL : Int32} {iE : Int32} {iP : Int32} {aR : (Nat → Int32)} {iW : Int32} {iT : Int32} {aT : (Nat → Int32)} {aC : (Nat → Int32)} {aH : (Nat → Int32)} {aE : (Nat → Int32)} {aQ : (Nat → Int32)} {iA : Int32} {iY : Int32} {iF : Int32} {iV : Int32} {aK : (Nat → Int32)} {res : Int32 × (Nat → Int32) × (Nat → Int32) × Int32} (hr : f_X6_save z1 aM aS iT = some res) : gM l yX6_save (ws_ yX6_save cX6_save 2 (some .int)) rm_X6_save x base [.ref o, .int z1] (mH h o aM aS iU aB iL iE iP aR iW iT aT aC aH aE aQ iA iY iF iV aK) n (some (.int res.1)) (mH h o res.2.1 res.2.2.1 iU aB iL iE iP aR iW res.2.2.2 aT aC aH aE aQ iA iY iF iV aK) n 0 0 := by
  refine g_met (cc := cX6_save) (nL := 2) (ret := (some .int)) (by decide) (Nat.le_of_ble_eq_true rfl) (fun p e s m below meth c ls X hnm hl hI => ?_)
  have hl : lv_has ls 2 [(0, .ref o), (1, .int z1)] := hl
  have hx := X.1
  have hb := X.2.1
  unfold f_X6_save at hr
  refine lv_aload_n hx hb dX6_save_0 rfl (lv_at hl 0 rfl) ?_
  refine lv_iload_n hx hb dX6_save_1 rfl (lv_at hl 1 rfl) ?_
  refine lv_iconst (v := 0) hx hb dX6_save_2 (by decide) ?_
  refine lv_iconst (v := 1) hx hb dX6_save_3 (by decide) ?_
  obtain ⟨v2, hc1, hr⟩ := gB_i hr
  refine gRun_i (g_runS X hI (w_X6_in hc1) hl (lw_S q1628 q1629 q122 q1630) rfl rfl hd_X6_in ⟨Nat.le_of_ble_eq_true rfl, Nat.le_of_ble_eq_true rfl⟩ (as := [.int z1, .int (0 : Int32), .int (1 : Int32)]) (rest := [.ref o]) rfl rfl (Nat.le_of_ble_eq_true rfl) ⟨(Nat.le_refl _), (Nat.le_refl _)⟩ dX6_save_4) (fun H locs hI => ?_)
  refine lv_if_ne (tgt := 14) hx hb dX6_save_7 (by decide) (fun c9 => ?_) (fun c9 => ?_)
  · replace hr := gIf_f c9 hr
    refine lv_iconst (v := 0) hx hb dX6_save_14 (by decide) ?_
    exact w_X6_save_J15 X hr hI (lv_sub hl [0, 1] rfl)
  · replace hr := gIf_t c9 hr
    refine lv_iconst (v := 1) hx hb dX6_save_10 (by decide) ?_
    refine lv_goto (tgt := 15) hx hb dX6_save_11 (by decide) ?_
    exact w_X6_save_J15 X hr hI (lv_sub hl [0, 1] rfl)
abbrev rm_X6_restore : Room := { frames := 2, cells := 0, slots := 0, locals := 44 }
theorem hd_X6_restore : yX6_restore.cls = RX6 ∧ yX6_restore.cls ≠ "java/lang/invoke/MethodHandle" ∧ yX6_restore.cls ≠ "java/lang/invoke/VarHandle" ∧ (parseMethodDescriptor yX6_restore.desc).map (fun d => d.parameters.length) = some 1 := by decide +kernel
set_option maxHeartbeats 2000000 in
theorem w_X6_restore_J35 {h : gH} {n : Nat} {o : Nat} {aM : (Nat → Int32)} {aS : (Nat → Int32)} {iU : Int32} {aB : (Nat → Int32)} {iL : Int32} {iE : Int32} {iP : Int32} {aR : (Nat → Int32)} {iW : Int32} {iT : Int32} {aT : (Nat → Int32)} {aC : (Nat → Int32)} {aH : (Nat → Int32)} {aE : (Nat → Int32)} {aQ : (Nat → Int32)} {iA : Int32} {iY : Int32} {iF : Int32} {iV : Int32} {aK : (Nat → Int32)} {z1 : Int32} {s1 : Int32} {s2 : Int32} {res : Int32 × (Nat → Int32) × Int32 × Int32} (X : gXX x base RX6 cX6_restore 3 (some .int) p l s m args meth c) {H : Heap} {locs : List Loc} {ls : Array Slot} (hr : f_X6_restore_J35 z1 s1 s2 aM aS iU iT = some res) (hI : gI x base s.heap (mH h o aM aS iU aB iL iE iP aR iW iT aT aC aH aE aQ iA iY iF iV aK) n H locs) (hl : lv_has ls 3 [(0, .ref o), (1, .int z1)]) : W p l e rm_X6_restore s m args below meth c H locs 0 0 (MQ below (gQ x base (some (.int res.1)) (mH h o res.2.1 aS res.2.2.1 aB iL iE iP aR iW res.2.2.2 aT aC aH aE aQ iA iY iF iV aK) n) args s 0 0 (fun q => base ≤ q)) (F0 m 35 ls [.int s2, .int s1, .ref o]) := by
  have hx := X.1
  have hb := X.2.1
  unfold f_X6_restore_J35 at hr
  refine lv_iconst (v := 0) hx hb dX6_restore_35 (by decide) ?_
  obtain ⟨v4, iT_5, hc3, hr⟩ := gT2_i hr
  refine gRun_i (g_runV X hI (w_X6_fails hc3) (g_obj_s mH_0) rfl hl (lw_V q1717 q1719 qs45 q122 q1720) rfl rfl hd_X6_fails ⟨Nat.le_of_ble_eq_true rfl, Nat.le_of_ble_eq_true rfl⟩ (as := [.int s1, .int s2, .int (0 : Int32)]) (rest := []) rfl rfl (Nat.le_of_ble_eq_true rfl) ⟨(Nat.le_refl _), (Nat.le_refl _)⟩ dX6_restore_36) (fun H locs hI => ?_)
  refine lv_if_eq (tgt := 44) hx hb dX6_restore_39 (by decide) (fun c9 => ?_) (fun c9 => ?_)
  · replace hr := gIf_t c9 hr
    refine lv_aload_n hx hb dX6_restore_44 rfl (lv_at hl 0 rfl) ?_
    refine lv_bipush (v := 7) hx hb dX6_restore_45 (by decide) ?_
    refine lv_iload_n hx hb dX6_restore_47 rfl (lv_at hl 1 rfl) ?_
    refine lv_iadd hx hb dX6_restore_48 ?_
    refine lv_iconst (v := 0) hx hb dX6_restore_49 (by decide) ?_
    obtain ⟨aM_7, hc6, hr⟩ := gB_i hr
    refine gRun_v (g_runV X hI (w_X6_copyBlock hc6) (g_obj_s mH_0) rfl hl (lw_V q1733 q1735 qs47 q122 q1736) rfl rfl hd_X6_copyBlock ⟨Nat.le_of_ble_eq_true rfl, Nat.le_of_ble_eq_true rfl⟩ (as := [.int ((7 : Int32) + z1), .int (0 : Int32)]) (rest := []) rfl rfl (Nat.le_of_ble_eq_true rfl) ⟨(Nat.le_refl _), (Nat.le_refl _)⟩ dX6_restore_50) (fun H locs hI => ?_)
    refine lv_aload_n hx hb dX6_restore_53 rfl (lv_at hl 0 rfl) ?_
    refine lv_iconst (v := 0) hx hb dX6_restore_54 (by decide) ?_
    refine m_put X hI mH_0 2 (by decide) q1654 rfl (by decide +kernel) (Nat.le_of_ble_eq_true rfl) rfl mH_iU dX6_restore_55 (fun H locs hI => ?_)
    refine lv_aload_n hx hb dX6_restore_58 rfl (lv_at hl 0 rfl) ?_
    refine lv_iconst (v := (-1)) hx hb dX6_restore_59 (by decide) ?_
    obtain ⟨v9, hc8, hr⟩ := gB_i hr
    refine gRun_i (g_runV X hI (w_X6_sizeOf hc8) (g_obj_s mH_0) rfl hl (lw_V q1932 q1934 qs81 q122 q1935) rfl rfl hd_X6_sizeOf ⟨Nat.le_of_ble_eq_true rfl, Nat.le_of_ble_eq_true rfl⟩ (as := [.int (-1 : Int32)]) (rest := []) rfl rfl (Nat.le_of_ble_eq_true rfl) ⟨(Nat.le_refl _), (Nat.le_refl _)⟩ dX6_restore_60) (fun H locs hI => ?_)
    have hr := gS_i hr
    subst hr
    exact g_iret X hI rfl (Nat.le_refl _) (Nat.le_refl _) dX6_restore_63
  · replace hr := gIf_f c9 hr
    refine lv_iconst (v := 0) hx hb dX6_restore_42 (by decide) ?_
    have hr := gS_i hr
    subst hr
    exact g_iret X hI rfl (Nat.le_refl _) (Nat.le_refl _) dX6_restore_43
set_option maxHeartbeats 2000000 in
theorem w_X6_restore_J34 {h : gH} {n : Nat} {o : Nat} {aM : (Nat → Int32)} {aS : (Nat → Int32)} {iU : Int32} {aB : (Nat → Int32)} {iL : Int32} {iE : Int32} {iP : Int32} {aR : (Nat → Int32)} {iW : Int32} {iT : Int32} {aT : (Nat → Int32)} {aC : (Nat → Int32)} {aH : (Nat → Int32)} {aE : (Nat → Int32)} {aQ : (Nat → Int32)} {iA : Int32} {iY : Int32} {iF : Int32} {iV : Int32} {aK : (Nat → Int32)} {z1 : Int32} {s1 : Int32} {res : Int32 × (Nat → Int32) × Int32 × Int32} (X : gXX x base RX6 cX6_restore 3 (some .int) p l s m args meth c) {H : Heap} {locs : List Loc} {ls : Array Slot} (hr : f_X6_restore_J34 z1 s1 aM aS iU iT = some res) (hI : gI x base s.heap (mH h o aM aS iU aB iL iE iP aR iW iT aT aC aH aE aQ iA iY iF iV aK) n H locs) (hl : lv_has ls 3 [(0, .ref o), (1, .int z1)]) : W p l e rm_X6_restore s m args below meth c H locs 0 0 (MQ below (gQ x base (some (.int res.1)) (mH h o res.2.1 aS res.2.2.1 aB iL iE iP aR iW res.2.2.2 aT aC aH aE aQ iA iY iF iV aK) n) args s 0 0 (fun q => base ≤ q)) (F0 m 34 ls [.int s1, .ref o]) := by
  have hx := X.1
  have hb := X.2.1
  unfold f_X6_restore_J34 at hr
  refine lv_iconst (v := 0) hx hb dX6_restore_34 (by decide) ?_
  exact w_X6_restore_J35 X hr hI (lv_sub hl [0, 1] rfl)
set_option maxHeartbeats 2000000 in
theorem w_X6_restore_J17 {h : gH} {n : Nat} {o : Nat} {aM : (Nat → Int32)} {aS : (Nat → Int32)} {iU : Int32} {aB : (Nat → Int32)} {iL : Int32} {iE : Int32} {iP : Int32} {aR : (Nat → Int32)} {iW : Int32} {iT : Int32} {aT : (Nat → Int32)} {aC : (Nat → Int32)} {aH : (Nat → Int32)} {aE : (Nat → Int32)} {aQ : (Nat → Int32)} {iA : Int32} {iY : Int32} {iF : Int32} {iV : Int32} {aK : (Nat → Int32)} {z1 : Int32} {z2 : Int32} {s1 : Int32} {res : Int32 × (Nat → Int32) × Int32 × Int32} (X : gXX x base RX6 cX6_restore 3 (some .int) p l s m args meth c) {H : Heap} {locs : List Loc} {ls : Array Slot} (hr : f_X6_restore_J17 z1 z2 s1 aM aS iU iT = some res) (hI : gI x base s.heap (mH h o aM aS iU aB iL iE iP aR iW iT aT aC aH aE aQ iA iY iF iV aK) n H locs) (hl : lv_has ls 3 [(0, .ref o), (1, .int z1), (2, .int z2)]) : W p l e rm_X6_restore s m args below meth c H locs 0 0 (MQ below (gQ x base (some (.int res.1)) (mH h o res.2.1 aS res.2.2.1 aB iL iE iP aR iW res.2.2.2 aT aC aH aE aQ iA iY iF iV aK) n) args s 0 0 (fun q => base ≤ q)) (F0 m 17 ls [.int s1, .ref o]) := by
  have hx := X.1
  have hb := X.2.1
  unfold f_X6_restore_J17 at hr
  refine lv_iload_n hx hb dX6_restore_17 rfl (lv_at hl 2 rfl) ?_
  refine lv_if_eq (tgt := 34) hx hb dX6_restore_18 (by decide) (fun c9 => ?_) (fun c9 => ?_)
  · replace hr := gIf_t c9 hr
    exact w_X6_restore_J34 X hr hI (lv_sub hl [0, 1] rfl)
  · replace hr := gIf_f c9 hr
    refine lv_aload_n hx hb dX6_restore_21 rfl (lv_at hl 0 rfl) ?_
    refine m_get X hI mH_0 1 (by decide) q1653 rfl dX6_restore_22 ?_
    refine lv_iload_n hx hb dX6_restore_25 rfl (lv_at hl 1 rfl) ?_
    refine m_zald X hI mH_aaS hr dX6_restore_26 (fun v10 hr => ?_)
    refine lv_if_ne (tgt := 34) hx hb dX6_restore_27 (by decide) (fun c9 => ?_) (fun c9 => ?_)
    · replace hr := gIf_f c9 hr
      exact w_X6_restore_J34 X hr hI (lv_sub hl [0, 1] rfl)
    · replace hr := gIf_t c9 hr
      refine lv_iconst (v := 1) hx hb dX6_restore_30 (by decide) ?_
      refine lv_goto (tgt := 35) hx hb dX6_restore_31 (by decide) ?_
      exact w_X6_restore_J35 X hr hI (lv_sub hl [0, 1] rfl)
set_option maxHeartbeats 2000000 in
theorem w_X6_restore {l : Launch} {x : gV} {base : Nat} {z1 : Int32} {h : gH} {n : Nat} {o : Nat} {aM : (Nat → Int32)} {aS : (Nat → Int32)} {iU : Int32} {aB : (Nat → Int32)} {iL : Int32} {iE : Int32} {iP : Int32} {aR : (Nat → Int32)} {iW : Int32} {iT : Int32} {aT : (Nat → Int32)} {aC : (Nat → Int32)} {aH : (Nat → Int32)} {aE : (Nat → Int32)} {aQ : (Nat → Int32)} {iA : Int32} {iY : Int32} {iF : Int32} {iV : Int32} {aK : (Nat → Int32)} {res : Int32 × (Nat → Int32) × Int32 × Int32} (hr : f_X6_restore z1 aM aS iU iT = some res) : gM l yX6_restore (ws_ yX6_restore cX6_restore 3 (some .int)) rm_X6_restore x base [.ref o, .int z1] (mH h o aM aS iU aB iL iE iP aR iW iT aT aC aH aE aQ iA iY iF iV aK) n (some (.int res.1)) (mH h o res.2.1 aS res.2.2.1 aB iL iE iP aR iW res.2.2.2 aT aC aH aE aQ iA iY iF iV aK) n 0 0 := by
  refine g_met (cc := cX6_restore) (nL := 3) (ret := (some .int)) (by decide) (Nat.le_of_ble_eq_true rfl) (fun p e s m below meth c ls X hnm hl hI => ?_)
  have hl : lv_has ls 3 [(0, .ref o), (1, .int z1)] := hl
  have hx := X.1
  have hb := X.2.1
  unfold f_X6_restore at hr
  refine lv_iload_n hx hb dX6_restore_0 rfl (lv_at hl 1 rfl) ?_
  refine lv_iconst (v := 0) hx hb dX6_restore_1 (by decide) ?_
  refine lv_iconst (v := 1) hx hb dX6_restore_2 (by decide) ?_
  obtain ⟨v2, hc1, hr⟩ := gB_i hr
  refine gRun_i (g_runS X hI (w_X6_in hc1) hl (lw_S q1628 q1629 q122 q1630) rfl rfl hd_X6_in ⟨Nat.le_of_ble_eq_true rfl, Nat.le_of_ble_eq_true rfl⟩ (as := [.int z1, .int (0 : Int32), .int (1 : Int32)]) (rest := []) rfl rfl (Nat.le_of_ble_eq_true rfl) ⟨(Nat.le_refl _), (Nat.le_refl _)⟩ dX6_restore_3) (fun H locs hI => ?_)
  refine lv_istore_n (lv' := [(2, .int v2), (0, .ref o), (1, .int z1)]) hx hb dX6_restore_6 rfl hl (by decide) rfl (fun ls hl => ?_)
  refine lv_aload_n hx hb dX6_restore_7 rfl (lv_at hl 1 rfl) ?_
  refine lv_iload_n hx hb dX6_restore_8 rfl (lv_at hl 0 rfl) ?_
  refine lv_if_ne (tgt := 16) hx hb dX6_restore_9 (by decide) (fun c9 => ?_) (fun c9 => ?_)
  · replace hr := gIf_f c9 hr
    refine lv_iconst (v := 0) hx hb dX6_restore_16 (by decide) ?_
    exact w_X6_restore_J17 X hr hI (lv_sub hl [1, 2, 0] rfl)
  · replace hr := gIf_t c9 hr
    refine lv_iconst (v := 1) hx hb dX6_restore_12 (by decide) ?_
    refine lv_goto (tgt := 17) hx hb dX6_restore_13 (by decide) ?_
    exact w_X6_restore_J17 X hr hI (lv_sub hl [1, 2, 0] rfl)
abbrev rm_X6_put : Room := { frames := 0, cells := 0, slots := 0, locals := 0 }
theorem hd_X6_put : yX6_put.cls = RX6 ∧ yX6_put.cls ≠ "java/lang/invoke/MethodHandle" ∧ yX6_put.cls ≠ "java/lang/invoke/VarHandle" ∧ (parseMethodDescriptor yX6_put.desc).map (fun d => d.parameters.length) = some 1 := by decide +kernel
set_option maxHeartbeats 2000000 in
theorem w_X6_put {l : Launch} {x : gV} {base : Nat} {z1 : Int32} {h : gH} {n : Nat} {o : Nat} {aM : (Nat → Int32)} {aS : (Nat → Int32)} {iU : Int32} {aB : (Nat → Int32)} {iL : Int32} {iE : Int32} {iP : Int32} {aR : (Nat → Int32)} {iW : Int32} {iT : Int32} {aT : (Nat → Int32)} {aC : (Nat → Int32)} {aH : (Nat → Int32)} {aE : (Nat → Int32)} {aQ : (Nat → Int32)} {iA : Int32} {iY : Int32} {iF : Int32} {iV : Int32} {aK : (Nat → Int32)} {res : (Nat → Int32) × Int32} (hr : f_X6_put z1 aR iW = some res) : gM l yX6_put (ws_ yX6_put cX6_put 2 none) rm_X6_put x base [.ref o, .int z1] (mH h o aM aS iU aB iL iE iP aR iW iT aT aC aH aE aQ iA iY iF iV aK) n none (mH h o aM aS iU aB iL iE iP res.1 res.2 iT aT aC aH aE aQ iA iY iF iV aK) n 0 0 := by
  refine g_met (cc := cX6_put) (nL := 2) (ret := none) (by decide) (Nat.le_of_ble_eq_true rfl) (fun p e s m below meth c ls X hnm hl hI => ?_)
  have hl : lv_has ls 2 [(0, .ref o), (1, .int z1)] := hl
  have hx := X.1
  have hb := X.2.1
  unfold f_X6_put at hr
  refine lv_aload_n hx hb dX6_put_0 rfl (lv_at hl 0 rfl) ?_
  refine m_get X hI mH_0 7 (by decide) q1659 rfl dX6_put_1 ?_
  refine lv_aload_n hx hb dX6_put_4 rfl (lv_at hl 0 rfl) ?_
  refine m_get X hI mH_0 8 (by decide) q1660 rfl dX6_put_5 ?_
  refine lv_iload_n hx hb dX6_put_8 rfl (lv_at hl 1 rfl) ?_
  refine m_iast X hI mH_aaR mH_saR hr dX6_put_9 (fun aR_1 H locs hI hr => ?_)
  refine lv_aload_n hx hb dX6_put_10 rfl (lv_at hl 0 rfl) ?_
  refine lv_dup hx hb dX6_put_11 rfl ?_
  refine m_get X hI mH_0 8 (by decide) q1660 rfl dX6_put_12 ?_
  refine lv_iconst (v := 1) hx hb dX6_put_15 (by decide) ?_
  refine lv_iadd hx hb dX6_put_16 ?_
  refine m_put X hI mH_0 8 (by decide) q1660 rfl (by decide +kernel) (Nat.le_of_ble_eq_true rfl) rfl mH_iW dX6_put_17 (fun H locs hI => ?_)
  have hr := gS_i hr
  subst hr
  exact g_vret X hI (Nat.le_refl _) (Nat.le_refl _) dX6_put_20
abbrev rm_X6_putRun : Room := { frames := 1, cells := 0, slots := 0, locals := 21 }
theorem hd_X6_putRun : yX6_putRun.cls = RX6 ∧ yX6_putRun.cls ≠ "java/lang/invoke/MethodHandle" ∧ yX6_putRun.cls ≠ "java/lang/invoke/VarHandle" ∧ (parseMethodDescriptor yX6_putRun.desc).map (fun d => d.parameters.length) = some 2 := by decide +kernel
set_option maxHeartbeats 2000000 in
theorem w_X6_putRun_L64 {h : gH} {n : Nat} {o : Nat} {aM : (Nat → Int32)} {aS : (Nat → Int32)} {iU : Int32} {aB : (Nat → Int32)} {iL : Int32} {iE : Int32} {iP : Int32} {iT : Int32} {aT : (Nat → Int32)} {aC : (Nat → Int32)} {aH : (Nat → Int32)} {aE : (Nat → Int32)} {aQ : (Nat → Int32)} {iA : Int32} {iY : Int32} {iF : Int32} {iV : Int32} {aK : (Nat → Int32)} {z3 : Int32} {res : (Nat → Int32) × Int32} (X : gXX x base RX6 cX6_putRun 5 none p l s m args meth c) : ∀ (k : Nat) {z4 : Int32} {aR : (Nat → Int32)} {iW : Int32} {H : Heap} {locs : List Loc} {ls : Array Slot}, gL3 (f_X6_putRun_L64 z3 aM) k z4 aR iW = some res → gI x base s.heap (mH h o aM aS iU aB iL iE iP aR iW iT aT aC aH aE aQ iA iY iF iV aK) n H locs → lv_has ls 5 [(0, .ref o), (3, .int z3), (4, .int z4)] → W p l e rm_X6_putRun s m args below meth c H locs 0 0 (MQ below (gQ x base none (mH h o aM aS iU aB iL iE iP res.1 res.2 iT aT aC aH aE aQ iA iY iF iV aK) n) args s 0 0 (fun q => base ≤ q)) (F0 m 64 ls []) := by
  have hx := X.1
  have hb := X.2.1
  intro k
  induction k with
  | zero =>
    intros
    rename_i hr _ _
    exact nomatch (show (none : Option _) = some _ from hr)
  | succ k ih =>
    intro z4 aR iW H locs ls hr hI hl
    replace hr : f_X6_putRun_L64 z3 aM (gL3 (f_X6_putRun_L64 z3 aM) k) z4 aR iW = some res := hr
    unfold f_X6_putRun_L64 at hr
    refine lv_iload hx hb dX6_putRun_64 (lv_at hl 2 rfl) ?_
    refine lv_aload_n hx hb dX6_putRun_66 rfl (lv_at hl 0 rfl) ?_
    refine m_get X hI mH_0 0 (by decide) q1652 rfl dX6_putRun_67 ?_
    refine lv_iload_n hx hb dX6_putRun_70 rfl (lv_at hl 1 rfl) ?_
    refine m_iald X hI mH_aaM hr dX6_putRun_71 (fun v4 hr => ?_)
    refine lv_icmp_ge (tgt := 96) hx hb dX6_putRun_72 (by decide) (fun c9 => ?_) (fun c9 => ?_)
    · replace hr := gIf_t c9 hr
      have hr := gS_i hr
      subst hr
      exact g_vret X hI (Nat.le_refl _) (Nat.le_refl _) dX6_putRun_96
    · replace hr := gIf_f c9 hr
      refine lv_aload_n hx hb dX6_putRun_75 rfl (lv_at hl 0 rfl) ?_
      refine lv_aload_n hx hb dX6_putRun_76 rfl (lv_at hl 0 rfl) ?_
      refine m_get X hI mH_0 0 (by decide) q1652 rfl dX6_putRun_77 ?_
      refine lv_iload_n hx hb dX6_putRun_80 rfl (lv_at hl 1 rfl) ?_
      refine lv_iconst (v := 1) hx hb dX6_putRun_81 (by decide) ?_
      refine lv_iadd hx hb dX6_putRun_82 ?_
      refine lv_iload hx hb dX6_putRun_83 (lv_at hl 2 rfl) ?_
      refine lv_iadd hx hb dX6_putRun_85 ?_
      refine m_iald X hI mH_aaM hr dX6_putRun_86 (fun v5 hr => ?_)
      obtain ⟨aR_7, iW_8, hc6, hr⟩ := gT2_i hr
      refine gRun_v (g_runV X hI (w_X6_put hc6) (g_obj_s mH_0) rfl hl (lw_V q2144 q2146 qs94 q122 q2147) rfl rfl hd_X6_put ⟨Nat.le_of_ble_eq_true rfl, Nat.le_of_ble_eq_true rfl⟩ (as := [.int v5]) (rest := []) rfl rfl (Nat.le_of_ble_eq_true rfl) ⟨(Nat.le_refl _), (Nat.le_refl _)⟩ dX6_putRun_87) (fun H locs hI => ?_)
      refine lv_iinc (v := (z4 + (1 : Int32))) (lv' := [(4, .int (z4 + (1 : Int32))), (0, .ref o), (3, .int z3)]) hx hb dX6_putRun_90 hl (k := 2) rfl (g_inc (by decide)) (by decide) rfl (fun ls hl => ?_)
      refine lv_goto (tgt := 64) hx hb dX6_putRun_93 (by decide) ?_
      exact ih hr hI (lv_sub hl [1, 2, 0] rfl)
set_option maxHeartbeats 2000000 in
theorem w_X6_putRun_J30 {h : gH} {n : Nat} {o : Nat} {aM : (Nat → Int32)} {aS : (Nat → Int32)} {iU : Int32} {aB : (Nat → Int32)} {iL : Int32} {iE : Int32} {iP : Int32} {aR : (Nat → Int32)} {iW : Int32} {iT : Int32} {aT : (Nat → Int32)} {aC : (Nat → Int32)} {aH : (Nat → Int32)} {aE : (Nat → Int32)} {aQ : (Nat → Int32)} {iA : Int32} {iY : Int32} {iF : Int32} {iV : Int32} {aK : (Nat → Int32)} {z1 : Int32} {z2 : Int32} {res : (Nat → Int32) × Int32} (X : gXX x base RX6 cX6_putRun 5 none p l s m args meth c) {H : Heap} {locs : List Loc} {ls : Array Slot} (hr : f_X6_putRun_J30 z1 z2 aM aR iW = some res) (hI : gI x base s.heap (mH h o aM aS iU aB iL iE iP aR iW iT aT aC aH aE aQ iA iY iF iV aK) n H locs) (hl : lv_has ls 5 [(0, .ref o), (1, .int z1), (2, .int z2)]) : W p l e rm_X6_putRun s m args below meth c H locs 0 0 (MQ below (gQ x base none (mH h o aM aS iU aB iL iE iP res.1 res.2 iT aT aC aH aE aQ iA iY iF iV aK) n) args s 0 0 (fun q => base ≤ q)) (F0 m 30 ls []) := by
  have hx := X.1
  have hb := X.2.1
  unfold f_X6_putRun_J30 at hr
  refine lv_aload_n hx hb dX6_putRun_30 rfl (lv_at hl 0 rfl) ?_
  refine lv_bipush (v := 48) hx hb dX6_putRun_31 (by decide) ?_
  refine lv_iload_n hx hb dX6_putRun_33 rfl (lv_at hl 1 rfl) ?_
  refine lv_bipush (v := 10) hx hb dX6_putRun_34 (by decide) ?_
  refine lv_irem hx hb dX6_putRun_36 (by decide) ?_
  refine lv_iadd hx hb dX6_putRun_37 ?_
  obtain ⟨aR_2, iW_3, hc1, hr⟩ := gT2_i hr
  refine gRun_v (g_runV X hI (w_X6_put hc1) (g_obj_s mH_0) rfl hl (lw_V q2144 q2146 qs94 q122 q2147) rfl rfl hd_X6_put ⟨Nat.le_of_ble_eq_true rfl, Nat.le_of_ble_eq_true rfl⟩ (as := [.int ((48 : Int32) + (z1 - z1 / (10 : Int32) * (10 : Int32)))]) (rest := []) rfl rfl (Nat.le_of_ble_eq_true rfl) ⟨(Nat.le_refl _), (Nat.le_refl _)⟩ dX6_putRun_38) (fun H locs hI => ?_)
  refine lv_iload_n hx hb dX6_putRun_41 rfl (lv_at hl 2 rfl) ?_
  refine lv_iconst (v := (-1)) hx hb dX6_putRun_42 (by decide) ?_
  refine lv_icmp_ne (tgt := 53) hx hb dX6_putRun_43 (by decide) (fun c9 => ?_) (fun c9 => ?_)
  · replace hr := gIf_f c9 hr
    refine lv_bipush (v := 26) hx hb dX6_putRun_53 (by decide) ?_
    refine lv_iload_n hx hb dX6_putRun_55 rfl (lv_at hl 2 rfl) ?_
    refine lv_bipush (v := 31) hx hb dX6_putRun_56 (by decide) ?_
    refine lv_imul hx hb dX6_putRun_58 ?_
    refine lv_iadd hx hb dX6_putRun_59 ?_
    refine lv_istore_n (lv' := [(3, .int ((26 : Int32) + (z2 * (31 : Int32)))), (0, .ref o), (1, .int z1), (2, .int z2)]) hx hb dX6_putRun_60 rfl hl (by decide) rfl (fun ls hl => ?_)
    refine lv_iconst (v := 0) hx hb dX6_putRun_61 (by decide) ?_
    refine lv_istore (lv' := [(4, .int (0 : Int32)), (3, .int ((26 : Int32) + (z2 * (31 : Int32)))), (0, .ref o), (1, .int z1), (2, .int z2)]) hx hb dX6_putRun_62 hl (by decide) rfl (fun ls hl => ?_)
    exact w_X6_putRun_L64 X gN hr hI (lv_sub hl [2, 1, 0] rfl)
  · replace hr := gIf_t c9 hr
    refine lv_aload_n hx hb dX6_putRun_46 rfl (lv_at hl 0 rfl) ?_
    refine lv_bipush (v := 45) hx hb dX6_putRun_47 (by decide) ?_
    obtain ⟨aR_10, iW_11, hc9, hr⟩ := gT2_i hr
    refine gRun_v (g_runV X hI (w_X6_put hc9) (g_obj_s mH_0) rfl hl (lw_V q2144 q2146 qs94 q122 q2147) rfl rfl hd_X6_put ⟨Nat.le_of_ble_eq_true rfl, Nat.le_of_ble_eq_true rfl⟩ (as := [.int (45 : Int32)]) (rest := []) rfl rfl (Nat.le_of_ble_eq_true rfl) ⟨(Nat.le_refl _), (Nat.le_refl _)⟩ dX6_putRun_49) (fun H locs hI => ?_)
    have hr := gS_i hr
    subst hr
    exact g_vret X hI (Nat.le_refl _) (Nat.le_refl _) dX6_putRun_52
set_option maxHeartbeats 2000000 in
theorem w_X6_putRun_J13 {h : gH} {n : Nat} {o : Nat} {aM : (Nat → Int32)} {aS : (Nat → Int32)} {iU : Int32} {aB : (Nat → Int32)} {iL : Int32} {iE : Int32} {iP : Int32} {aR : (Nat → Int32)} {iW : Int32} {iT : Int32} {aT : (Nat → Int32)} {aC : (Nat → Int32)} {aH : (Nat → Int32)} {aE : (Nat → Int32)} {aQ : (Nat → Int32)} {iA : Int32} {iY : Int32} {iF : Int32} {iV : Int32} {aK : (Nat → Int32)} {z1 : Int32} {z2 : Int32} {res : (Nat → Int32) × Int32} (X : gXX x base RX6 cX6_putRun 5 none p l s m args meth c) {H : Heap} {locs : List Loc} {ls : Array Slot} (hr : f_X6_putRun_J13 z1 z2 aM aR iW = some res) (hI : gI x base s.heap (mH h o aM aS iU aB iL iE iP aR iW iT aT aC aH aE aQ iA iY iF iV aK) n H locs) (hl : lv_has ls 5 [(0, .ref o), (1, .int z1), (2, .int z2)]) : W p l e rm_X6_putRun s m args below meth c H locs 0 0 (MQ below (gQ x base none (mH h o aM aS iU aB iL iE iP res.1 res.2 iT aT aC aH aE aQ iA iY iF iV aK) n) args s 0 0 (fun q => base ≤ q)) (F0 m 13 ls []) := by
  have hx := X.1
  have hb := X.2.1
  unfold f_X6_putRun_J13 at hr
  refine lv_iload_n hx hb dX6_putRun_13 rfl (lv_at hl 1 rfl) ?_
  refine lv_bipush (v := 10) hx hb dX6_putRun_14 (by decide) ?_
  refine lv_icmp_lt (tgt := 30) hx hb dX6_putRun_16 (by decide) (fun c9 => ?_) (fun c9 => ?_)
  · replace hr := gIf_t c9 hr
    exact w_X6_putRun_J30 X hr hI (lv_sub hl [0, 1, 2] rfl)
  · replace hr := gIf_f c9 hr
    refine lv_aload_n hx hb dX6_putRun_19 rfl (lv_at hl 0 rfl) ?_
    refine lv_bipush (v := 48) hx hb dX6_putRun_20 (by decide) ?_
    refine lv_iload_n hx hb dX6_putRun_22 rfl (lv_at hl 1 rfl) ?_
    refine lv_bipush (v := 10) hx hb dX6_putRun_23 (by decide) ?_
    refine lv_idiv hx hb dX6_putRun_25 (by decide) ?_
    refine lv_iadd hx hb dX6_putRun_26 ?_
    obtain ⟨aR_13, iW_14, hc12, hr⟩ := gT2_i hr
    refine gRun_v (g_runV X hI (w_X6_put hc12) (g_obj_s mH_0) rfl hl (lw_V q2144 q2146 qs94 q122 q2147) rfl rfl hd_X6_put ⟨Nat.le_of_ble_eq_true rfl, Nat.le_of_ble_eq_true rfl⟩ (as := [.int ((48 : Int32) + (z1 / (10 : Int32)))]) (rest := []) rfl rfl (Nat.le_of_ble_eq_true rfl) ⟨(Nat.le_refl _), (Nat.le_refl _)⟩ dX6_putRun_27) (fun H locs hI => ?_)
    exact w_X6_putRun_J30 X hr hI (lv_sub hl [0, 1, 2] rfl)
set_option maxHeartbeats 2000000 in
theorem w_X6_putRun {l : Launch} {x : gV} {base : Nat} {z1 : Int32} {z2 : Int32} {h : gH} {n : Nat} {o : Nat} {aM : (Nat → Int32)} {aS : (Nat → Int32)} {iU : Int32} {aB : (Nat → Int32)} {iL : Int32} {iE : Int32} {iP : Int32} {aR : (Nat → Int32)} {iW : Int32} {iT : Int32} {aT : (Nat → Int32)} {aC : (Nat → Int32)} {aH : (Nat → Int32)} {aE : (Nat → Int32)} {aQ : (Nat → Int32)} {iA : Int32} {iY : Int32} {iF : Int32} {iV : Int32} {aK : (Nat → Int32)} {res : (Nat → Int32) × Int32} (hr : f_X6_putRun z1 z2 aM aR iW = some res) : gM l yX6_putRun (ws_ yX6_putRun cX6_putRun 5 none) rm_X6_putRun x base [.ref o, .int z1, .int z2] (mH h o aM aS iU aB iL iE iP aR iW iT aT aC aH aE aQ iA iY iF iV aK) n none (mH h o aM aS iU aB iL iE iP res.1 res.2 iT aT aC aH aE aQ iA iY iF iV aK) n 0 0 := by
  refine g_met (cc := cX6_putRun) (nL := 5) (ret := none) (by decide) (Nat.le_of_ble_eq_true rfl) (fun p e s m below meth c ls X hnm hl hI => ?_)
  have hl : lv_has ls 5 [(0, .ref o), (1, .int z1), (2, .int z2)] := hl
  have hx := X.1
  have hb := X.2.1
  unfold f_X6_putRun at hr
  refine lv_aload_n hx hb dX6_putRun_0 rfl (lv_at hl 0 rfl) ?_
  refine m_get X hI mH_0 8 (by decide) q1660 rfl dX6_putRun_1 ?_
  refine lv_if_le (tgt := 13) hx hb dX6_putRun_4 (by decide) (fun c9 => ?_) (fun c9 => ?_)
  · replace hr := gIf_t c9 hr
    exact w_X6_putRun_J13 X hr hI (lv_sub hl [0, 1, 2] rfl)
  · replace hr := gIf_f c9 hr
    refine lv_aload_n hx hb dX6_putRun_7 rfl (lv_at hl 0 rfl) ?_
    refine lv_bipush (v := 32) hx hb dX6_putRun_8 (by decide) ?_
    obtain ⟨aR_16, iW_17, hc15, hr⟩ := gT2_i hr
    refine gRun_v (g_runV X hI (w_X6_put hc15) (g_obj_s mH_0) rfl hl (lw_V q2144 q2146 qs94 q122 q2147) rfl rfl hd_X6_put ⟨Nat.le_of_ble_eq_true rfl, Nat.le_of_ble_eq_true rfl⟩ (as := [.int (32 : Int32)]) (rest := []) rfl rfl (Nat.le_of_ble_eq_true rfl) ⟨(Nat.le_refl _), (Nat.le_refl _)⟩ dX6_putRun_10) (fun H locs hI => ?_)
    exact w_X6_putRun_J13 X hr hI (lv_sub hl [0, 1, 2] rfl)
abbrev rm_X6_writeOwners : Room := { frames := 2, cells := 0, slots := 0, locals := 45 }
theorem hd_X6_writeOwners : yX6_writeOwners.cls = RX6 ∧ yX6_writeOwners.cls ≠ "java/lang/invoke/MethodHandle" ∧ yX6_writeOwners.cls ≠ "java/lang/invoke/VarHandle" ∧ (parseMethodDescriptor yX6_writeOwners.desc).map (fun d => d.parameters.length) = some 0 := by decide +kernel
set_option maxHeartbeats 2000000 in
theorem w_X6_writeOwners_J50 {h : gH} {n : Nat} {o : Nat} {aM : (Nat → Int32)} {aS : (Nat → Int32)} {iU : Int32} {aB : (Nat → Int32)} {iL : Int32} {iE : Int32} {iP : Int32} {aR : (Nat → Int32)} {iW : Int32} {iT : Int32} {aT : (Nat → Int32)} {aC : (Nat → Int32)} {aH : (Nat → Int32)} {aE : (Nat → Int32)} {aQ : (Nat → Int32)} {iA : Int32} {iY : Int32} {iF : Int32} {iV : Int32} {aK : (Nat → Int32)} {r14 : Int32 → Int32 → (Nat → Int32) → Int32 → Option (Int32 × (Nat → Int32) × Int32 × Int32)} {z1 : Int32} {z2 : Int32} {res : Int32 × (Nat → Int32) × Int32 × Int32} (X : gXX x base RX6 cX6_writeOwners 3 (some .int) p l s m args meth c) (Hr14 : ∀ {z1 : Int32} {z2 : Int32} {aR : (Nat → Int32)} {iW : Int32} {H : Heap} {locs : List Loc} {ls : Array Slot}, r14 z1 z2 aR iW = some res → gI x base s.heap (mH h o aM aS iU aB iL iE iP aR iW iT aT aC aH aE aQ iA iY iF iV aK) n H locs → lv_has ls 3 [(0, .ref o), (1, .int z1), (2, .int z2)] → W p l e rm_X6_writeOwners s m args below meth c H locs 0 0 (MQ below (gQ x base (some (.int res.1)) (mH h o aM aS iU aB iL iE iP res.2.1 res.2.2.1 res.2.2.2 aT aC aH aE aQ iA iY iF iV aK) n) args s 0 0 (fun q => base ≤ q)) (F0 m 14 ls [])) {H : Heap} {locs : List Loc} {ls : Array Slot} (hr : f_X6_writeOwners_J50 r14 z1 z2 aM aR iW iT = some res) (hI : gI x base s.heap (mH h o aM aS iU aB iL iE iP aR iW iT aT aC aH aE aQ iA iY iF iV aK) n H locs) (hl : lv_has ls 3 [(0, .ref o), (1, .int z1), (2, .int z2)]) : W p l e rm_X6_writeOwners s m args below meth c H locs 0 0 (MQ below (gQ x base (some (.int res.1)) (mH h o aM aS iU aB iL iE iP res.2.1 res.2.2.1 res.2.2.2 aT aC aH aE aQ iA iY iF iV aK) n) args s 0 0 (fun q => base ≤ q)) (F0 m 50 ls []) := by
  have hx := X.1
  have hb := X.2.1
  unfold f_X6_writeOwners_J50 at hr
  refine lv_aload_n hx hb dX6_writeOwners_50 rfl (lv_at hl 0 rfl) ?_
  refine lv_iload_n hx hb dX6_writeOwners_51 rfl (lv_at hl 2 rfl) ?_
  refine lv_iload_n hx hb dX6_writeOwners_52 rfl (lv_at hl 1 rfl) ?_
  refine lv_isub hx hb dX6_writeOwners_53 ?_
  refine lv_aload_n hx hb dX6_writeOwners_54 rfl (lv_at hl 0 rfl) ?_
  refine lv_iload_n hx hb dX6_writeOwners_55 rfl (lv_at hl 1 rfl) ?_
  obtain ⟨v4, hc3, hr⟩ := gB_i hr
  refine gRun_i (g_runV X hI (w_X6_ownerOf hc3) (g_obj_s mH_0) rfl hl (lw_V q1804 q1806 qs61 q122 q1807) rfl rfl hd_X6_ownerOf ⟨Nat.le_of_ble_eq_true rfl, Nat.le_of_ble_eq_true rfl⟩ (as := [.int z1]) (rest := [.int (z2 - z1), .ref o]) rfl rfl (Nat.le_of_ble_eq_true rfl) ⟨(Nat.le_refl _), (Nat.le_refl _)⟩ dX6_writeOwners_56) (fun H locs hI => ?_)
  obtain ⟨aR_6, iW_7, hc5, hr⟩ := gT2_i hr
  refine gRun_v (g_runV X hI (w_X6_putRun hc5) (g_obj_s mH_0) rfl hl (lw_V q2140 q2142 qs93 q122 q2143) rfl rfl hd_X6_putRun ⟨Nat.le_of_ble_eq_true rfl, Nat.le_of_ble_eq_true rfl⟩ (as := [.int (z2 - z1), .int v4]) (rest := []) rfl rfl (Nat.le_of_ble_eq_true rfl) ⟨(Nat.le_refl _), (Nat.le_refl _)⟩ dX6_writeOwners_59) (fun H locs hI => ?_)
  refine lv_iload_n hx hb dX6_writeOwners_62 rfl (lv_at hl 2 rfl) ?_
  refine lv_istore_n (lv' := [(1, .int z2), (0, .ref o), (2, .int z2)]) hx hb dX6_writeOwners_63 rfl hl (by decide) rfl (fun ls hl => ?_)
  refine lv_iinc (v := (z2 + (1 : Int32))) (lv' := [(2, .int (z2 + (1 : Int32))), (1, .int z2), (0, .ref o)]) hx hb dX6_writeOwners_64 hl (k := 2) rfl (g_inc (by decide)) (by decide) rfl (fun ls hl => ?_)
  refine lv_goto (tgt := 14) hx hb dX6_writeOwners_67 (by decide) ?_
  exact Hr14 hr hI (lv_sub hl [2, 1, 0] rfl)
set_option maxHeartbeats 2000000 in
theorem w_X6_writeOwners_L14 {h : gH} {n : Nat} {o : Nat} {aM : (Nat → Int32)} {aS : (Nat → Int32)} {iU : Int32} {aB : (Nat → Int32)} {iL : Int32} {iE : Int32} {iP : Int32} {iT : Int32} {aT : (Nat → Int32)} {aC : (Nat → Int32)} {aH : (Nat → Int32)} {aE : (Nat → Int32)} {aQ : (Nat → Int32)} {iA : Int32} {iY : Int32} {iF : Int32} {iV : Int32} {aK : (Nat → Int32)} {res : Int32 × (Nat → Int32) × Int32 × Int32} (X : gXX x base RX6 cX6_writeOwners 3 (some .int) p l s m args meth c) : ∀ (k : Nat) {z1 : Int32} {z2 : Int32} {aR : (Nat → Int32)} {iW : Int32} {H : Heap} {locs : List Loc} {ls : Array Slot}, gL4 (f_X6_writeOwners_L14 aM iT) k z1 z2 aR iW = some res → gI x base s.heap (mH h o aM aS iU aB iL iE iP aR iW iT aT aC aH aE aQ iA iY iF iV aK) n H locs → lv_has ls 3 [(0, .ref o), (1, .int z1), (2, .int z2)] → W p l e rm_X6_writeOwners s m args below meth c H locs 0 0 (MQ below (gQ x base (some (.int res.1)) (mH h o aM aS iU aB iL iE iP res.2.1 res.2.2.1 res.2.2.2 aT aC aH aE aQ iA iY iF iV aK) n) args s 0 0 (fun q => base ≤ q)) (F0 m 14 ls []) := by
  have hx := X.1
  have hb := X.2.1
  intro k
  induction k with
  | zero =>
    intros
    rename_i hr _ _
    exact nomatch (show (none : Option _) = some _ from hr)
  | succ k ih =>
    intro z1 z2 aR iW H locs ls hr hI hl
    replace hr : f_X6_writeOwners_L14 aM iT (gL4 (f_X6_writeOwners_L14 aM iT) k) z1 z2 aR iW = some res := hr
    unfold f_X6_writeOwners_L14 at hr
    refine lv_iload_n hx hb dX6_writeOwners_14 rfl (lv_at hl 2 rfl) ?_
    refine lv_aload_n hx hb dX6_writeOwners_15 rfl (lv_at hl 0 rfl) ?_
    refine m_get X hI mH_0 0 (by decide) q1652 rfl dX6_writeOwners_16 ?_
    refine lv_iconst (v := 0) hx hb dX6_writeOwners_19 (by decide) ?_
    refine m_iald X hI mH_aaM hr dX6_writeOwners_20 (fun v1 hr => ?_)
    refine lv_icmp_gt (tgt := 70) hx hb dX6_writeOwners_21 (by decide) (fun c9 => ?_) (fun c9 => ?_)
    · replace hr := gIf_t c9 hr
      refine lv_aload_n hx hb dX6_writeOwners_70 rfl (lv_at hl 0 rfl) ?_
      refine m_get X hI mH_0 8 (by decide) q1660 rfl dX6_writeOwners_71 ?_
      have hr := gS_i hr
      subst hr
      exact g_iret X hI rfl (Nat.le_refl _) (Nat.le_refl _) dX6_writeOwners_74
    · replace hr := gIf_f c9 hr
      refine lv_iload_n hx hb dX6_writeOwners_24 rfl (lv_at hl 2 rfl) ?_
      refine lv_aload_n hx hb dX6_writeOwners_25 rfl (lv_at hl 0 rfl) ?_
      refine m_get X hI mH_0 0 (by decide) q1652 rfl dX6_writeOwners_26 ?_
      refine lv_iconst (v := 0) hx hb dX6_writeOwners_29 (by decide) ?_
      refine m_iald X hI mH_aaM hr dX6_writeOwners_30 (fun v2 hr => ?_)
      refine lv_icmp_ge (tgt := 50) hx hb dX6_writeOwners_31 (by decide) (fun c9 => ?_) (fun c9 => ?_)
      · replace hr := gIf_t c9 hr
        exact w_X6_writeOwners_J50 X ih hr hI (lv_sub hl [0, 1, 2] rfl)
      · replace hr := gIf_f c9 hr
        refine lv_aload_n hx hb dX6_writeOwners_34 rfl (lv_at hl 0 rfl) ?_
        refine lv_iload_n hx hb dX6_writeOwners_35 rfl (lv_at hl 2 rfl) ?_
        obtain ⟨v9, hc8, hr⟩ := gB_i hr
        refine gRun_i (g_runV X hI (w_X6_ownerOf hc8) (g_obj_s mH_0) rfl hl (lw_V q1804 q1806 qs61 q122 q1807) rfl rfl hd_X6_ownerOf ⟨Nat.le_of_ble_eq_true rfl, Nat.le_of_ble_eq_true rfl⟩ (as := [.int z2]) (rest := []) rfl rfl (Nat.le_of_ble_eq_true rfl) ⟨(Nat.le_refl _), (Nat.le_refl _)⟩ dX6_writeOwners_36) (fun H locs hI => ?_)
        refine lv_aload_n hx hb dX6_writeOwners_39 rfl (lv_at hl 0 rfl) ?_
        refine lv_iload_n hx hb dX6_writeOwners_40 rfl (lv_at hl 1 rfl) ?_
        obtain ⟨v11, hc10, hr⟩ := gB_i hr
        refine gRun_i (g_runV X hI (w_X6_ownerOf hc10) (g_obj_s mH_0) rfl hl (lw_V q1804 q1806 qs61 q122 q1807) rfl rfl hd_X6_ownerOf ⟨Nat.le_of_ble_eq_true rfl, Nat.le_of_ble_eq_true rfl⟩ (as := [.int z1]) (rest := [.int v9]) rfl rfl (Nat.le_of_ble_eq_true rfl) ⟨(Nat.le_refl _), (Nat.le_refl _)⟩ dX6_writeOwners_41) (fun H locs hI => ?_)
        refine lv_icmp_ne (tgt := 50) hx hb dX6_writeOwners_44 (by decide) (fun c9 => ?_) (fun c9 => ?_)
        · replace hr := gIf_f c9 hr
          exact w_X6_writeOwners_J50 X ih hr hI (lv_sub hl [0, 1, 2] rfl)
        · replace hr := gIf_t c9 hr
          refine lv_goto (tgt := 64) hx hb dX6_writeOwners_47 (by decide) ?_
          refine lv_iinc (v := (z2 + (1 : Int32))) (lv' := [(2, .int (z2 + (1 : Int32))), (0, .ref o), (1, .int z1)]) hx hb dX6_writeOwners_64 hl (k := 2) rfl (g_inc (by decide)) (by decide) rfl (fun ls hl => ?_)
          refine lv_goto (tgt := 14) hx hb dX6_writeOwners_67 (by decide) ?_
          exact ih hr hI (lv_sub hl [1, 2, 0] rfl)
set_option maxHeartbeats 2000000 in
theorem w_X6_writeOwners {l : Launch} {x : gV} {base : Nat} {h : gH} {n : Nat} {o : Nat} {aM : (Nat → Int32)} {aS : (Nat → Int32)} {iU : Int32} {aB : (Nat → Int32)} {iL : Int32} {iE : Int32} {iP : Int32} {aR : (Nat → Int32)} {iW : Int32} {iT : Int32} {aT : (Nat → Int32)} {aC : (Nat → Int32)} {aH : (Nat → Int32)} {aE : (Nat → Int32)} {aQ : (Nat → Int32)} {iA : Int32} {iY : Int32} {iF : Int32} {iV : Int32} {aK : (Nat → Int32)} {res : Int32 × (Nat → Int32) × Int32 × Int32} (hr : f_X6_writeOwners aM aR iW iT = some res) : gM l yX6_writeOwners (ws_ yX6_writeOwners cX6_writeOwners 3 (some .int)) rm_X6_writeOwners x base [.ref o] (mH h o aM aS iU aB iL iE iP aR iW iT aT aC aH aE aQ iA iY iF iV aK) n (some (.int res.1)) (mH h o aM aS iU aB iL iE iP res.2.1 res.2.2.1 res.2.2.2 aT aC aH aE aQ iA iY iF iV aK) n 0 0 := by
  refine g_met (cc := cX6_writeOwners) (nL := 3) (ret := (some .int)) (by decide) (Nat.le_of_ble_eq_true rfl) (fun p e s m below meth c ls X hnm hl hI => ?_)
  have hl : lv_has ls 3 [(0, .ref o)] := hl
  have hx := X.1
  have hb := X.2.1
  unfold f_X6_writeOwners at hr
  refine lv_aload_n hx hb dX6_writeOwners_0 rfl (lv_at hl 0 rfl) ?_
  refine lv_iconst (v := 0) hx hb dX6_writeOwners_1 (by decide) ?_
  refine m_put X hI mH_0 9 (by decide) q1661 rfl (by decide +kernel) (Nat.le_of_ble_eq_true rfl) rfl mH_iT dX6_writeOwners_2 (fun H locs hI => ?_)
  refine lv_aload_n hx hb dX6_writeOwners_5 rfl (lv_at hl 0 rfl) ?_
  refine lv_iconst (v := 0) hx hb dX6_writeOwners_6 (by decide) ?_
  refine m_put X hI mH_0 8 (by decide) q1660 rfl (by decide +kernel) (Nat.le_of_ble_eq_true rfl) rfl mH_iW dX6_writeOwners_7 (fun H locs hI => ?_)
  refine lv_iconst (v := 0) hx hb dX6_writeOwners_10 (by decide) ?_
  refine lv_istore_n (lv' := [(1, .int (0 : Int32)), (0, .ref o)]) hx hb dX6_writeOwners_11 rfl hl (by decide) rfl (fun ls hl => ?_)
  refine lv_iconst (v := 1) hx hb dX6_writeOwners_12 (by decide) ?_
  refine lv_istore_n (lv' := [(2, .int (1 : Int32)), (1, .int (0 : Int32)), (0, .ref o)]) hx hb dX6_writeOwners_13 rfl hl (by decide) rfl (fun ls hl => ?_)
  exact w_X6_writeOwners_L14 X gN hr hI (lv_sub hl [2, 1, 0] rfl)
abbrev rm_X6_outputByte : Room := { frames := 1, cells := 0, slots := 0, locals := 23 }
theorem hd_X6_outputByte : yX6_outputByte.cls = RX6 ∧ yX6_outputByte.cls ≠ "java/lang/invoke/MethodHandle" ∧ yX6_outputByte.cls ≠ "java/lang/invoke/VarHandle" ∧ (parseMethodDescriptor yX6_outputByte.desc).map (fun d => d.parameters.length) = some 1 := by decide +kernel
set_option maxHeartbeats 2000000 in
theorem w_X6_outputByte_J20 {h : gH} {n : Nat} {o : Nat} {aM : (Nat → Int32)} {aS : (Nat → Int32)} {iU : Int32} {aB : (Nat → Int32)} {iL : Int32} {iE : Int32} {iP : Int32} {aR : (Nat → Int32)} {iW : Int32} {iT : Int32} {aT : (Nat → Int32)} {aC : (Nat → Int32)} {aH : (Nat → Int32)} {aE : (Nat → Int32)} {aQ : (Nat → Int32)} {iA : Int32} {iY : Int32} {iF : Int32} {iV : Int32} {aK : (Nat → Int32)} {z1 : Int32} {s1 : Int32} {res : Int32 × Int32} (X : gXX x base RX6 cX6_outputByte 2 (some .int) p l s m args meth c) {H : Heap} {locs : List Loc} {ls : Array Slot} (hr : f_X6_outputByte_J20 z1 s1 aR iW iT = some res) (hI : gI x base s.heap (mH h o aM aS iU aB iL iE iP aR iW iT aT aC aH aE aQ iA iY iF iV aK) n H locs) (hl : lv_has ls 2 [(0, .ref o), (1, .int z1)]) : W p l e rm_X6_outputByte s m args below meth c H locs 0 0 (MQ below (gQ x base (some (.int res.1)) (mH h o aM aS iU aB iL iE iP aR iW res.2 aT aC aH aE aQ iA iY iF iV aK) n) args s 0 0 (fun q => base ≤ q)) (F0 m 20 ls [.int s1, .ref o]) := by
  have hx := X.1
  have hb := X.2.1
  unfold f_X6_outputByte_J20 at hr
  refine lv_iconst (v := 0) hx hb dX6_outputByte_20 (by decide) ?_
  refine lv_iconst (v := 0) hx hb dX6_outputByte_21 (by decide) ?_
  obtain ⟨v4, iT_5, hc3, hr⟩ := gT2_i hr
  refine gRun_i (g_runV X hI (w_X6_fails hc3) (g_obj_s mH_0) rfl hl (lw_V q1717 q1719 qs45 q122 q1720) rfl rfl hd_X6_fails ⟨Nat.le_of_ble_eq_true rfl, Nat.le_of_ble_eq_true rfl⟩ (as := [.int s1, .int (0 : Int32), .int (0 : Int32)]) (rest := []) rfl rfl (Nat.le_of_ble_eq_true rfl) ⟨(Nat.le_refl _), (Nat.le_refl _)⟩ dX6_outputByte_22) (fun H locs hI => ?_)
  refine lv_if_eq (tgt := 30) hx hb dX6_outputByte_25 (by decide) (fun c9 => ?_) (fun c9 => ?_)
  · replace hr := gIf_t c9 hr
    refine lv_aload_n hx hb dX6_outputByte_30 rfl (lv_at hl 0 rfl) ?_
    refine m_get X hI mH_0 7 (by decide) q1659 rfl dX6_outputByte_31 ?_
    refine lv_iload_n hx hb dX6_outputByte_34 rfl (lv_at hl 1 rfl) ?_
    refine m_iald X hI mH_aaR hr dX6_outputByte_35 (fun v6 hr => ?_)
    have hr := gS_i hr
    subst hr
    exact g_iret X hI rfl (Nat.le_refl _) (Nat.le_refl _) dX6_outputByte_36
  · replace hr := gIf_f c9 hr
    refine lv_iconst (v := 0) hx hb dX6_outputByte_28 (by decide) ?_
    have hr := gS_i hr
    subst hr
    exact g_iret X hI rfl (Nat.le_refl _) (Nat.le_refl _) dX6_outputByte_29
set_option maxHeartbeats 2000000 in
theorem w_X6_outputByte {l : Launch} {x : gV} {base : Nat} {z1 : Int32} {h : gH} {n : Nat} {o : Nat} {aM : (Nat → Int32)} {aS : (Nat → Int32)} {iU : Int32} {aB : (Nat → Int32)} {iL : Int32} {iE : Int32} {iP : Int32} {aR : (Nat → Int32)} {iW : Int32} {iT : Int32} {aT : (Nat → Int32)} {aC : (Nat → Int32)} {aH : (Nat → Int32)} {aE : (Nat → Int32)} {aQ : (Nat → Int32)} {iA : Int32} {iY : Int32} {iF : Int32} {iV : Int32} {aK : (Nat → Int32)} {res : Int32 × Int32} (hr : f_X6_outputByte z1 aR iW iT = some res) : gM l yX6_outputByte (ws_ yX6_outputByte cX6_outputByte 2 (some .int)) rm_X6_outputByte x base [.ref o, .int z1] (mH h o aM aS iU aB iL iE iP aR iW iT aT aC aH aE aQ iA iY iF iV aK) n (some (.int res.1)) (mH h o aM aS iU aB iL iE iP aR iW res.2 aT aC aH aE aQ iA iY iF iV aK) n 0 0 := by
  refine g_met (cc := cX6_outputByte) (nL := 2) (ret := (some .int)) (by decide) (Nat.le_of_ble_eq_true rfl) (fun p e s m below meth c ls X hnm hl hI => ?_)
  have hl : lv_has ls 2 [(0, .ref o), (1, .int z1)] := hl
  have hx := X.1
  have hb := X.2.1
  unfold f_X6_outputByte at hr
  refine lv_aload_n hx hb dX6_outputByte_0 rfl (lv_at hl 0 rfl) ?_
  refine lv_iload_n hx hb dX6_outputByte_1 rfl (lv_at hl 1 rfl) ?_
  refine lv_iconst (v := 0) hx hb dX6_outputByte_2 (by decide) ?_
  refine lv_aload_n hx hb dX6_outputByte_3 rfl (lv_at hl 0 rfl) ?_
  refine m_get X hI mH_0 8 (by decide) q1660 rfl dX6_outputByte_4 ?_
  refine lv_iconst (v := 1) hx hb dX6_outputByte_7 (by decide) ?_
  refine lv_isub hx hb dX6_outputByte_8 ?_
  obtain ⟨v2, hc1, hr⟩ := gB_i hr
  refine gRun_i (g_runS X hI (w_X6_in hc1) hl (lw_S q1628 q1629 q122 q1630) rfl rfl hd_X6_in ⟨Nat.le_of_ble_eq_true rfl, Nat.le_of_ble_eq_true rfl⟩ (as := [.int z1, .int (0 : Int32), .int (iW - (1 : Int32))]) (rest := [.ref o]) rfl rfl (Nat.le_of_ble_eq_true rfl) ⟨(Nat.le_refl _), (Nat.le_refl _)⟩ dX6_outputByte_9) (fun H locs hI => ?_)
  refine lv_if_ne (tgt := 19) hx hb dX6_outputByte_12 (by decide) (fun c9 => ?_) (fun c9 => ?_)
  · replace hr := gIf_f c9 hr
    refine lv_iconst (v := 0) hx hb dX6_outputByte_19 (by decide) ?_
    exact w_X6_outputByte_J20 X hr hI (lv_sub hl [0, 1] rfl)
  · replace hr := gIf_t c9 hr
    refine lv_iconst (v := 1) hx hb dX6_outputByte_15 (by decide) ?_
    refine lv_goto (tgt := 20) hx hb dX6_outputByte_16 (by decide) ?_
    exact w_X6_outputByte_J20 X hr hI (lv_sub hl [0, 1] rfl)
end GENW
