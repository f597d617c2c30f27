/-! printed: the walks of the reference, 1 -/
set_option maxRecDepth 100000
section GENW
variable {p : Program} {l : Launch} {e : Env} {s : State} {m : MethodId} {args : Array Value} {below : List Frame} {meth : Method} {c : Code} {x : gV} {base : Nat}
abbrev rm_X6_thrown : Room := { frames := 0, cells := 0, slots := 0, locals := 0 }
theorem hd_X6_thrown : yX6_thrown.cls = RX6 ∧ yX6_thrown.cls ≠ "java/lang/invoke/MethodHandle" ∧ yX6_thrown.cls ≠ "java/lang/invoke/VarHandle" ∧ (parseMethodDescriptor yX6_thrown.desc).map (fun d => d.parameters.length) = some 0 := by decide +kernel
set_option maxHeartbeats 2000000 in
theorem w_X6_thrown {l : Launch} {x : gV} {base : Nat} {h : gH} {n : Nat} {o : Nat} {aM : (Nat → Int32)} {aS : (Nat → Int32)} {iU : Int32} {aB : (Nat → Int32)} {iL : Int32} {iE : Int32} {iP : Int32} {aR : (Nat → Int32)} {iW : Int32} {iT : Int32} {aT : (Nat → Int32)} {aC : (Nat → Int32)} {aH : (Nat → Int32)} {aE : (Nat → Int32)} {aQ : (Nat → Int32)} {iA : Int32} {iY : Int32} {iF : Int32} {iV : Int32} {aK : (Nat → Int32)} {res : Int32} (hr : f_X6_thrown iT = some res) : gM l yX6_thrown (ws_ yX6_thrown cX6_thrown 1 (some .int)) rm_X6_thrown x base [.ref o] (mH h o aM aS iU aB iL iE iP aR iW iT aT aC aH aE aQ iA iY iF iV aK) n (some (.int res)) (mH h o aM aS iU aB iL iE iP aR iW iT aT aC aH aE aQ iA iY iF iV aK) n 0 0 := by
  refine g_met (cc := cX6_thrown) (nL := 1) (ret := (some .int)) (by decide) (Nat.le_of_ble_eq_true rfl) (fun p e s m below meth c ls X hnm hl hI => ?_)
  have hl : lv_has ls 1 [(0, .ref o)] := hl
  have hx := X.1
  have hb := X.2.1
  unfold f_X6_thrown at hr
  refine lv_aload_n hx hb dX6_thrown_0 rfl (lv_at hl 0 rfl) ?_
  refine m_get X hI mH_0 9 (by decide) q1661 rfl dX6_thrown_1 ?_
  have hr := gS_i hr
  subst hr
  exact g_iret X hI rfl (Nat.le_refl _) (Nat.le_refl _) dX6_thrown_4
abbrev rm_X6_isSmall : Room := { frames := 0, cells := 0, slots := 0, locals := 0 }
theorem hd_X6_isSmall : yX6_isSmall.cls ≠ "java/lang/invoke/MethodHandle" ∧ yX6_isSmall.cls ≠ "java/lang/invoke/VarHandle" ∧ (parseMethodDescriptor yX6_isSmall.desc).map (fun d => d.parameters.length) = some 1 := by decide +kernel
set_option maxHeartbeats 2000000 in
theorem w_X6_isSmall {l : Launch} {x : gV} {base : Nat} {z0 : Int32} {h : gH} {n : Nat} {o : Nat} {aM : (Nat → Int32)} {aS : (Nat → Int32)} {iU : Int32} {aB : (Nat → Int32)} {iL : Int32} {iE : Int32} {iP : Int32} {aR : (Nat → Int32)} {iW : Int32} {iT : Int32} {aT : (Nat → Int32)} {aC : (Nat → Int32)} {aH : (Nat → Int32)} {aE : (Nat → Int32)} {aQ : (Nat → Int32)} {iA : Int32} {iY : Int32} {iF : Int32} {iV : Int32} {aK : (Nat → Int32)} {res : Int32} (hr : f_X6_isSmall z0 = some res) : gM l yX6_isSmall (ws_ yX6_isSmall cX6_isSmall 1 (some .boolean)) rm_X6_isSmall x base [.int z0] (mH h o aM aS iU aB iL iE iP aR iW iT aT aC aH aE aQ iA iY iF iV aK) n (some (.int res)) (mH h o aM aS iU aB iL iE iP aR iW iT aT aC aH aE aQ iA iY iF iV aK) n 0 0 := by
  refine g_met (cc := cX6_isSmall) (nL := 1) (ret := (some .boolean)) (by decide) (Nat.le_of_ble_eq_true rfl) (fun p e s m below meth c ls X hnm hl hI => ?_)
  have hl : lv_has ls 1 [(0, .int z0)] := hl
  have hx := X.1
  have hb := X.2.1
  unfold f_X6_isSmall at hr
  refine lv_iload_n hx hb dX6_isSmall_0 rfl (lv_at hl 0 rfl) ?_
  refine lv_bipush (v := 97) hx hb dX6_isSmall_1 (by decide) ?_
  refine lv_icmp_lt (tgt := 16) hx hb dX6_isSmall_3 (by decide) (fun c9 => ?_) (fun c9 => ?_)
  · replace hr := gIf_t c9 hr
    refine lv_iconst (v := 0) hx hb dX6_isSmall_16 (by decide) ?_
    have hr := gS_i hr
    subst hr
    exact g_iret X hI (g_narZ (Or.inl rfl)) (Nat.le_refl _) (Nat.le_refl _) dX6_isSmall_17
  · replace hr := gIf_f c9 hr
    refine lv_iload_n hx hb dX6_isSmall_6 rfl (lv_at hl 0 rfl) ?_
    refine lv_bipush (v := 122) hx hb dX6_isSmall_7 (by decide) ?_
    refine lv_icmp_gt (tgt := 16) hx hb dX6_isSmall_9 (by decide) (fun c9 => ?_) (fun c9 => ?_)
    · replace hr := gIf_t c9 hr
      refine lv_iconst (v := 0) hx hb dX6_isSmall_16 (by decide) ?_
      have hr := gS_i hr
      subst hr
      exact g_iret X hI (g_narZ (Or.inl rfl)) (Nat.le_refl _) (Nat.le_refl _) dX6_isSmall_17
    · replace hr := gIf_f c9 hr
      refine lv_iconst (v := 1) hx hb dX6_isSmall_12 (by decide) ?_
      refine lv_goto (tgt := 17) hx hb dX6_isSmall_13 (by decide) ?_
      have hr := gS_i hr
      subst hr
      exact g_iret X hI (g_narZ (Or.inr rfl)) (Nat.le_refl _) (Nat.le_refl _) dX6_isSmall_17
abbrev rm_X6_isDigit : Room := { frames := 0, cells := 0, slots := 0, locals := 0 }
theorem hd_X6_isDigit : yX6_isDigit.cls ≠ "java/lang/invoke/MethodHandle" ∧ yX6_isDigit.cls ≠ "java/lang/invoke/VarHandle" ∧ (parseMethodDescriptor yX6_isDigit.desc).map (fun d => d.parameters.length) = some 1 := by decide +kernel
set_option maxHeartbeats 2000000 in
theorem w_X6_isDigit {l : Launch} {x : gV} {base : Nat} {z0 : Int32} {h : gH} {n : Nat} {o : Nat} {aM : (Nat → Int32)} {aS : (Nat → Int32)} {iU : Int32} {aB : (Nat → Int32)} {iL : Int32} {iE : Int32} {iP : Int32} {aR : (Nat → Int32)} {iW : Int32} {iT : Int32} {aT : (Nat → Int32)} {aC : (Nat → Int32)} {aH : (Nat → Int32)} {aE : (Nat → Int32)} {aQ : (Nat → Int32)} {iA : Int32} {iY : Int32} {iF : Int32} {iV : Int32} {aK : (Nat → Int32)} {res : Int32} (hr : f_X6_isDigit z0 = some res) : gM l yX6_isDigit (ws_ yX6_isDigit cX6_isDigit 1 (some .boolean)) rm_X6_isDigit x base [.int z0] (mH h o aM aS iU aB iL iE iP aR iW iT aT aC aH aE aQ iA iY iF iV aK) n (some (.int res)) (mH h o aM aS iU aB iL iE iP aR iW iT aT aC aH aE aQ iA iY iF iV aK) n 0 0 := by
  refine g_met (cc := cX6_isDigit) (nL := 1) (ret := (some .boolean)) (by decide) (Nat.le_of_ble_eq_true rfl) (fun p e s m below meth c ls X hnm hl hI => ?_)
  have hl : lv_has ls 1 [(0, .int z0)] := hl
  have hx := X.1
  have hb := X.2.1
  unfold f_X6_isDigit at hr
  refine lv_iload_n hx hb dX6_isDigit_0 rfl (lv_at hl 0 rfl) ?_
  refine lv_bipush (v := 48) hx hb dX6_isDigit_1 (by decide) ?_
  refine lv_icmp_lt (tgt := 16) hx hb dX6_isDigit_3 (by decide) (fun c9 => ?_) (fun c9 => ?_)
  · replace hr := gIf_t c9 hr
    refine lv_iconst (v := 0) hx hb dX6_isDigit_16 (by decide) ?_
    have hr := gS_i hr
    subst hr
    exact g_iret X hI (g_narZ (Or.inl rfl)) (Nat.le_refl _) (Nat.le_refl _) dX6_isDigit_17
  · replace hr := gIf_f c9 hr
    refine lv_iload_n hx hb dX6_isDigit_6 rfl (lv_at hl 0 rfl) ?_
    refine lv_bipush (v := 57) hx hb dX6_isDigit_7 (by decide) ?_
    refine lv_icmp_gt (tgt := 16) hx hb dX6_isDigit_9 (by decide) (fun c9 => ?_) (fun c9 => ?_)
    · replace hr := gIf_t c9 hr
      refine lv_iconst (v := 0) hx hb dX6_isDigit_16 (by decide) ?_
      have hr := gS_i hr
      subst hr
      exact g_iret X hI (g_narZ (Or.inl rfl)) (Nat.le_refl _) (Nat.le_refl _) dX6_isDigit_17
    · replace hr := gIf_f c9 hr
      refine lv_iconst (v := 1) hx hb dX6_isDigit_12 (by decide) ?_
      refine lv_goto (tgt := 17) hx hb dX6_isDigit_13 (by decide) ?_
      have hr := gS_i hr
      subst hr
      exact g_iret X hI (g_narZ (Or.inr rfl)) (Nat.le_refl _) (Nat.le_refl _) dX6_isDigit_17
abbrev rm_X6_token : Room := { frames := 1, cells := 0, slots := 0, locals := 20 }
theorem hd_X6_token : yX6_token.cls = RX6 ∧ yX6_token.cls ≠ "java/lang/invoke/MethodHandle" ∧ yX6_token.cls ≠ "java/lang/invoke/VarHandle" ∧ (parseMethodDescriptor yX6_token.desc).map (fun d => d.parameters.length) = some 0 := by decide +kernel
set_option maxHeartbeats 2000000 in
theorem w_X6_token_J294 {h : gH} {n : Nat} {o : Nat} {aM : (Nat → Int32)} {aS : (Nat → Int32)} {iU : Int32} {aB : (Nat → Int32)} {iL : Int32} {iE : Int32} {iP : Int32} {aR : (Nat → Int32)} {iW : Int32} {iT : Int32} {aT : (Nat → Int32)} {aC : (Nat → Int32)} {aH : (Nat → Int32)} {aE : (Nat → Int32)} {aQ : (Nat → Int32)} {iA : Int32} {iY : Int32} {iF : Int32} {iV : Int32} {aK : (Nat → Int32)} {s1 : Int32} {res : Int32 × Int32 × Int32 × Int32} (X : gXX x base RX6 cX6_token 1 none p l s m args meth c) {H : Heap} {locs : List Loc} {ls : Array Slot} (hr : f_X6_token_J294 s1 aB iL iA iY iF iV = some res) (hI : gI x base s.heap (mH h o aM aS iU aB iL iE iP aR iW iT aT aC aH aE aQ iA iY iF iV aK) n H locs) (hl : lv_has ls 1 [(0, .ref o)]) : W p l e rm_X6_token s m args below meth c H locs 0 0 (MQ below (gQ x base none (mH h o aM aS iU aB iL iE iP aR iW iT aT aC aH aE aQ res.1 res.2.1 res.2.2.1 res.2.2.2 aK) n) args s 0 0 (fun q => base ≤ q)) (F0 m 294 ls [.int s1, .ref o]) := by
  have hx := X.1
  have hb := X.2.1
  unfold f_X6_token_J294 at hr
  refine m_put X hI mH_0 16 (by decide) q1668 rfl (by decide +kernel) (Nat.le_of_ble_eq_true rfl) rfl mH_iY dX6_token_294 (fun H locs hI => ?_)
  refine lv_aload_n hx hb dX6_token_297 rfl (lv_at hl 0 rfl) ?_
  refine lv_dup hx hb dX6_token_298 rfl ?_
  refine m_get X hI mH_0 15 (by decide) q1667 rfl dX6_token_299 ?_
  refine lv_iconst (v := 1) hx hb dX6_token_302 (by decide) ?_
  refine lv_iadd hx hb dX6_token_303 ?_
  refine m_put X hI mH_0 15 (by decide) q1667 rfl (by decide +kernel) (Nat.le_of_ble_eq_true rfl) rfl mH_iA dX6_token_304 (fun H locs hI => ?_)
  have hr := gS_i hr
  subst hr
  exact g_vret X hI (Nat.le_refl _) (Nat.le_refl _) dX6_token_307
set_option maxHeartbeats 2000000 in
theorem w_X6_token_J251 {h : gH} {n : Nat} {o : Nat} {aM : (Nat → Int32)} {aS : (Nat → Int32)} {iU : Int32} {aB : (Nat → Int32)} {iL : Int32} {iE : Int32} {iP : Int32} {aR : (Nat → Int32)} {iW : Int32} {iT : Int32} {aT : (Nat → Int32)} {aC : (Nat → Int32)} {aH : (Nat → Int32)} {aE : (Nat → Int32)} {aQ : (Nat → Int32)} {iA : Int32} {iY : Int32} {iF : Int32} {iV : Int32} {aK : (Nat → Int32)} {res : Int32 × Int32 × Int32 × Int32} (X : gXX x base RX6 cX6_token 1 none p l s m args meth c) {H : Heap} {locs : List Loc} {ls : Array Slot} (hr : f_X6_token_J251 aB iL iA iY iF iV = some res) (hI : gI x base s.heap (mH h o aM aS iU aB iL iE iP aR iW iT aT aC aH aE aQ iA iY iF iV aK) n H locs) (hl : lv_has ls 1 [(0, .ref o)]) : W p l e rm_X6_token s m args below meth c H locs 0 0 (MQ below (gQ x base none (mH h o aM aS iU aB iL iE iP aR iW iT aT aC aH aE aQ res.1 res.2.1 res.2.2.1 res.2.2.2 aK) n) args s 0 0 (fun q => base ≤ q)) (F0 m 251 ls []) := by
  have hx := X.1
  have hb := X.2.1
  unfold f_X6_token_J251 at hr
  refine lv_aload_n hx hb dX6_token_251 rfl (lv_at hl 0 rfl) ?_
  refine lv_aload_n hx hb dX6_token_252 rfl (lv_at hl 0 rfl) ?_
  refine m_get X hI mH_0 15 (by decide) q1667 rfl dX6_token_253 ?_
  refine lv_aload_n hx hb dX6_token_256 rfl (lv_at hl 0 rfl) ?_
  refine m_get X hI mH_0 17 (by decide) q1669 rfl dX6_token_257 ?_
  refine lv_isub hx hb dX6_token_260 ?_
  refine lv_iconst (v := 2) hx hb dX6_token_261 (by decide) ?_
  refine lv_icmp_le (tgt := 269) hx hb dX6_token_262 (by decide) (fun c9 => ?_) (fun c9 => ?_)
  · replace hr := gIf_t c9 hr
    refine lv_iconst (v := 2) hx hb dX6_token_269 (by decide) ?_
    refine m_put X hI mH_0 16 (by decide) q1668 rfl (by decide +kernel) (Nat.le_of_ble_eq_true rfl) rfl mH_iY dX6_token_270 (fun H locs hI => ?_)
    have hr := gS_i hr
    subst hr
    exact g_vret X hI (Nat.le_refl _) (Nat.le_refl _) dX6_token_273
  · replace hr := gIf_f c9 hr
    refine lv_iconst (v := 4) hx hb dX6_token_265 (by decide) ?_
    refine lv_goto (tgt := 270) hx hb dX6_token_266 (by decide) ?_
    refine m_put X hI mH_0 16 (by decide) q1668 rfl (by decide +kernel) (Nat.le_of_ble_eq_true rfl) rfl mH_iY dX6_token_270 (fun H locs hI => ?_)
    have hr := gS_i hr
    subst hr
    exact g_vret X hI (Nat.le_refl _) (Nat.le_refl _) dX6_token_273
set_option maxHeartbeats 2000000 in
theorem w_X6_token_L175 {h : gH} {n : Nat} {o : Nat} {aM : (Nat → Int32)} {aS : (Nat → Int32)} {iU : Int32} {aB : (Nat → Int32)} {iL : Int32} {iE : Int32} {iP : Int32} {aR : (Nat → Int32)} {iW : Int32} {iT : Int32} {aT : (Nat → Int32)} {aC : (Nat → Int32)} {aH : (Nat → Int32)} {aE : (Nat → Int32)} {aQ : (Nat → Int32)} {iY : Int32} {iF : Int32} {aK : (Nat → Int32)} {res : Int32 × Int32 × Int32 × Int32} (X : gXX x base RX6 cX6_token 1 none p l s m args meth c) : ∀ (k : Nat) {iA : Int32} {iV : Int32} {H : Heap} {locs : List Loc} {ls : Array Slot}, gL2 (f_X6_token_L175 aB iL iY iF) k iA iV = some res → gI x base s.heap (mH h o aM aS iU aB iL iE iP aR iW iT aT aC aH aE aQ iA iY iF iV aK) n H locs → lv_has ls 1 [(0, .ref o)] → W p l e rm_X6_token s m args below meth c H locs 0 0 (MQ below (gQ x base none (mH h o aM aS iU aB iL iE iP aR iW iT aT aC aH aE aQ res.1 res.2.1 res.2.2.1 res.2.2.2 aK) n) args s 0 0 (fun q => base ≤ q)) (F0 m 175 ls []) := by
  have hx := X.1
  have hb := X.2.1
  intro k
  induction k with
  | zero =>
    intros
    rename_i hr _ _
    exact nomatch (show (none : Option _) = some _ from hr)
  | succ k ih =>
    intro iA iV H locs ls hr hI hl
    replace hr : f_X6_token_L175 aB iL iY iF (gL2 (f_X6_token_L175 aB iL iY iF) k) iA iV = some res := hr
    unfold f_X6_token_L175 at hr
    refine lv_aload_n hx hb dX6_token_175 rfl (lv_at hl 0 rfl) ?_
    refine m_get X hI mH_0 15 (by decide) q1667 rfl dX6_token_176 ?_
    refine lv_aload_n hx hb dX6_token_179 rfl (lv_at hl 0 rfl) ?_
    refine m_get X hI mH_0 4 (by decide) q1656 rfl dX6_token_180 ?_
    refine lv_icmp_ge (tgt := 251) hx hb dX6_token_183 (by decide) (fun c9 => ?_) (fun c9 => ?_)
    · replace hr := gIf_t c9 hr
      exact w_X6_token_J251 X hr hI (lv_sub hl [0] rfl)
    · replace hr := gIf_f c9 hr
      refine lv_aload_n hx hb dX6_token_186 rfl (lv_at hl 0 rfl) ?_
      refine m_get X hI mH_0 3 (by decide) q1655 rfl dX6_token_187 ?_
      refine lv_aload_n hx hb dX6_token_190 rfl (lv_at hl 0 rfl) ?_
      refine m_get X hI mH_0 15 (by decide) q1667 rfl dX6_token_191 ?_
      refine m_iald X hI mH_aaB hr dX6_token_194 (fun v8 hr => ?_)
      obtain ⟨v10, hc9, hr⟩ := gB_i hr
      refine gRun_i (g_runS X hI (w_X6_isDigit hc9) hl (lw_S q1608 q1609 q122 q1610) rfl rfl hd_X6_isDigit ⟨Nat.le_of_ble_eq_true rfl, Nat.le_of_ble_eq_true rfl⟩ (as := [.int v8]) (rest := []) rfl rfl (Nat.le_of_ble_eq_true rfl) ⟨(Nat.le_refl _), (Nat.le_refl _)⟩ dX6_token_195) (fun H locs hI => ?_)
      refine lv_if_eq (tgt := 251) hx hb dX6_token_198 (by decide) (fun c9 => ?_) (fun c9 => ?_)
      · replace hr := gIf_t c9 hr
        exact w_X6_token_J251 X hr hI (lv_sub hl [0] rfl)
      · replace hr := gIf_f c9 hr
        refine lv_aload_n hx hb dX6_token_201 rfl (lv_at hl 0 rfl) ?_
        refine m_get X hI mH_0 15 (by decide) q1667 rfl dX6_token_202 ?_
        refine lv_aload_n hx hb dX6_token_205 rfl (lv_at hl 0 rfl) ?_
        refine m_get X hI mH_0 17 (by decide) q1669 rfl dX6_token_206 ?_
        refine lv_isub hx hb dX6_token_209 ?_
        refine lv_iconst (v := 2) hx hb dX6_token_210 (by decide) ?_
        refine lv_icmp_ge (tgt := 238) hx hb dX6_token_211 (by decide) (fun c9 => ?_) (fun c9 => ?_)
        · replace hr := gIf_t c9 hr
          refine lv_aload_n hx hb dX6_token_238 rfl (lv_at hl 0 rfl) ?_
          refine lv_dup hx hb dX6_token_239 rfl ?_
          refine m_get X hI mH_0 15 (by decide) q1667 rfl dX6_token_240 ?_
          refine lv_iconst (v := 1) hx hb dX6_token_243 (by decide) ?_
          refine lv_iadd hx hb dX6_token_244 ?_
          refine m_put X hI mH_0 15 (by decide) q1667 rfl (by decide +kernel) (Nat.le_of_ble_eq_true rfl) rfl mH_iA dX6_token_245 (fun H locs hI => ?_)
          refine lv_goto (tgt := 175) hx hb dX6_token_248 (by decide) ?_
          exact ih hr hI (lv_sub hl [0] rfl)
        · replace hr := gIf_f c9 hr
          refine lv_aload_n hx hb dX6_token_214 rfl (lv_at hl 0 rfl) ?_
          refine lv_aload_n hx hb dX6_token_215 rfl (lv_at hl 0 rfl) ?_
          refine m_get X hI mH_0 18 (by decide) q1670 rfl dX6_token_216 ?_
          refine lv_bipush (v := 10) hx hb dX6_token_219 (by decide) ?_
          refine lv_imul hx hb dX6_token_221 ?_
          refine lv_aload_n hx hb dX6_token_222 rfl (lv_at hl 0 rfl) ?_
          refine m_get X hI mH_0 3 (by decide) q1655 rfl dX6_token_223 ?_
          refine lv_aload_n hx hb dX6_token_226 rfl (lv_at hl 0 rfl) ?_
          refine m_get X hI mH_0 15 (by decide) q1667 rfl dX6_token_227 ?_
          refine m_iald X hI mH_aaB hr dX6_token_230 (fun v11 hr => ?_)
          refine lv_iadd hx hb dX6_token_231 ?_
          refine lv_bipush (v := 48) hx hb dX6_token_232 (by decide) ?_
          refine lv_isub hx hb dX6_token_234 ?_
          refine m_put X hI mH_0 18 (by decide) q1670 rfl (by decide +kernel) (Nat.le_of_ble_eq_true rfl) rfl mH_iV dX6_token_235 (fun H locs hI => ?_)
          refine lv_aload_n hx hb dX6_token_238 rfl (lv_at hl 0 rfl) ?_
          refine lv_dup hx hb dX6_token_239 rfl ?_
          refine m_get X hI mH_0 15 (by decide) q1667 rfl dX6_token_240 ?_
          refine lv_iconst (v := 1) hx hb dX6_token_243 (by decide) ?_
          refine lv_iadd hx hb dX6_token_244 ?_
          refine m_put X hI mH_0 15 (by decide) q1667 rfl (by decide +kernel) (Nat.le_of_ble_eq_true rfl) rfl mH_iA dX6_token_245 (fun H locs hI => ?_)
          refine lv_goto (tgt := 175) hx hb dX6_token_248 (by decide) ?_
          exact ih hr hI (lv_sub hl [0] rfl)
set_option maxHeartbeats 2000000 in
theorem w_X6_token_J131 {h : gH} {n : Nat} {o : Nat} {aM : (Nat → Int32)} {aS : (Nat → Int32)} {iU : Int32} {aB : (Nat → Int32)} {iL : Int32} {iE : Int32} {iP : Int32} {aR : (Nat → Int32)} {iW : Int32} {iT : Int32} {aT : (Nat → Int32)} {aC : (Nat → Int32)} {aH : (Nat → Int32)} {aE : (Nat → Int32)} {aQ : (Nat → Int32)} {iA : Int32} {iY : Int32} {iF : Int32} {iV : Int32} {aK : (Nat → Int32)} {res : Int32 × Int32 × Int32 × Int32} (X : gXX x base RX6 cX6_token 1 none p l s m args meth c) {H : Heap} {locs : List Loc} {ls : Array Slot} (hr : f_X6_token_J131 aB iL iA iY iF iV = some res) (hI : gI x base s.heap (mH h o aM aS iU aB iL iE iP aR iW iT aT aC aH aE aQ iA iY iF iV aK) n H locs) (hl : lv_has ls 1 [(0, .ref o)]) : W p l e rm_X6_token s m args below meth c H locs 0 0 (MQ below (gQ x base none (mH h o aM aS iU aB iL iE iP aR iW iT aT aC aH aE aQ res.1 res.2.1 res.2.2.1 res.2.2.2 aK) n) args s 0 0 (fun q => base ≤ q)) (F0 m 131 ls []) := by
  have hx := X.1
  have hb := X.2.1
  unfold f_X6_token_J131 at hr
  refine lv_aload_n hx hb dX6_token_131 rfl (lv_at hl 0 rfl) ?_
  refine lv_aload_n hx hb dX6_token_132 rfl (lv_at hl 0 rfl) ?_
  refine m_get X hI mH_0 15 (by decide) q1667 rfl dX6_token_133 ?_
  refine lv_aload_n hx hb dX6_token_136 rfl (lv_at hl 0 rfl) ?_
  refine m_get X hI mH_0 17 (by decide) q1669 rfl dX6_token_137 ?_
  refine lv_isub hx hb dX6_token_140 ?_
  refine lv_bipush (v := 8) hx hb dX6_token_141 (by decide) ?_
  refine lv_icmp_le (tgt := 150) hx hb dX6_token_143 (by decide) (fun c9 => ?_) (fun c9 => ?_)
  · replace hr := gIf_t c9 hr
    refine lv_iconst (v := 1) hx hb dX6_token_150 (by decide) ?_
    refine m_put X hI mH_0 16 (by decide) q1668 rfl (by decide +kernel) (Nat.le_of_ble_eq_true rfl) rfl mH_iY dX6_token_151 (fun H locs hI => ?_)
    have hr := gS_i hr
    subst hr
    exact g_vret X hI (Nat.le_refl _) (Nat.le_refl _) dX6_token_154
  · replace hr := gIf_f c9 hr
    refine lv_iconst (v := 4) hx hb dX6_token_146 (by decide) ?_
    refine lv_goto (tgt := 151) hx hb dX6_token_147 (by decide) ?_
    refine m_put X hI mH_0 16 (by decide) q1668 rfl (by decide +kernel) (Nat.le_of_ble_eq_true rfl) rfl mH_iY dX6_token_151 (fun H locs hI => ?_)
    have hr := gS_i hr
    subst hr
    exact g_vret X hI (Nat.le_refl _) (Nat.le_refl _) dX6_token_154
set_option maxHeartbeats 2000000 in
theorem w_X6_token_L92 {h : gH} {n : Nat} {o : Nat} {aM : (Nat → Int32)} {aS : (Nat → Int32)} {iU : Int32} {aB : (Nat → Int32)} {iL : Int32} {iE : Int32} {iP : Int32} {aR : (Nat → Int32)} {iW : Int32} {iT : Int32} {aT : (Nat → Int32)} {aC : (Nat → Int32)} {aH : (Nat → Int32)} {aE : (Nat → Int32)} {aQ : (Nat → Int32)} {iY : Int32} {iF : Int32} {iV : Int32} {aK : (Nat → Int32)} {res : Int32 × Int32 × Int32 × Int32} (X : gXX x base RX6 cX6_token 1 none p l s m args meth c) : ∀ (k : Nat) {iA : Int32} {H : Heap} {locs : List Loc} {ls : Array Slot}, gL1 (f_X6_token_L92 aB iL iY iF iV) k iA = some res → gI x base s.heap (mH h o aM aS iU aB iL iE iP aR iW iT aT aC aH aE aQ iA iY iF iV aK) n H locs → lv_has ls 1 [(0, .ref o)] → W p l e rm_X6_token s m args below meth c H locs 0 0 (MQ below (gQ x base none (mH h o aM aS iU aB iL iE iP aR iW iT aT aC aH aE aQ res.1 res.2.1 res.2.2.1 res.2.2.2 aK) n) args s 0 0 (fun q => base ≤ q)) (F0 m 92 ls []) := by
  have hx := X.1
  have hb := X.2.1
  intro k
  induction k with
  | zero =>
    intros
    rename_i hr _ _
    exact nomatch (show (none : Option _) = some _ from hr)
  | succ k ih =>
    intro iA H locs ls hr hI hl
    replace hr : f_X6_token_L92 aB iL iY iF iV (gL1 (f_X6_token_L92 aB iL iY iF iV) k) iA = some res := hr
    unfold f_X6_token_L92 at hr
    refine lv_aload_n hx hb dX6_token_92 rfl (lv_at hl 0 rfl) ?_
    refine m_get X hI mH_0 15 (by decide) q1667 rfl dX6_token_93 ?_
    refine lv_aload_n hx hb dX6_token_96 rfl (lv_at hl 0 rfl) ?_
    refine m_get X hI mH_0 4 (by decide) q1656 rfl dX6_token_97 ?_
    refine lv_icmp_ge (tgt := 131) hx hb dX6_token_100 (by decide) (fun c9 => ?_) (fun c9 => ?_)
    · replace hr := gIf_t c9 hr
      exact w_X6_token_J131 X hr hI (lv_sub hl [0] rfl)
    · replace hr := gIf_f c9 hr
      refine lv_aload_n hx hb dX6_token_103 rfl (lv_at hl 0 rfl) ?_
      refine m_get X hI mH_0 3 (by decide) q1655 rfl dX6_token_104 ?_
      refine lv_aload_n hx hb dX6_token_107 rfl (lv_at hl 0 rfl) ?_
      refine m_get X hI mH_0 15 (by decide) q1667 rfl dX6_token_108 ?_
      refine m_iald X hI mH_aaB hr dX6_token_111 (fun v12 hr => ?_)
      obtain ⟨v14, hc13, hr⟩ := gB_i hr
      refine gRun_i (g_runS X hI (w_X6_isSmall hc13) hl (lw_S q1605 q1606 q122 q1607) rfl rfl hd_X6_isSmall ⟨Nat.le_of_ble_eq_true rfl, Nat.le_of_ble_eq_true rfl⟩ (as := [.int v12]) (rest := []) rfl rfl (Nat.le_of_ble_eq_true rfl) ⟨(Nat.le_refl _), (Nat.le_refl _)⟩ dX6_token_112) (fun H locs hI => ?_)
      refine lv_if_eq (tgt := 131) hx hb dX6_token_115 (by decide) (fun c9 => ?_) (fun c9 => ?_)
      · replace hr := gIf_t c9 hr
        exact w_X6_token_J131 X hr hI (lv_sub hl [0] rfl)
      · replace hr := gIf_f c9 hr
        refine lv_aload_n hx hb dX6_token_118 rfl (lv_at hl 0 rfl) ?_
        refine lv_dup hx hb dX6_token_119 rfl ?_
        refine m_get X hI mH_0 15 (by decide) q1667 rfl dX6_token_120 ?_
        refine lv_iconst (v := 1) hx hb dX6_token_123 (by decide) ?_
        refine lv_iadd hx hb dX6_token_124 ?_
        refine m_put X hI mH_0 15 (by decide) q1667 rfl (by decide +kernel) (Nat.le_of_ble_eq_true rfl) rfl mH_iA dX6_token_125 (fun H locs hI => ?_)
        refine lv_goto (tgt := 92) hx hb dX6_token_128 (by decide) ?_
        exact ih hr hI (lv_sub hl [0] rfl)
set_option maxHeartbeats 2000000 in
theorem w_X6_token_J52 {h : gH} {n : Nat} {o : Nat} {aM : (Nat → Int32)} {aS : (Nat → Int32)} {iU : Int32} {aB : (Nat → Int32)} {iL : Int32} {iE : Int32} {iP : Int32} {aR : (Nat → Int32)} {iW : Int32} {iT : Int32} {aT : (Nat → Int32)} {aC : (Nat → Int32)} {aH : (Nat → Int32)} {aE : (Nat → Int32)} {aQ : (Nat → Int32)} {iA : Int32} {iY : Int32} {iF : Int32} {iV : Int32} {aK : (Nat → Int32)} {res : Int32 × Int32 × Int32 × Int32} (X : gXX x base RX6 cX6_token 1 none p l s m args meth c) {H : Heap} {locs : List Loc} {ls : Array Slot} (hr : f_X6_token_J52 aB iL iA iY iF iV = some res) (hI : gI x base s.heap (mH h o aM aS iU aB iL iE iP aR iW iT aT aC aH aE aQ iA iY iF iV aK) n H locs) (hl : lv_has ls 1 [(0, .ref o)]) : W p l e rm_X6_token s m args below meth c H locs 0 0 (MQ below (gQ x base none (mH h o aM aS iU aB iL iE iP aR iW iT aT aC aH aE aQ res.1 res.2.1 res.2.2.1 res.2.2.2 aK) n) args s 0 0 (fun q => base ≤ q)) (F0 m 52 ls []) := by
  have hx := X.1
  have hb := X.2.1
  unfold f_X6_token_J52 at hr
  refine lv_aload_n hx hb dX6_token_52 rfl (lv_at hl 0 rfl) ?_
  refine lv_aload_n hx hb dX6_token_53 rfl (lv_at hl 0 rfl) ?_
  refine m_get X hI mH_0 15 (by decide) q1667 rfl dX6_token_54 ?_
  refine m_put X hI mH_0 17 (by decide) q1669 rfl (by decide +kernel) (Nat.le_of_ble_eq_true rfl) rfl mH_iF dX6_token_57 (fun H locs hI => ?_)
  refine lv_aload_n hx hb dX6_token_60 rfl (lv_at hl 0 rfl) ?_
  refine m_get X hI mH_0 15 (by decide) q1667 rfl dX6_token_61 ?_
  refine lv_aload_n hx hb dX6_token_64 rfl (lv_at hl 0 rfl) ?_
  refine m_get X hI mH_0 4 (by decide) q1656 rfl dX6_token_65 ?_
  refine lv_icmp_ne (tgt := 77) hx hb dX6_token_68 (by decide) (fun c9 => ?_) (fun c9 => ?_)
  · replace hr := gIf_f c9 hr
    refine lv_aload_n hx hb dX6_token_77 rfl (lv_at hl 0 rfl) ?_
    refine m_get X hI mH_0 3 (by decide) q1655 rfl dX6_token_78 ?_
    refine lv_aload_n hx hb dX6_token_81 rfl (lv_at hl 0 rfl) ?_
    refine m_get X hI mH_0 15 (by decide) q1667 rfl dX6_token_82 ?_
    refine m_iald X hI mH_aaB hr dX6_token_85 (fun v1 hr => ?_)
    obtain ⟨v3, hc2, hr⟩ := gB_i hr
    refine gRun_i (g_runS X hI (w_X6_isSmall hc2) hl (lw_S q1605 q1606 q122 q1607) rfl rfl hd_X6_isSmall ⟨Nat.le_of_ble_eq_true rfl, Nat.le_of_ble_eq_true rfl⟩ (as := [.int v1]) (rest := []) rfl rfl (Nat.le_of_ble_eq_true rfl) ⟨(Nat.le_refl _), (Nat.le_refl _)⟩ dX6_token_86) (fun H locs hI => ?_)
    refine lv_if_eq (tgt := 155) hx hb dX6_token_89 (by decide) (fun c9 => ?_) (fun c9 => ?_)
    · replace hr := gIf_t c9 hr
      refine lv_aload_n hx hb dX6_token_155 rfl (lv_at hl 0 rfl) ?_
      refine m_get X hI mH_0 3 (by decide) q1655 rfl dX6_token_156 ?_
      refine lv_aload_n hx hb dX6_token_159 rfl (lv_at hl 0 rfl) ?_
      refine m_get X hI mH_0 15 (by decide) q1667 rfl dX6_token_160 ?_
      refine m_iald X hI mH_aaB hr dX6_token_163 (fun v4 hr => ?_)
      obtain ⟨v6, hc5, hr⟩ := gB_i hr
      refine gRun_i (g_runS X hI (w_X6_isDigit hc5) hl (lw_S q1608 q1609 q122 q1610) rfl rfl hd_X6_isDigit ⟨Nat.le_of_ble_eq_true rfl, Nat.le_of_ble_eq_true rfl⟩ (as := [.int v4]) (rest := []) rfl rfl (Nat.le_of_ble_eq_true rfl) ⟨(Nat.le_refl _), (Nat.le_refl _)⟩ dX6_token_164) (fun H locs hI => ?_)
      refine lv_if_eq (tgt := 274) hx hb dX6_token_167 (by decide) (fun c9 => ?_) (fun c9 => ?_)
      · replace hr := gIf_t c9 hr
        refine lv_aload_n hx hb dX6_token_274 rfl (lv_at hl 0 rfl) ?_
        refine lv_aload_n hx hb dX6_token_275 rfl (lv_at hl 0 rfl) ?_
        refine m_get X hI mH_0 3 (by decide) q1655 rfl dX6_token_276 ?_
        refine lv_aload_n hx hb dX6_token_279 rfl (lv_at hl 0 rfl) ?_
        refine m_get X hI mH_0 15 (by decide) q1667 rfl dX6_token_280 ?_
        refine m_iald X hI mH_aaB hr dX6_token_283 (fun v7 hr => ?_)
        refine lv_bipush (v := 59) hx hb dX6_token_284 (by decide) ?_
        refine lv_icmp_ne (tgt := 293) hx hb dX6_token_286 (by decide) (fun c9 => ?_) (fun c9 => ?_)
        · replace hr := gIf_f c9 hr
          refine lv_iconst (v := 4) hx hb dX6_token_293 (by decide) ?_
          exact w_X6_token_J294 X hr hI (lv_sub hl [0] rfl)
        · replace hr := gIf_t c9 hr
          refine lv_iconst (v := 3) hx hb dX6_token_289 (by decide) ?_
          refine lv_goto (tgt := 294) hx hb dX6_token_290 (by decide) ?_
          exact w_X6_token_J294 X hr hI (lv_sub hl [0] rfl)
      · replace hr := gIf_f c9 hr
        refine lv_aload_n hx hb dX6_token_170 rfl (lv_at hl 0 rfl) ?_
        refine lv_iconst (v := 0) hx hb dX6_token_171 (by decide) ?_
        refine m_put X hI mH_0 18 (by decide) q1670 rfl (by decide +kernel) (Nat.le_of_ble_eq_true rfl) rfl mH_iV dX6_token_172 (fun H locs hI => ?_)
        exact w_X6_token_L175 X gN hr hI (lv_sub hl [0] rfl)
    · replace hr := gIf_f c9 hr
      exact w_X6_token_L92 X gN hr hI (lv_sub hl [0] rfl)
  · replace hr := gIf_t c9 hr
    refine lv_aload_n hx hb dX6_token_71 rfl (lv_at hl 0 rfl) ?_
    refine lv_iconst (v := 0) hx hb dX6_token_72 (by decide) ?_
    refine m_put X hI mH_0 16 (by decide) q1668 rfl (by decide +kernel) (Nat.le_of_ble_eq_true rfl) rfl mH_iY dX6_token_73 (fun H locs hI => ?_)
    have hr := gS_i hr
    subst hr
    exact g_vret X hI (Nat.le_refl _) (Nat.le_refl _) dX6_token_76
set_option maxHeartbeats 2000000 in
theorem w_X6_token_L0 {h : gH} {n : Nat} {o : Nat} {aM : (Nat → Int32)} {aS : (Nat → Int32)} {iU : Int32} {aB : (Nat → Int32)} {iL : Int32} {iE : Int32} {iP : Int32} {aR : (Nat → Int32)} {iW : Int32} {iT : Int32} {aT : (Nat → Int32)} {aC : (Nat → Int32)} {aH : (Nat → Int32)} {aE : (Nat → Int32)} {aQ : (Nat → Int32)} {iY : Int32} {iF : Int32} {iV : Int32} {aK : (Nat → Int32)} {res : Int32 × Int32 × Int32 × Int32} (X : gXX x base RX6 cX6_token 1 none p l s m args meth c) : ∀ (k : Nat) {iA : Int32} {H : Heap} {locs : List Loc} {ls : Array Slot}, gL1 (f_X6_token_L0 aB iL iY iF iV) k iA = some res → gI x base s.heap (mH h o aM aS iU aB iL iE iP aR iW iT aT aC aH aE aQ iA iY iF iV aK) n H locs → lv_has ls 1 [(0, .ref o)] → W p l e rm_X6_token s m args below meth c H locs 0 0 (MQ below (gQ x base none (mH h o aM aS iU aB iL iE iP aR iW iT aT aC aH aE aQ res.1 res.2.1 res.2.2.1 res.2.2.2 aK) n) args s 0 0 (fun q => base ≤ q)) (F0 m 0 ls []) := by
  have hx := X.1
  have hb := X.2.1
  intro k
  induction k with
  | zero =>
    intros
    rename_i hr _ _
    exact nomatch (show (none : Option _) = some _ from hr)
  | succ k ih =>
    intro iA H locs ls hr hI hl
    replace hr : f_X6_token_L0 aB iL iY iF iV (gL1 (f_X6_token_L0 aB iL iY iF iV) k) iA = some res := hr
    unfold f_X6_token_L0 at hr
    refine lv_aload_n hx hb dX6_token_0 rfl (lv_at hl 0 rfl) ?_
    refine m_get X hI mH_0 15 (by decide) q1667 rfl dX6_token_1 ?_
    refine lv_aload_n hx hb dX6_token_4 rfl (lv_at hl 0 rfl) ?_
    refine m_get X hI mH_0 4 (by decide) q1656 rfl dX6_token_5 ?_
    refine lv_icmp_ge (tgt := 52) hx hb dX6_token_8 (by decide) (fun c9 => ?_) (fun c9 => ?_)
    · replace hr := gIf_t c9 hr
      exact w_X6_token_J52 X hr hI (lv_sub hl [0] rfl)
    · replace hr := gIf_f c9 hr
      refine lv_aload_n hx hb dX6_token_11 rfl (lv_at hl 0 rfl) ?_
      refine m_get X hI mH_0 3 (by decide) q1655 rfl dX6_token_12 ?_
      refine lv_aload_n hx hb dX6_token_15 rfl (lv_at hl 0 rfl) ?_
      refine m_get X hI mH_0 15 (by decide) q1667 rfl dX6_token_16 ?_
      refine m_iald X hI mH_aaB hr dX6_token_19 (fun v15 hr => ?_)
      refine lv_bipush (v := 32) hx hb dX6_token_20 (by decide) ?_
      refine lv_icmp_eq (tgt := 39) hx hb dX6_token_22 (by decide) (fun c9 => ?_) (fun c9 => ?_)
      · replace hr := gIf_t c9 hr
        refine lv_aload_n hx hb dX6_token_39 rfl (lv_at hl 0 rfl) ?_
        refine lv_dup hx hb dX6_token_40 rfl ?_
        refine m_get X hI mH_0 15 (by decide) q1667 rfl dX6_token_41 ?_
        refine lv_iconst (v := 1) hx hb dX6_token_44 (by decide) ?_
        refine lv_iadd hx hb dX6_token_45 ?_
        refine m_put X hI mH_0 15 (by decide) q1667 rfl (by decide +kernel) (Nat.le_of_ble_eq_true rfl) rfl mH_iA dX6_token_46 (fun H locs hI => ?_)
        refine lv_goto (tgt := 0) hx hb dX6_token_49 (by decide) ?_
        exact ih hr hI (lv_sub hl [0] rfl)
      · replace hr := gIf_f c9 hr
        refine lv_aload_n hx hb dX6_token_25 rfl (lv_at hl 0 rfl) ?_
        refine m_get X hI mH_0 3 (by decide) q1655 rfl dX6_token_26 ?_
        refine lv_aload_n hx hb dX6_token_29 rfl (lv_at hl 0 rfl) ?_
        refine m_get X hI mH_0 15 (by decide) q1667 rfl dX6_token_30 ?_
        refine m_iald X hI mH_aaB hr dX6_token_33 (fun v16 hr => ?_)
        refine lv_bipush (v := 10) hx hb dX6_token_34 (by decide) ?_
        refine lv_icmp_ne (tgt := 52) hx hb dX6_token_36 (by decide) (fun c9 => ?_) (fun c9 => ?_)
        · replace hr := gIf_f c9 hr
          exact w_X6_token_J52 X hr hI (lv_sub hl [0] rfl)
        · replace hr := gIf_t c9 hr
          refine lv_aload_n hx hb dX6_token_39 rfl (lv_at hl 0 rfl) ?_
          refine lv_dup hx hb dX6_token_40 rfl ?_
          refine m_get X hI mH_0 15 (by decide) q1667 rfl dX6_token_41 ?_
          refine lv_iconst (v := 1) hx hb dX6_token_44 (by decide) ?_
          refine lv_iadd hx hb dX6_token_45 ?_
          refine m_put X hI mH_0 15 (by decide) q1667 rfl (by decide +kernel) (Nat.le_of_ble_eq_true rfl) rfl mH_iA dX6_token_46 (fun H locs hI => ?_)
          refine lv_goto (tgt := 0) hx hb dX6_token_49 (by decide) ?_
          exact ih hr hI (lv_sub hl [0] rfl)
set_option maxHeartbeats 2000000 in
theorem w_X6_token {l : Launch} {x : gV} {base : Nat} {h : gH} {n : Nat} {o : Nat} {aM : (Nat → Int32)} {aS : (Nat → Int32)} {iU : Int32} {aB : (Nat → Int32)} {iL : Int32} {iE : Int32} {iP : Int32} {aR : (Nat → Int32)} {iW : Int32} {iT : Int32} {aT : (Nat → Int32)} {aC : (Nat → Int32)} {aH : (Nat → Int32)} {aE : (Nat → Int32)} {aQ : (Nat → Int32)} {iA : Int32} {iY : Int32} {iF : Int32} {iV : Int32} {aK : (Nat → Int32)} {res : Int32 × Int32 × Int32 × Int32} (hr : f_X6_token aB iL iA iY iF iV = some res) : gM l yX6_token (ws_ yX6_token cX6_token 1 none) rm_X6_token x base [.ref o] (mH h o aM aS iU aB iL iE iP aR iW iT aT aC aH aE aQ iA iY iF iV aK) n none (mH h o aM aS iU aB iL iE iP aR iW iT aT aC aH aE aQ res.1 res.2.1 res.2.2.1 res.2.2.2 aK) n 0 0 := by
  refine g_met (cc := cX6_token) (nL := 1) (ret := none) (by decide) (Nat.le_of_ble_eq_true rfl) (fun p e s m below meth c ls X hnm hl hI => ?_)
  have hl : lv_has ls 1 [(0, .ref o)] := hl
  have hx := X.1
  have hb := X.2.1
  unfold f_X6_token at hr
  exact w_X6_token_L0 X gN hr hI (lv_sub hl [0] rfl)
abbrev rm_X6_begin : Room := { frames := 2, cells := 0, slots := 0, locals := 40 }
theorem hd_X6_begin : yX6_begin.cls = RX6 ∧ yX6_begin.cls ≠ "java/lang/invoke/MethodHandle" ∧ yX6_begin.cls ≠ "java/lang/invoke/VarHandle" ∧ (parseMethodDescriptor yX6_begin.desc).map (fun d => d.parameters.length) = some 0 := by decide +kernel
set_option maxHeartbeats 2000000 in
theorem w_X6_begin {l : Launch} {x : gV} {base : Nat} {h : gH} {n : Nat} {o : Nat} {aM : (Nat → Int32)} {aS : (Nat → Int32)} {iU : Int32} {aB : (Nat → Int32)} {iL : Int32} {iE : Int32} {iP : Int32} {aR : (Nat → Int32)} {iW : Int32} {iT : Int32} {aT : (Nat → Int32)} {aC : (Nat → Int32)} {aH : (Nat → Int32)} {aE : (Nat → Int32)} {aQ : (Nat → Int32)} {iA : Int32} {iY : Int32} {iF : Int32} {iV : Int32} {aK : (Nat → Int32)} {res : Int32 × Int32 × Int32 × Int32 × Int32 × Int32} (hr : f_X6_begin aB iL iE iP iA iY iF iV = some res) : gM l yX6_begin (ws_ yX6_begin cX6_begin 1 none) rm_X6_begin x base [.ref o] (mH h o aM aS iU aB iL iE iP aR iW iT aT aC aH aE aQ iA iY iF iV aK) n none (mH h o aM aS iU aB iL res.1 res.2.1 aR iW iT aT aC aH aE aQ res.2.2.1 res.2.2.2.1 res.2.2.2.2.1 res.2.2.2.2.2 aK) n 0 0 := by
  refine g_met (cc := cX6_begin) (nL := 1) (ret := none) (by decide) (Nat.le_of_ble_eq_true rfl) (fun p e s m below meth c ls X hnm hl hI => ?_)
  have hl : lv_has ls 1 [(0, .ref o)] := hl
  have hx := X.1
  have hb := X.2.1
  unfold f_X6_begin at hr
  refine lv_aload_n hx hb dX6_begin_0 rfl (lv_at hl 0 rfl) ?_
  refine lv_iconst (v := 0) hx hb dX6_begin_1 (by decide) ?_
  refine m_put X hI mH_0 5 (by decide) q1657 rfl (by decide +kernel) (Nat.le_of_ble_eq_true rfl) rfl mH_iE dX6_begin_2 (fun H locs hI => ?_)
  refine lv_aload_n hx hb dX6_begin_5 rfl (lv_at hl 0 rfl) ?_
  refine lv_iconst (v := (-1)) hx hb dX6_begin_6 (by decide) ?_
  refine m_put X hI mH_0 6 (by decide) q1658 rfl (by decide +kernel) (Nat.le_of_ble_eq_true rfl) rfl mH_iP dX6_begin_7 (fun H locs hI => ?_)
  refine lv_aload_n hx hb dX6_begin_10 rfl (lv_at hl 0 rfl) ?_
  refine lv_iconst (v := 0) hx hb dX6_begin_11 (by decide) ?_
  refine m_put X hI mH_0 15 (by decide) q1667 rfl (by decide +kernel) (Nat.le_of_ble_eq_true rfl) rfl mH_iA dX6_begin_12 (fun H locs hI => ?_)
  refine lv_aload_n hx hb dX6_begin_15 rfl (lv_at hl 0 rfl) ?_
  obtain ⟨iA_2, iY_3, iF_4, iV_5, hc1, hr⟩ := gT4_i hr
  refine gRun_v (g_runV X hI (w_X6_token hc1) (g_obj_s mH_0) rfl hl (lw_V q1601 q1603 qs35 q122 q1604) rfl rfl hd_X6_token ⟨Nat.le_of_ble_eq_true rfl, Nat.le_of_ble_eq_true rfl⟩ (as := []) (rest := []) rfl rfl (Nat.le_of_ble_eq_true rfl) ⟨(Nat.le_refl _), (Nat.le_refl _)⟩ dX6_begin_16) (fun H locs hI => ?_)
  have hr := gS_i hr
  subst hr
  exact g_vret X hI (Nat.le_refl _) (Nat.le_refl _) dX6_begin_19
abbrev rm_X6_isWord : Room := { frames := 7, cells := 0, slots := 0, locals := 423 }
theorem hd_X6_isWord : yX6_isWord.cls = RX6 ∧ yX6_isWord.cls ≠ "java/lang/invoke/MethodHandle" ∧ yX6_isWord.cls ≠ "java/lang/invoke/VarHandle" ∧ (parseMethodDescriptor yX6_isWord.desc).map (fun d => d.parameters.length) = some 1 := by decide +kernel
set_option maxHeartbeats 2000000 in
theorem w_X6_isWord_L28 {h : gH} {n : Nat} {o : Nat} {aM : (Nat → Int32)} {aS : (Nat → Int32)} {iU : Int32} {aB : (Nat → Int32)} {iL : Int32} {iE : Int32} {iP : Int32} {aR : (Nat → Int32)} {iW : Int32} {iT : Int32} {aT : (Nat → Int32)} {aC : (Nat → Int32)} {aH : (Nat → Int32)} {aE : (Nat → Int32)} {aQ : (Nat → Int32)} {iA : Int32} {iY : Int32} {iF : Int32} {iV : Int32} {aK : (Nat → Int32)} {z1 : Nat} {res : Int32} (X : gXX x base RX6 cX6_isWord 3 (some .boolean) p l s m args meth c) : ∀ (k : Nat) {z2 : Int32} {H : Heap} {locs : List Loc} {ls : Array Slot}, gL1 (f_X6_isWord_L28 x z1 aB iA iY iF) k z2 = some res → gI x base s.heap (mH h o aM aS iU aB iL iE iP aR iW iT aT aC aH aE aQ iA iY iF iV aK) n H locs → lv_has ls 3 [(0, .ref o), (1, .ref z1), (2, .int z2)] → W p l e rm_X6_isWord s m args below meth c H locs 0 0 (MQ below (gQ x base (some (.int res)) (mH h o aM aS iU aB iL iE iP aR iW iT aT aC aH aE aQ iA iY iF iV aK) n) args s 0 0 (fun q => base ≤ q)) (F0 m 28 ls []) := by
  have hx := X.1
  have hb := X.2.1
  intro k
  induction k with
  | zero =>
    intros
    rename_i hr _ _
    exact nomatch (show (none : Option _) = some _ from hr)
  | succ k ih =>
    intro z2 H locs ls hr hI hl
    replace hr : f_X6_isWord_L28 x z1 aB iA iY iF (gL1 (f_X6_isWord_L28 x z1 aB iA iY iF) k) z2 = some res := hr
    unfold f_X6_isWord_L28 at hr
    refine lv_iload_n hx hb dX6_isWord_28 rfl (lv_at hl 2 rfl) ?_
    refine lv_aload_n hx hb dX6_isWord_29 rfl (lv_at hl 1 rfl) ?_
    obtain ⟨v4, hc3, hr⟩ := gB_i hr
    refine gRun_i (g_runLen X hI hl hc3 q1595 (rest := [.int z2]) rfl (Nat.le_of_ble_eq_true rfl) ⟨Nat.le_of_ble_eq_true rfl, Nat.le_of_ble_eq_true rfl⟩ ⟨(Nat.le_refl _), (Nat.le_refl _)⟩ dX6_isWord_30) (fun H locs hI => ?_)
    refine lv_icmp_ge (tgt := 63) hx hb dX6_isWord_33 (by decide) (fun c9 => ?_) (fun c9 => ?_)
    · replace hr := gIf_t c9 hr
      refine lv_iconst (v := 1) hx hb dX6_isWord_63 (by decide) ?_
      have hr := gS_i hr
      subst hr
      exact g_iret X hI (g_narZ (Or.inr rfl)) (Nat.le_refl _) (Nat.le_refl _) dX6_isWord_64
    · replace hr := gIf_f c9 hr
      refine lv_aload_n hx hb dX6_isWord_36 rfl (lv_at hl 0 rfl) ?_
      refine m_get X hI mH_0 3 (by decide) q1655 rfl dX6_isWord_37 ?_
      refine lv_aload_n hx hb dX6_isWord_40 rfl (lv_at hl 0 rfl) ?_
      refine m_get X hI mH_0 17 (by decide) q1669 rfl dX6_isWord_41 ?_
      refine lv_iload_n hx hb dX6_isWord_44 rfl (lv_at hl 2 rfl) ?_
      refine lv_iadd hx hb dX6_isWord_45 ?_
      refine m_iald X hI mH_aaB hr dX6_isWord_46 (fun v5 hr => ?_)
      refine lv_aload_n hx hb dX6_isWord_47 rfl (lv_at hl 1 rfl) ?_
      refine lv_iload_n hx hb dX6_isWord_48 rfl (lv_at hl 2 rfl) ?_
      obtain ⟨v7, hc6, hr⟩ := gB_i hr
      refine gRun_i (g_runAt X hI hl hc6 q1596 (rest := [.int v5]) rfl (Nat.le_of_ble_eq_true rfl) ⟨Nat.le_of_ble_eq_true rfl, Nat.le_of_ble_eq_true rfl⟩ ⟨(Nat.le_refl _), (Nat.le_refl _)⟩ dX6_isWord_49) (fun H locs hI => ?_)
      refine lv_icmp_eq (tgt := 57) hx hb dX6_isWord_52 (by decide) (fun c9 => ?_) (fun c9 => ?_)
      · replace hr := gIf_t c9 hr
        refine lv_iinc (v := (z2 + (1 : Int32))) (lv' := [(2, .int (z2 + (1 : Int32))), (0, .ref o), (1, .ref z1)]) hx hb dX6_isWord_57 hl (k := 2) rfl (g_inc (by decide)) (by decide) rfl (fun ls hl => ?_)
        refine lv_goto (tgt := 28) hx hb dX6_isWord_60 (by decide) ?_
        exact ih hr hI (lv_sub hl [1, 2, 0] rfl)
      · replace hr := gIf_f c9 hr
        refine lv_iconst (v := 0) hx hb dX6_isWord_55 (by decide) ?_
        have hr := gS_i hr
        subst hr
        exact g_iret X hI (g_narZ (Or.inl rfl)) (Nat.le_refl _) (Nat.le_refl _) dX6_isWord_56
set_option maxHeartbeats 2000000 in
theorem w_X6_isWord {l : Launch} {x : gV} {base : Nat} {z1 : Nat} {h : gH} {n : Nat} {o : Nat} {aM : (Nat → Int32)} {aS : (Nat → Int32)} {iU : Int32} {aB : (Nat → Int32)} {iL : Int32} {iE : Int32} {iP : Int32} {aR : (Nat → Int32)} {iW : Int32} {iT : Int32} {aT : (Nat → Int32)} {aC : (Nat → Int32)} {aH : (Nat → Int32)} {aE : (Nat → Int32)} {aQ : (Nat → Int32)} {iA : Int32} {iY : Int32} {iF : Int32} {iV : Int32} {aK : (Nat → Int32)} {res : Int32} (hr : f_X6_isWord x z1 aB iA iY iF = some res) : gM l yX6_isWord (ws_ yX6_isWord cX6_isWord 3 (some .boolean)) rm_X6_isWord x base [.ref o, .ref z1] (mH h o aM aS iU aB iL iE iP aR iW iT aT aC aH aE aQ iA iY iF iV aK) n (some (.int res)) (mH h o aM aS iU aB iL iE iP aR iW iT aT aC aH aE aQ iA iY iF iV aK) n 0 0 := by
  refine g_met (cc := cX6_isWord) (nL := 3) (ret := (some .boolean)) (by decide) (Nat.le_of_ble_eq_true rfl) (fun p e s m below meth c ls X hnm hl hI => ?_)
  have hl : lv_has ls 3 [(0, .ref o), (1, .ref z1)] := hl
  have hx := X.1
  have hb := X.2.1
  unfold f_X6_isWord at hr
  refine lv_aload_n hx hb dX6_isWord_0 rfl (lv_at hl 0 rfl) ?_
  refine m_get X hI mH_0 16 (by decide) q1668 rfl dX6_isWord_1 ?_
  refine lv_iconst (v := 1) hx hb dX6_isWord_4 (by decide) ?_
  refine lv_icmp_ne (tgt := 24) hx hb dX6_isWord_5 (by decide) (fun c9 => ?_) (fun c9 => ?_)
  · replace hr := gIf_f c9 hr
    refine lv_iconst (v := 0) hx hb dX6_isWord_24 (by decide) ?_
    have hr := gS_i hr
    subst hr
    exact g_iret X hI (g_narZ (Or.inl rfl)) (Nat.le_refl _) (Nat.le_refl _) dX6_isWord_25
  · replace hr := gIf_t c9 hr
    refine lv_aload_n hx hb dX6_isWord_8 rfl (lv_at hl 0 rfl) ?_
    refine m_get X hI mH_0 15 (by decide) q1667 rfl dX6_isWord_9 ?_
    refine lv_aload_n hx hb dX6_isWord_12 rfl (lv_at hl 0 rfl) ?_
    refine m_get X hI mH_0 17 (by decide) q1669 rfl dX6_isWord_13 ?_
    refine lv_isub hx hb dX6_isWord_16 ?_
    refine lv_aload_n hx hb dX6_isWord_17 rfl (lv_at hl 1 rfl) ?_
    obtain ⟨v2, hc1, hr⟩ := gB_i hr
    refine gRun_i (g_runLen X hI hl hc1 q1595 (rest := [.int (iA - iF)]) rfl (Nat.le_of_ble_eq_true rfl) ⟨Nat.le_of_ble_eq_true rfl, Nat.le_of_ble_eq_true rfl⟩ ⟨(Nat.le_refl _), (Nat.le_refl _)⟩ dX6_isWord_18) (fun H locs hI => ?_)
    refine lv_icmp_eq (tgt := 26) hx hb dX6_isWord_21 (by decide) (fun c9 => ?_) (fun c9 => ?_)
    · replace hr := gIf_t c9 hr
      refine lv_iconst (v := 0) hx hb dX6_isWord_26 (by decide) ?_
      refine lv_istore_n (lv' := [(2, .int (0 : Int32)), (0, .ref o), (1, .ref z1)]) hx hb dX6_isWord_27 rfl hl (by decide) rfl (fun ls hl => ?_)
      exact w_X6_isWord_L28 X gN hr hI (lv_sub hl [1, 2, 0] rfl)
    · replace hr := gIf_f c9 hr
      refine lv_iconst (v := 0) hx hb dX6_isWord_24 (by decide) ?_
      have hr := gS_i hr
      subst hr
      exact g_iret X hI (g_narZ (Or.inl rfl)) (Nat.le_refl _) (Nat.le_refl _) dX6_isWord_25
abbrev rm_X6_wrong : Room := { frames := 0, cells := 0, slots := 0, locals := 0 }
theorem hd_X6_wrong : yX6_wrong.cls = RX6 ∧ yX6_wrong.cls ≠ "java/lang/invoke/MethodHandle" ∧ yX6_wrong.cls ≠ "java/lang/invoke/VarHandle" ∧ (parseMethodDescriptor yX6_wrong.desc).map (fun d => d.parameters.length) = some 1 := by decide +kernel
set_option maxHeartbeats 2000000 in
theorem w_X6_wrong {l : Launch} {x : gV} {base : Nat} {z1 : Int32} {h : gH} {n : Nat} {o : Nat} {aM : (Nat → Int32)} {aS : (Nat → Int32)} {iU : Int32} {aB : (Nat → Int32)} {iL : Int32} {iE : Int32} {iP : Int32} {aR : (Nat → Int32)} {iW : Int32} {iT : Int32} {aT : (Nat → Int32)} {aC : (Nat → Int32)} {aH : (Nat → Int32)} {aE : (Nat → Int32)} {aQ : (Nat → Int32)} {iA : Int32} {iY : Int32} {iF : Int32} {iV : Int32} {aK : (Nat → Int32)} {res : Int32 × Int32 × Int32} (hr : f_X6_wrong z1 iE iP iF = some res) : gM l yX6_wrong (ws_ yX6_wrong cX6_wrong 2 (some .boolean)) rm_X6_wrong x base [.ref o, .int z1] (mH h o aM aS iU aB iL iE iP aR iW iT aT aC aH aE aQ iA iY iF iV aK) n (some (.int res.1)) (mH h o aM aS iU aB iL res.2.1 res.2.2 aR iW iT aT aC aH aE aQ iA iY iF iV aK) n 0 0 := by
  refine g_met (cc := cX6_wrong) (nL := 2) (ret := (some .boolean)) (by decide) (Nat.le_of_ble_eq_true rfl) (fun p e s m below meth c ls X hnm hl hI => ?_)
  have hl : lv_has ls 2 [(0, .ref o), (1, .int z1)] := hl
  have hx := X.1
  have hb := X.2.1
  unfold f_X6_wrong at hr
  refine lv_aload_n hx hb dX6_wrong_0 rfl (lv_at hl 0 rfl) ?_
  refine lv_iload_n hx hb dX6_wrong_1 rfl (lv_at hl 1 rfl) ?_
  refine m_put X hI mH_0 5 (by decide) q1657 rfl (by decide +kernel) (Nat.le_of_ble_eq_true rfl) rfl mH_iE dX6_wrong_2 (fun H locs hI => ?_)
  refine lv_aload_n hx hb dX6_wrong_5 rfl (lv_at hl 0 rfl) ?_
  refine lv_aload_n hx hb dX6_wrong_6 rfl (lv_at hl 0 rfl) ?_
  refine m_get X hI mH_0 17 (by decide) q1669 rfl dX6_wrong_7 ?_
  refine m_put X hI mH_0 6 (by decide) q1658 rfl (by decide +kernel) (Nat.le_of_ble_eq_true rfl) rfl mH_iP dX6_wrong_10 (fun H locs hI => ?_)
  refine lv_iconst (v := 0) hx hb dX6_wrong_13 (by decide) ?_
  have hr := gS_i hr
  subst hr
  exact g_iret X hI (g_narZ (Or.inl rfl)) (Nat.le_refl _) (Nat.le_refl _) dX6_wrong_14
abbrev rm_X6_in : Room := { frames := 0, cells := 0, slots := 0, locals := 0 }
theorem hd_X6_in : yX6_in.cls ≠ "java/lang/invoke/MethodHandle" ∧ yX6_in.cls ≠ "java/lang/invoke/VarHandle" ∧ (parseMethodDescriptor yX6_in.desc).map (fun d => d.parameters.length) = some 3 := by decide +kernel
set_option maxHeartbeats 2000000 in
theorem w_X6_in {l : Launch} {x : gV} {base : Nat} {z0 : Int32} {z1 : Int32} {z2 : Int32} {h : gH} {n : Nat} {o : Nat} {aM : (Nat → Int32)} {aS : (Nat → Int32)} {iU : Int32} {aB : (Nat → Int32)} {iL : Int32} {iE : Int32} {iP : Int32} {aR : (Nat → Int32)} {iW : Int32} {iT : Int32} {aT : (Nat → Int32)} {aC : (Nat → Int32)} {aH : (Nat → Int32)} {aE : (Nat → Int32)} {aQ : (Nat → Int32)} {iA : Int32} {iY : Int32} {iF : Int32} {iV : Int32} {aK : (Nat → Int32)} {res : Int32} (hr : f_X6_in z0 z1 z2 = some res) : gM l yX6_in (ws_ yX6_in cX6_in 3 (some .boolean)) rm_X6_in x base [.int z0, .int z1, .int z2] (mH h o aM aS iU aB iL iE iP aR iW iT aT aC aH aE aQ iA iY iF iV aK) n (some (.int res)) (mH h o aM aS iU aB iL iE iP aR iW iT aT aC aH aE aQ iA iY iF iV aK) n 0 0 := by
  refine g_met (cc := cX6_in) (nL := 3) (ret := (some .boolean)) (by decide) (Nat.le_of_ble_eq_true rfl) (fun p e s m below meth c ls X hnm hl hI => ?_)
  have hl : lv_has ls 3 [(0, .int z0), (1, .int z1), (2, .int z2)] := hl
  have hx := X.1
  have hb := X.2.1
  unfold f_X6_in at hr
  refine lv_iload_n hx hb dX6_in_0 rfl (lv_at hl 0 rfl) ?_
  refine lv_iload_n hx hb dX6_in_1 rfl (lv_at hl 1 rfl) ?_
  refine lv_icmp_lt (tgt := 14) hx hb dX6_in_2 (by decide) (fun c9 => ?_) (fun c9 => ?_)
  · replace hr := gIf_t c9 hr
    refine lv_iconst (v := 0) hx hb dX6_in_14 (by decide) ?_
    have hr := gS_i hr
    subst hr
    exact g_iret X hI (g_narZ (Or.inl rfl)) (Nat.le_refl _) (Nat.le_refl _) dX6_in_15
  · replace hr := gIf_f c9 hr
    refine lv_iload_n hx hb dX6_in_5 rfl (lv_at hl 0 rfl) ?_
    refine lv_iload_n hx hb dX6_in_6 rfl (lv_at hl 2 rfl) ?_
    refine lv_icmp_gt (tgt := 14) hx hb dX6_in_7 (by decide) (fun c9 => ?_) (fun c9 => ?_)
    · replace hr := gIf_t c9 hr
      refine lv_iconst (v := 0) hx hb dX6_in_14 (by decide) ?_
      have hr := gS_i hr
      subst hr
      exact g_iret X hI (g_narZ (Or.inl rfl)) (Nat.le_refl _) (Nat.le_refl _) dX6_in_15
    · replace hr := gIf_f c9 hr
      refine lv_iconst (v := 1) hx hb dX6_in_10 (by decide) ?_
      refine lv_goto (tgt := 15) hx hb dX6_in_11 (by decide) ?_
      have hr := gS_i hr
      subst hr
      exact g_iret X hI (g_narZ (Or.inr rfl)) (Nat.le_refl _) (Nat.le_refl _) dX6_in_15
abbrev rm_X6_parseRanged : Room := { frames := 2, cells := 0, slots := 0, locals := 40 }
theorem hd_X6_parseRanged : yX6_parseRanged.cls = RX6 ∧ yX6_parseRanged.cls ≠ "java/lang/invoke/MethodHandle" ∧ yX6_parseRanged.cls ≠ "java/lang/invoke/VarHandle" ∧ (parseMethodDescriptor yX6_parseRanged.desc).map (fun d => d.parameters.length) = some 3 := by decide +kernel
set_option maxHeartbeats 2000000 in
theorem w_X6_parseRanged {l : Launch} {x : gV} {base : Nat} {z1 : Int32} {z2 : Int32} {z3 : Int32} {h : gH} {n : Nat} {o : Nat} {aM : (Nat → Int32)} {aS : (Nat → Int32)} {iU : Int32} {aB : (Nat → Int32)} {iL : Int32} {iE : Int32} {iP : Int32} {aR : (Nat → Int32)} {iW : Int32} {iT : Int32} {aT : (Nat → Int32)} {aC : (Nat → Int32)} {aH : (Nat → Int32)} {aE : (Nat → Int32)} {aQ : (Nat → Int32)} {iA : Int32} {iY : Int32} {iF : Int32} {iV : Int32} {aK : (Nat → Int32)} {res : Int32 × (Nat → Int32) × Int32 × Int32 × Int32 × Int32 × Int32 × Int32} (hr : f_X6_parseRanged z1 z2 z3 aM aB iL iE iP iA iY iF iV = some res) : gM l yX6_parseRanged (ws_ yX6_parseRanged cX6_parseRanged 4 (some .boolean)) rm_X6_parseRanged x base [.ref o, .int z1, .int z2, .int z3] (mH h o aM aS iU aB iL iE iP aR iW iT aT aC aH aE aQ iA iY iF iV aK) n (some (.int res.1)) (mH h o res.2.1 aS iU aB iL res.2.2.1 res.2.2.2.1 aR iW iT aT aC aH aE aQ res.2.2.2.2.1 res.2.2.2.2.2.1 res.2.2.2.2.2.2.1 res.2.2.2.2.2.2.2 aK) n 0 0 := by
  refine g_met (cc := cX6_parseRanged) (nL := 4) (ret := (some .boolean)) (by decide) (Nat.le_of_ble_eq_true rfl) (fun p e s m below meth c ls X hnm hl hI => ?_)
  have hl : lv_has ls 4 [(0, .ref o), (1, .int z1), (2, .int z2), (3, .int z3)] := hl
  have hx := X.1
  have hb := X.2.1
  unfold f_X6_parseRanged at hr
  refine lv_aload_n hx hb dX6_parseRanged_0 rfl (lv_at hl 0 rfl) ?_
  refine m_get X hI mH_0 16 (by decide) q1668 rfl dX6_parseRanged_1 ?_
  refine lv_iconst (v := 2) hx hb dX6_parseRanged_4 (by decide) ?_
  refine lv_icmp_eq (tgt := 14) hx hb dX6_parseRanged_5 (by decide) (fun c9 => ?_) (fun c9 => ?_)
  · replace hr := gIf_t c9 hr
    refine lv_aload_n hx hb dX6_parseRanged_14 rfl (lv_at hl 0 rfl) ?_
    refine m_get X hI mH_0 18 (by decide) q1670 rfl dX6_parseRanged_15 ?_
    refine lv_iload_n hx hb dX6_parseRanged_18 rfl (lv_at hl 2 rfl) ?_
    refine lv_iload_n hx hb dX6_parseRanged_19 rfl (lv_at hl 3 rfl) ?_
    obtain ⟨v2, hc1, hr⟩ := gB_i hr
    refine gRun_i (g_runS X hI (w_X6_in hc1) hl (lw_S q1628 q1629 q122 q1630) rfl rfl hd_X6_in ⟨Nat.le_of_ble_eq_true rfl, Nat.le_of_ble_eq_true rfl⟩ (as := [.int iV, .int z2, .int z3]) (rest := []) rfl rfl (Nat.le_of_ble_eq_true rfl) ⟨(Nat.le_refl _), (Nat.le_refl _)⟩ dX6_parseRanged_20) (fun H locs hI => ?_)
    refine lv_if_ne (tgt := 32) hx hb dX6_parseRanged_23 (by decide) (fun c9 => ?_) (fun c9 => ?_)
    · replace hr := gIf_f c9 hr
      refine lv_aload_n hx hb dX6_parseRanged_32 rfl (lv_at hl 0 rfl) ?_
      refine m_get X hI mH_0 0 (by decide) q1652 rfl dX6_parseRanged_33 ?_
      refine lv_iload_n hx hb dX6_parseRanged_36 rfl (lv_at hl 1 rfl) ?_
      refine lv_aload_n hx hb dX6_parseRanged_37 rfl (lv_at hl 0 rfl) ?_
      refine m_get X hI mH_0 18 (by decide) q1670 rfl dX6_parseRanged_38 ?_
      refine m_iast X hI mH_aaM mH_saM hr dX6_parseRanged_41 (fun aM_3 H locs hI hr => ?_)
      refine lv_aload_n hx hb dX6_parseRanged_42 rfl (lv_at hl 0 rfl) ?_
      obtain ⟨iA_5, iY_6, iF_7, iV_8, hc4, hr⟩ := gT4_i hr
      refine gRun_v (g_runV X hI (w_X6_token hc4) (g_obj_s mH_0) rfl hl (lw_V q1601 q1603 qs35 q122 q1604) rfl rfl hd_X6_token ⟨Nat.le_of_ble_eq_true rfl, Nat.le_of_ble_eq_true rfl⟩ (as := []) (rest := []) rfl rfl (Nat.le_of_ble_eq_true rfl) ⟨(Nat.le_refl _), (Nat.le_refl _)⟩ dX6_parseRanged_43) (fun H locs hI => ?_)
      refine lv_iconst (v := 1) hx hb dX6_parseRanged_46 (by decide) ?_
      have hr := gS_i hr
      subst hr
      exact g_iret X hI (g_narZ (Or.inr rfl)) (Nat.le_refl _) (Nat.le_refl _) dX6_parseRanged_47
    · replace hr := gIf_t c9 hr
      refine lv_aload_n hx hb dX6_parseRanged_26 rfl (lv_at hl 0 rfl) ?_
      refine lv_iconst (v := 2) hx hb dX6_parseRanged_27 (by decide) ?_
      obtain ⟨v10, iE_11, iP_12, hc9, hr⟩ := gT3_i hr
      refine gRun_i (g_runV X hI (w_X6_wrong hc9) (g_obj_s mH_0) rfl hl (lw_V q1620 q1622 qs38 q122 q1623) rfl rfl hd_X6_wrong ⟨Nat.le_of_ble_eq_true rfl, Nat.le_of_ble_eq_true rfl⟩ (as := [.int (2 : Int32)]) (rest := []) rfl rfl (Nat.le_of_ble_eq_true rfl) ⟨(Nat.le_refl _), (Nat.le_refl _)⟩ dX6_parseRanged_28) (fun H locs hI => ?_)
      obtain ⟨c9, hr⟩ := gIf_o hr
      have hr := gS_i hr
      subst hr
      exact g_iret X hI (g_narZ c9) (Nat.le_refl _) (Nat.le_refl _) dX6_parseRanged_31
  · replace hr := gIf_f c9 hr
    refine lv_aload_n hx hb dX6_parseRanged_8 rfl (lv_at hl 0 rfl) ?_
    refine lv_iconst (v := 1) hx hb dX6_parseRanged_9 (by decide) ?_
    obtain ⟨v14, iE_15, iP_16, hc13, hr⟩ := gT3_i hr
    refine gRun_i (g_runV X hI (w_X6_wrong hc13) (g_obj_s mH_0) rfl hl (lw_V q1620 q1622 qs38 q122 q1623) rfl rfl hd_X6_wrong ⟨Nat.le_of_ble_eq_true rfl, Nat.le_of_ble_eq_true rfl⟩ (as := [.int (1 : Int32)]) (rest := []) rfl rfl (Nat.le_of_ble_eq_true rfl) ⟨(Nat.le_refl _), (Nat.le_refl _)⟩ dX6_parseRanged_10) (fun H locs hI => ?_)
    obtain ⟨c9, hr⟩ := gIf_o hr
    have hr := gS_i hr
    subst hr
    exact g_iret X hI (g_narZ c9) (Nat.le_refl _) (Nat.le_refl _) dX6_parseRanged_13
abbrev rm_X6_semicolon : Room := { frames := 2, cells := 0, slots := 0, locals := 40 }
theorem hd_X6_semicolon : yX6_semicolon.cls = RX6 ∧ yX6_semicolon.cls ≠ "java/lang/invoke/MethodHandle" ∧ yX6_semicolon.cls ≠ "java/lang/invoke/VarHandle" ∧ (parseMethodDescriptor yX6_semicolon.desc).map (fun d => d.parameters.length) = some 0 := by decide +kernel
set_option maxHeartbeats 2000000 in
theorem w_X6_semicolon {l : Launch} {x : gV} {base : Nat} {h : gH} {n : Nat} {o : Nat} {aM : (Nat → Int32)} {aS : (Nat → Int32)} {iU : Int32} {aB : (Nat → Int32)} {iL : Int32} {iE : Int32} {iP : Int32} {aR : (Nat → Int32)} {iW : Int32} {iT : Int32} {aT : (Nat → Int32)} {aC : (Nat → Int32)} {aH : (Nat → Int32)} {aE : (Nat → Int32)} {aQ : (Nat → Int32)} {iA : Int32} {iY : Int32} {iF : Int32} {iV : Int32} {aK : (Nat → Int32)} {res : Int32 × Int32 × Int32 × Int32 × Int32 × Int32 × Int32} (hr : f_X6_semicolon aB iL iE iP iA iY iF iV = some res) : gM l yX6_semicolon (ws_ yX6_semicolon cX6_semicolon 1 (some .boolean)) rm_X6_semicolon x base [.ref o] (mH h o aM aS iU aB iL iE iP aR iW iT aT aC aH aE aQ iA iY iF iV aK) n (some (.int res.1)) (mH h o aM aS iU aB iL res.2.1 res.2.2.1 aR iW iT aT aC aH aE aQ res.2.2.2.1 res.2.2.2.2.1 res.2.2.2.2.2.1 res.2.2.2.2.2.2 aK) n 0 0 := by
  refine g_met (cc := cX6_semicolon) (nL := 1) (ret := (some .boolean)) (by decide) (Nat.le_of_ble_eq_true rfl) (fun p e s m below meth c ls X hnm hl hI => ?_)
  have hl : lv_has ls 1 [(0, .ref o)] := hl
  have hx := X.1
  have hb := X.2.1
  unfold f_X6_semicolon at hr
  refine lv_aload_n hx hb dX6_semicolon_0 rfl (lv_at hl 0 rfl) ?_
  refine m_get X hI mH_0 16 (by decide) q1668 rfl dX6_semicolon_1 ?_
  refine lv_iconst (v := 3) hx hb dX6_semicolon_4 (by decide) ?_
  refine lv_icmp_eq (tgt := 14) hx hb dX6_semicolon_5 (by decide) (fun c9 => ?_) (fun c9 => ?_)
  · replace hr := gIf_t c9 hr
    refine lv_aload_n hx hb dX6_semicolon_14 rfl (lv_at hl 0 rfl) ?_
    obtain ⟨iA_2, iY_3, iF_4, iV_5, hc1, hr⟩ := gT4_i hr
    refine gRun_v (g_runV X hI (w_X6_token hc1) (g_obj_s mH_0) rfl hl (lw_V q1601 q1603 qs35 q122 q1604) rfl rfl hd_X6_token ⟨Nat.le_of_ble_eq_true rfl, Nat.le_of_ble_eq_true rfl⟩ (as := []) (rest := []) rfl rfl (Nat.le_of_ble_eq_true rfl) ⟨(Nat.le_refl _), (Nat.le_refl _)⟩ dX6_semicolon_15) (fun H locs hI => ?_)
    refine lv_iconst (v := 1) hx hb dX6_semicolon_18 (by decide) ?_
    have hr := gS_i hr
    subst hr
    exact g_iret X hI (g_narZ (Or.inr rfl)) (Nat.le_refl _) (Nat.le_refl _) dX6_semicolon_19
  · replace hr := gIf_f c9 hr
    refine lv_aload_n hx hb dX6_semicolon_8 rfl (lv_at hl 0 rfl) ?_
    refine lv_iconst (v := 1) hx hb dX6_semicolon_9 (by decide) ?_
    obtain ⟨v7, iE_8, iP_9, hc6, hr⟩ := gT3_i hr
    refine gRun_i (g_runV X hI (w_X6_wrong hc6) (g_obj_s mH_0) rfl hl (lw_V q1620 q1622 qs38 q122 q1623) rfl rfl hd_X6_wrong ⟨Nat.le_of_ble_eq_true rfl, Nat.le_of_ble_eq_true rfl⟩ (as := [.int (1 : Int32)]) (rest := []) rfl rfl (Nat.le_of_ble_eq_true rfl) ⟨(Nat.le_refl _), (Nat.le_refl _)⟩ dX6_semicolon_10) (fun H locs hI => ?_)
    obtain ⟨c9, hr⟩ := gIf_o hr
    have hr := gS_i hr
    subst hr
    exact g_iret X hI (g_narZ c9) (Nat.le_refl _) (Nat.le_refl _) dX6_semicolon_13
abbrev rm_X6_clear : Room := { frames := 0, cells := 0, slots := 0, locals := 0 }
theorem hd_X6_clear : yX6_clear.cls = RX6 ∧ yX6_clear.cls ≠ "java/lang/invoke/MethodHandle" ∧ yX6_clear.cls ≠ "java/lang/invoke/VarHandle" ∧ (parseMethodDescriptor yX6_clear.desc).map (fun d => d.parameters.length) = some 0 := by decide +kernel
set_option maxHeartbeats 2000000 in
theorem w_X6_clear_L2 {h : gH} {n : Nat} {o : Nat} {aS : (Nat → Int32)} {iU : Int32} {aB : (Nat → Int32)} {iL : Int32} {iE : Int32} {iP : Int32} {aR : (Nat → Int32)} {iW : Int32} {iT : Int32} {aT : (Nat → Int32)} {aC : (Nat → Int32)} {aH : (Nat → Int32)} {aE : (Nat → Int32)} {aQ : (Nat → Int32)} {iA : Int32} {iY : Int32} {iF : Int32} {iV : Int32} {aK : (Nat → Int32)} {res : (Nat → Int32)} (X : gXX x base RX6 cX6_clear 2 none p l s m args meth c) : ∀ (k : Nat) {z1 : Int32} {aM : (Nat → Int32)} {H : Heap} {locs : List Loc} {ls : Array Slot}, gL2 f_X6_clear_L2 k z1 aM = some res → gI x base s.heap (mH h o aM aS iU aB iL iE iP aR iW iT aT aC aH aE aQ iA iY iF iV aK) n H locs → lv_has ls 2 [(0, .ref o), (1, .int z1)] → W p l e rm_X6_clear s m args below meth c H locs 0 0 (MQ below (gQ x base none (mH h o res aS iU aB iL iE iP aR iW iT aT aC aH aE aQ iA iY iF iV aK) n) args s 0 0 (fun q => base ≤ q)) (F0 m 2 ls []) := by
  have hx := X.1
  have hb := X.2.1
  intro k
  induction k with
  | zero =>
    intros
    rename_i hr _ _
    exact nomatch (show (none : Option _) = some _ from hr)
  | succ k ih =>
    intro z1 aM H locs ls hr hI hl
    replace hr : f_X6_clear_L2 (gL2 f_X6_clear_L2 k) z1 aM = some res := hr
    unfold f_X6_clear_L2 at hr
    refine lv_iload_n hx hb dX6_clear_2 rfl (lv_at hl 1 rfl) ?_
    refine lv_aload_n hx hb dX6_clear_3 rfl (lv_at hl 0 rfl) ?_
    refine m_get X hI mH_0 0 (by decide) q1652 rfl dX6_clear_4 ?_
    refine lv_iconst (v := 0) hx hb dX6_clear_7 (by decide) ?_
    refine m_iald X hI mH_aaM hr dX6_clear_8 (fun v1 hr => ?_)
    refine lv_icmp_ge (tgt := 27) hx hb dX6_clear_9 (by decide) (fun c9 => ?_) (fun c9 => ?_)
    · replace hr := gIf_t c9 hr
      have hr := gS_i hr
      subst hr
      exact g_vret X hI (Nat.le_refl _) (Nat.le_refl _) dX6_clear_27
    · replace hr := gIf_f c9 hr
      refine lv_aload_n hx hb dX6_clear_12 rfl (lv_at hl 0 rfl) ?_
      refine m_get X hI mH_0 0 (by decide) q1652 rfl dX6_clear_13 ?_
      refine lv_iconst (v := 2) hx hb dX6_clear_16 (by decide) ?_
      refine lv_iload_n hx hb dX6_clear_17 rfl (lv_at hl 1 rfl) ?_
      refine lv_iadd hx hb dX6_clear_18 ?_
      refine lv_iconst (v := (-1)) hx hb dX6_clear_19 (by decide) ?_
      refine m_iast X hI mH_aaM mH_saM hr dX6_clear_20 (fun aM_2 H locs hI hr => ?_)
      refine lv_iinc (v := (z1 + (1 : Int32))) (lv' := [(1, .int (z1 + (1 : Int32))), (0, .ref o)]) hx hb dX6_clear_21 hl (k := 1) rfl (g_inc (by decide)) (by decide) rfl (fun ls hl => ?_)
      refine lv_goto (tgt := 2) hx hb dX6_clear_24 (by decide) ?_
      exact ih hr hI (lv_sub hl [1, 0] rfl)
set_option maxHeartbeats 2000000 in
theorem w_X6_clear {l : Launch} {x : gV} {base : Nat} {h : gH} {n : Nat} {o : Nat} {aM : (Nat → Int32)} {aS : (Nat → Int32)} {iU : Int32} {aB : (Nat → Int32)} {iL : Int32} {iE : Int32} {iP : Int32} {aR : (Nat → Int32)} {iW : Int32} {iT : Int32} {aT : (Nat → Int32)} {aC : (Nat → Int32)} {aH : (Nat → Int32)} {aE : (Nat → Int32)} {aQ : (Nat → Int32)} {iA : Int32} {iY : Int32} {iF : Int32} {iV : Int32} {aK : (Nat → Int32)} {res : (Nat → Int32)} (hr : f_X6_clear aM = some res) : gM l yX6_clear (ws_ yX6_clear cX6_clear 2 none) rm_X6_clear x base [.ref o] (mH h o aM aS iU aB iL iE iP aR iW iT aT aC aH aE aQ iA iY iF iV aK) n none (mH h o res aS iU aB iL iE iP aR iW iT aT aC aH aE aQ iA iY iF iV aK) n 0 0 := by
  refine g_met (cc := cX6_clear) (nL := 2) (ret := none) (by decide) (Nat.le_of_ble_eq_true rfl) (fun p e s m below meth c ls X hnm hl hI => ?_)
  have hl : lv_has ls 2 [(0, .ref o)] := hl
  have hx := X.1
  have hb := X.2.1
  unfold f_X6_clear at hr
  refine lv_iconst (v := 0) hx hb dX6_clear_0 (by decide) ?_
  refine lv_istore_n (lv' := [(1, .int (0 : Int32)), (0, .ref o)]) hx hb dX6_clear_1 rfl hl (by decide) rfl (fun ls hl => ?_)
  exact w_X6_clear_L2 X gN hr hI (lv_sub hl [1, 0] rfl)
abbrev rm_X6_isShortWord : Room := { frames := 1, cells := 0, slots := 0, locals := 21 }
theorem hd_X6_isShortWord : yX6_isShortWord.cls = RX6 ∧ yX6_isShortWord.cls ≠ "java/lang/invoke/MethodHandle" ∧ yX6_isShortWord.cls ≠ "java/lang/invoke/VarHandle" ∧ (parseMethodDescriptor yX6_isShortWord.desc).map (fun d => d.parameters.length) = some 0 := by decide +kernel
set_option maxHeartbeats 2000000 in
theorem w_X6_isShortWord {l : Launch} {x : gV} {base : Nat} {h : gH} {n : Nat} {o : Nat} {aM : (Nat → Int32)} {aS : (Nat → Int32)} {iU : Int32} {aB : (Nat → Int32)} {iL : Int32} {iE : Int32} {iP : Int32} {aR : (Nat → Int32)} {iW : Int32} {iT : Int32} {aT : (Nat → Int32)} {aC : (Nat → Int32)} {aH : (Nat → Int32)} {aE : (Nat → Int32)} {aQ : (Nat → Int32)} {iA : Int32} {iY : Int32} {iF : Int32} {iV : Int32} {aK : (Nat → Int32)} {res : Int32 × Int32 × Int32} (hr : f_X6_isShortWord iE iP iA iY iF = some res) : gM l yX6_isShortWord (ws_ yX6_isShortWord cX6_isShortWord 1 (some .boolean)) rm_X6_isShortWord x base [.ref o] (mH h o aM aS iU aB iL iE iP aR iW iT aT aC aH aE aQ iA iY iF iV aK) n (some (.int res.1)) (mH h o aM aS iU aB iL res.2.1 res.2.2 aR iW iT aT aC aH aE aQ iA iY iF iV aK) n 0 0 := by
  refine g_met (cc := cX6_isShortWord) (nL := 1) (ret := (some .boolean)) (by decide) (Nat.le_of_ble_eq_true rfl) (fun p e s m below meth c ls X hnm hl hI => ?_)
  have hl : lv_has ls 1 [(0, .ref o)] := hl
  have hx := X.1
  have hb := X.2.1
  unfold f_X6_isShortWord at hr
  refine lv_aload_n hx hb dX6_isShortWord_0 rfl (lv_at hl 0 rfl) ?_
  refine m_get X hI mH_0 16 (by decide) q1668 rfl dX6_isShortWord_1 ?_
  refine lv_iconst (v := 1) hx hb dX6_isShortWord_4 (by decide) ?_
  refine lv_icmp_eq (tgt := 14) hx hb dX6_isShortWord_5 (by decide) (fun c9 => ?_) (fun c9 => ?_)
  · replace hr := gIf_t c9 hr
    refine lv_aload_n hx hb dX6_isShortWord_14 rfl (lv_at hl 0 rfl) ?_
    refine m_get X hI mH_0 15 (by decide) q1667 rfl dX6_isShortWord_15 ?_
    refine lv_aload_n hx hb dX6_isShortWord_18 rfl (lv_at hl 0 rfl) ?_
    refine m_get X hI mH_0 17 (by decide) q1669 rfl dX6_isShortWord_19 ?_
    refine lv_isub hx hb dX6_isShortWord_22 ?_
    refine lv_bipush (v := 6) hx hb dX6_isShortWord_23 (by decide) ?_
    refine lv_icmp_le (tgt := 36) hx hb dX6_isShortWord_25 (by decide) (fun c9 => ?_) (fun c9 => ?_)
    · replace hr := gIf_t c9 hr
      refine lv_iconst (v := 1) hx hb dX6_isShortWord_36 (by decide) ?_
      refine lv_goto (tgt := 41) hx hb dX6_isShortWord_37 (by decide) ?_
      have hr := gS_i hr
      subst hr
      exact g_iret X hI (g_narZ (Or.inr rfl)) (Nat.le_refl _) (Nat.le_refl _) dX6_isShortWord_41
    · replace hr := gIf_f c9 hr
      refine lv_aload_n hx hb dX6_isShortWord_28 rfl (lv_at hl 0 rfl) ?_
      refine lv_iconst (v := 3) hx hb dX6_isShortWord_29 (by decide) ?_
      obtain ⟨v2, iE_3, iP_4, hc1, hr⟩ := gT3_i hr
      refine gRun_i (g_runV X hI (w_X6_wrong hc1) (g_obj_s mH_0) rfl hl (lw_V q1620 q1622 qs38 q122 q1623) rfl rfl hd_X6_wrong ⟨Nat.le_of_ble_eq_true rfl, Nat.le_of_ble_eq_true rfl⟩ (as := [.int (3 : Int32)]) (rest := []) rfl rfl (Nat.le_of_ble_eq_true rfl) ⟨(Nat.le_refl _), (Nat.le_refl _)⟩ dX6_isShortWord_30) (fun H locs hI => ?_)
      refine lv_if_eq (tgt := 40) hx hb dX6_isShortWord_33 (by decide) (fun c9 => ?_) (fun c9 => ?_)
      · replace hr := gIf_t c9 hr
        refine lv_iconst (v := 0) hx hb dX6_isShortWord_40 (by decide) ?_
        have hr := gS_i hr
        subst hr
        exact g_iret X hI (g_narZ (Or.inl rfl)) (Nat.le_refl _) (Nat.le_refl _) dX6_isShortWord_41
      · replace hr := gIf_f c9 hr
        refine lv_iconst (v := 1) hx hb dX6_isShortWord_36 (by decide) ?_
        refine lv_goto (tgt := 41) hx hb dX6_isShortWord_37 (by decide) ?_
        have hr := gS_i hr
        subst hr
        exact g_iret X hI (g_narZ (Or.inr rfl)) (Nat.le_refl _) (Nat.le_refl _) dX6_isShortWord_41
  · replace hr := gIf_f c9 hr
    refine lv_aload_n hx hb dX6_isShortWord_8 rfl (lv_at hl 0 rfl) ?_
    refine lv_iconst (v := 1) hx hb dX6_isShortWord_9 (by decide) ?_
    obtain ⟨v6, iE_7, iP_8, hc5, hr⟩ := gT3_i hr
    refine gRun_i (g_runV X hI (w_X6_wrong hc5) (g_obj_s mH_0) rfl hl (lw_V q1620 q1622 qs38 q122 q1623) rfl rfl hd_X6_wrong ⟨Nat.le_of_ble_eq_true rfl, Nat.le_of_ble_eq_true rfl⟩ (as := [.int (1 : Int32)]) (rest := []) rfl rfl (Nat.le_of_ble_eq_true rfl) ⟨(Nat.le_refl _), (Nat.le_refl _)⟩ dX6_isShortWord_10) (fun H locs hI => ?_)
    obtain ⟨c9, hr⟩ := gIf_o hr
    have hr := gS_i hr
    subst hr
    exact g_iret X hI (g_narZ c9) (Nat.le_refl _) (Nat.le_refl _) dX6_isShortWord_13
abbrev rm_X6_siblingNamed : Room := { frames := 0, cells := 0, slots := 0, locals := 0 }
theorem hd_X6_siblingNamed : yX6_siblingNamed.cls = RX6 ∧ yX6_siblingNamed.cls ≠ "java/lang/invoke/MethodHandle" ∧ yX6_siblingNamed.cls ≠ "java/lang/invoke/VarHandle" ∧ (parseMethodDescriptor yX6_siblingNamed.desc).map (fun d => d.parameters.length) = some 2 := by decide +kernel
set_option maxHeartbeats 2000000 in
theorem w_X6_siblingNamed_L42 {h : gH} {n : Nat} {o : Nat} {aM : (Nat → Int32)} {aS : (Nat → Int32)} {iU : Int32} {aB : (Nat → Int32)} {iL : Int32} {iE : Int32} {iP : Int32} {aR : (Nat → Int32)} {iW : Int32} {iT : Int32} {aT : (Nat → Int32)} {aC : (Nat → Int32)} {aH : (Nat → Int32)} {aE : (Nat → Int32)} {aQ : (Nat → Int32)} {iA : Int32} {iY : Int32} {iF : Int32} {iV : Int32} {aK : (Nat → Int32)} {r2 : Int32 → Option Int32} {z1 : Int32} {z2 : Int32} {z3 : Int32} {z4 : Int32} {res : Int32} (X : gXX x base RX6 cX6_siblingNamed 7 (some .int) p l s m args meth c) (Hr2 : ∀ {z3 : Int32} {H : Heap} {locs : List Loc} {ls : Array Slot}, r2 z3 = some res → gI x base s.heap (mH h o aM aS iU aB iL iE iP aR iW iT aT aC aH aE aQ iA iY iF iV aK) n H locs → lv_has ls 7 [(0, .ref o), (1, .int z1), (2, .int z2), (3, .int z3)] → W p l e rm_X6_siblingNamed s m args below meth c H locs 0 0 (MQ below (gQ x base (some (.int res)) (mH h o aM aS iU aB iL iE iP aR iW iT aT aC aH aE aQ iA iY iF iV aK) n) args s 0 0 (fun q => base ≤ q)) (F0 m 2 ls [])) : ∀ (k : Nat) {z5 : Int32} {z6 : Int32} {H : Heap} {locs : List Loc} {ls : Array Slot}, gL2 (f_X6_siblingNamed_L42 r2 z1 z2 z3 z4 aM aB) k z5 z6 = some res → gI x base s.heap (mH h o aM aS iU aB iL iE iP aR iW iT aT aC aH aE aQ iA iY iF iV aK) n H locs → lv_has ls 7 [(0, .ref o), (1, .int z1), (2, .int z2), (3, .int z3), (4, .int z4), (5, .int z5), (6, .int z6)] → W p l e rm_X6_siblingNamed s m args below meth c H locs 0 0 (MQ below (gQ x base (some (.int res)) (mH h o aM aS iU aB iL iE iP aR iW iT aT aC aH aE aQ iA iY iF iV aK) n) args s 0 0 (fun q => base ≤ q)) (F0 m 42 ls []) := by
  have hx := X.1
  have hb := X.2.1
  intro k
  induction k with
  | zero =>
    intros
    rename_i hr _ _
    exact nomatch (show (none : Option _) = some _ from hr)
  | succ k ih =>
    intro z5 z6 H locs ls hr hI hl
    replace hr : f_X6_siblingNamed_L42 r2 z1 z2 z3 z4 aM aB (gL2 (f_X6_siblingNamed_L42 r2 z1 z2 z3 z4 aM aB) k) z5 z6 = some res := hr
    unfold f_X6_siblingNamed_L42 at hr
    refine lv_iload hx hb dX6_siblingNamed_42 (lv_at hl 5 rfl) ?_
    refine lv_if_eq (tgt := 90) hx hb dX6_siblingNamed_44 (by decide) (fun c9 => ?_) (fun c9 => ?_)
    · replace hr := gIf_t c9 hr
      refine lv_iload hx hb dX6_siblingNamed_90 (lv_at hl 5 rfl) ?_
      refine lv_if_eq (tgt := 97) hx hb dX6_siblingNamed_92 (by decide) (fun c9 => ?_) (fun c9 => ?_)
      · replace hr := gIf_t c9 hr
        refine lv_iinc (v := (z3 + (1 : Int32))) (lv' := [(3, .int (z3 + (1 : Int32))), (0, .ref o), (1, .int z1), (2, .int z2), (4, .int z4), (5, .int z5), (6, .int z6)]) hx hb dX6_siblingNamed_97 hl (k := 3) rfl (g_inc (by decide)) (by decide) rfl (fun ls hl => ?_)
        refine lv_goto (tgt := 2) hx hb dX6_siblingNamed_100 (by decide) ?_
        exact Hr2 hr hI (lv_sub hl [1, 2, 3, 0] rfl)
      · replace hr := gIf_f c9 hr
        refine lv_iload_n hx hb dX6_siblingNamed_95 rfl (lv_at hl 3 rfl) ?_
        have hr := gS_i hr
        subst hr
        exact g_iret X hI rfl (Nat.le_refl _) (Nat.le_refl _) dX6_siblingNamed_96
    · replace hr := gIf_f c9 hr
      refine lv_iload hx hb dX6_siblingNamed_47 (lv_at hl 6 rfl) ?_
      refine lv_iload_n hx hb dX6_siblingNamed_49 rfl (lv_at hl 2 rfl) ?_
      refine lv_icmp_ge (tgt := 90) hx hb dX6_siblingNamed_50 (by decide) (fun c9 => ?_) (fun c9 => ?_)
      · replace hr := gIf_t c9 hr
        refine lv_iload hx hb dX6_siblingNamed_90 (lv_at hl 5 rfl) ?_
        refine lv_if_eq (tgt := 97) hx hb dX6_siblingNamed_92 (by decide) (fun c9 => ?_) (fun c9 => ?_)
        · replace hr := gIf_t c9 hr
          refine lv_iinc (v := (z3 + (1 : Int32))) (lv' := [(3, .int (z3 + (1 : Int32))), (0, .ref o), (1, .int z1), (2, .int z2), (4, .int z4), (5, .int z5), (6, .int z6)]) hx hb dX6_siblingNamed_97 hl (k := 3) rfl (g_inc (by decide)) (by decide) rfl (fun ls hl => ?_)
          refine lv_goto (tgt := 2) hx hb dX6_siblingNamed_100 (by decide) ?_
          exact Hr2 hr hI (lv_sub hl [1, 2, 3, 0] rfl)
        · replace hr := gIf_f c9 hr
          refine lv_iload_n hx hb dX6_siblingNamed_95 rfl (lv_at hl 3 rfl) ?_
          have hr := gS_i hr
          subst hr
          exact g_iret X hI rfl (Nat.le_refl _) (Nat.le_refl _) dX6_siblingNamed_96
      · replace hr := gIf_f c9 hr
        refine lv_aload_n hx hb dX6_siblingNamed_53 rfl (lv_at hl 0 rfl) ?_
        refine m_get X hI mH_0 0 (by decide) q1652 rfl dX6_siblingNamed_54 ?_
        refine lv_iload hx hb dX6_siblingNamed_57 (lv_at hl 4 rfl) ?_
        refine lv_iconst (v := 1) hx hb dX6_siblingNamed_59 (by decide) ?_
        refine lv_iadd hx hb dX6_siblingNamed_60 ?_
        refine lv_iload hx hb dX6_siblingNamed_61 (lv_at hl 6 rfl) ?_
        refine lv_iadd hx hb dX6_siblingNamed_63 ?_
        refine m_iald X hI mH_aaM hr dX6_siblingNamed_64 (fun v3 hr => ?_)
        refine lv_aload_n hx hb dX6_siblingNamed_65 rfl (lv_at hl 0 rfl) ?_
        refine m_get X hI mH_0 3 (by decide) q1655 rfl dX6_siblingNamed_66 ?_
        refine lv_iload_n hx hb dX6_siblingNamed_69 rfl (lv_at hl 1 rfl) ?_
        refine lv_iload hx hb dX6_siblingNamed_70 (lv_at hl 6 rfl) ?_
        refine lv_iadd hx hb dX6_siblingNamed_72 ?_
        refine m_iald X hI mH_aaB hr dX6_siblingNamed_73 (fun v4 hr => ?_)
        refine lv_icmp_ne (tgt := 81) hx hb dX6_siblingNamed_74 (by decide) (fun c9 => ?_) (fun c9 => ?_)
        · replace hr := gIf_f c9 hr
          refine lv_iconst (v := 0) hx hb dX6_siblingNamed_81 (by decide) ?_
          refine lv_istore (lv' := [(5, .int (0 : Int32)), (0, .ref o), (1, .int z1), (2, .int z2), (3, .int z3), (4, .int z4), (6, .int z6)]) hx hb dX6_siblingNamed_82 hl (by decide) rfl (fun ls hl => ?_)
          refine lv_iinc (v := (z6 + (1 : Int32))) (lv' := [(6, .int (z6 + (1 : Int32))), (5, .int (0 : Int32)), (0, .ref o), (1, .int z1), (2, .int z2), (3, .int z3), (4, .int z4)]) hx hb dX6_siblingNamed_84 hl (k := 6) rfl (g_inc (by decide)) (by decide) rfl (fun ls hl => ?_)
          refine lv_goto (tgt := 42) hx hb dX6_siblingNamed_87 (by decide) ?_
          exact ih hr hI (lv_sub hl [2, 3, 4, 5, 6, 1, 0] rfl)
        · replace hr := gIf_t c9 hr
          refine lv_iconst (v := 1) hx hb dX6_siblingNamed_77 (by decide) ?_
          refine lv_goto (tgt := 82) hx hb dX6_siblingNamed_78 (by decide) ?_
          refine lv_istore (lv' := [(5, .int (1 : Int32)), (0, .ref o), (1, .int z1), (2, .int z2), (3, .int z3), (4, .int z4), (6, .int z6)]) hx hb dX6_siblingNamed_82 hl (by decide) rfl (fun ls hl => ?_)
          refine lv_iinc (v := (z6 + (1 : Int32))) (lv' := [(6, .int (z6 + (1 : Int32))), (5, .int (1 : Int32)), (0, .ref o), (1, .int z1), (2, .int z2), (3, .int z3), (4, .int z4)]) hx hb dX6_siblingNamed_84 hl (k := 6) rfl (g_inc (by decide)) (by decide) rfl (fun ls hl => ?_)
          refine lv_goto (tgt := 42) hx hb dX6_siblingNamed_87 (by decide) ?_
          exact ih hr hI (lv_sub hl [2, 3, 4, 5, 6, 1, 0] rfl)
set_option maxHeartbeats 2000000 in
theorem w_X6_siblingNamed_J37 {h : gH} {n : Nat} {o : Nat} {aM : (Nat → Int32)} {aS : (Nat → Int32)} {iU : Int32} {aB : (Nat → Int32)} {iL : Int32} {iE : Int32} {iP : Int32} {aR : (Nat → Int32)} {iW : Int32} {iT : Int32} {aT : (Nat → Int32)} {aC : (Nat → Int32)} {aH : (Nat → Int32)} {aE : (Nat → Int32)} {aQ : (Nat → Int32)} {iA : Int32} {iY : Int32} {iF : Int32} {iV : Int32} {aK : (Nat → Int32)} {r2 : Int32 → Option Int32} {z1 : Int32} {z2 : Int32} {z3 : Int32} {z4 : Int32} {s0 : Int32} {res : Int32} (X : gXX x base RX6 cX6_siblingNamed 7 (some .int) p l s m args meth c) (Hr2 : ∀ {z3 : Int32} {H : Heap} {locs : List Loc} {ls : Array Slot}, r2 z3 = some res → gI x base s.heap (mH h o aM aS iU aB iL iE iP aR iW iT aT aC aH aE aQ iA iY iF iV aK) n H locs → lv_has ls 7 [(0, .ref o), (1, .int z1), (2, .int z2), (3, .int z3)] → W p l e rm_X6_siblingNamed s m args below meth c H locs 0 0 (MQ below (gQ x base (some (.int res)) (mH h o aM aS iU aB iL iE iP aR iW iT aT aC aH aE aQ iA iY iF iV aK) n) args s 0 0 (fun q => base ≤ q)) (F0 m 2 ls [])) {H : Heap} {locs : List Loc} {ls : Array Slot} (hr : f_X6_siblingNamed_J37 r2 z1 z2 z3 z4 s0 aM aB = some res) (hI : gI x base s.heap (mH h o aM aS iU aB iL iE iP aR iW iT aT aC aH aE aQ iA iY iF iV aK) n H locs) (hl : lv_has ls 7 [(0, .ref o), (1, .int z1), (2, .int z2), (3, .int z3), (4, .int z4)]) : W p l e rm_X6_siblingNamed s m args below meth c H locs 0 0 (MQ below (gQ x base (some (.int res)) (mH h o aM aS iU aB iL iE iP aR iW iT aT aC aH aE aQ iA iY iF iV aK) n) args s 0 0 (fun q => base ≤ q)) (F0 m 37 ls [.int s0]) := by
  have hx := X.1
  have hb := X.2.1
  unfold f_X6_siblingNamed_J37 at hr
  refine lv_istore (lv' := [(5, .int s0), (0, .ref o), (1, .int z1), (2, .int z2), (3, .int z3), (4, .int z4)]) hx hb dX6_siblingNamed_37 hl (by decide) rfl (fun ls hl => ?_)
  refine lv_iconst (v := 0) hx hb dX6_siblingNamed_39 (by decide) ?_
  refine lv_istore (lv' := [(6, .int (0 : Int32)), (5, .int s0), (0, .ref o), (1, .int z1), (2, .int z2), (3, .int z3), (4, .int z4)]) hx hb dX6_siblingNamed_40 hl (by decide) rfl (fun ls hl => ?_)
  exact w_X6_siblingNamed_L42 X Hr2 gN hr hI (lv_sub hl [2, 3, 4, 5, 6, 1, 0] rfl)
set_option maxHeartbeats 2000000 in
theorem w_X6_siblingNamed_L2 {h : gH} {n : Nat} {o : Nat} {aM : (Nat → Int32)} {aS : (Nat → Int32)} {iU : Int32} {aB : (Nat → Int32)} {iL : Int32} {iE : Int32} {iP : Int32} {aR : (Nat → Int32)} {iW : Int32} {iT : Int32} {aT : (Nat → Int32)} {aC : (Nat → Int32)} {aH : (Nat → Int32)} {aE : (Nat → Int32)} {aQ : (Nat → Int32)} {iA : Int32} {iY : Int32} {iF : Int32} {iV : Int32} {aK : (Nat → Int32)} {z1 : Int32} {z2 : Int32} {res : Int32} (X : gXX x base RX6 cX6_siblingNamed 7 (some .int) p l s m args meth c) : ∀ (k : Nat) {z3 : Int32} {H : Heap} {locs : List Loc} {ls : Array Slot}, gL1 (f_X6_siblingNamed_L2 z1 z2 aM aB) k z3 = some res → gI x base s.heap (mH h o aM aS iU aB iL iE iP aR iW iT aT aC aH aE aQ iA iY iF iV aK) n H locs → lv_has ls 7 [(0, .ref o), (1, .int z1), (2, .int z2), (3, .int z3)] → W p l e rm_X6_siblingNamed s m args below meth c H locs 0 0 (MQ below (gQ x base (some (.int res)) (mH h o aM aS iU aB iL iE iP aR iW iT aT aC aH aE aQ iA iY iF iV aK) n) args s 0 0 (fun q => base ≤ q)) (F0 m 2 ls []) := by
  have hx := X.1
  have hb := X.2.1
  intro k
  induction k with
  | zero =>
    intros
    rename_i hr _ _
    exact nomatch (show (none : Option _) = some _ from hr)
  | succ k ih =>
    intro z3 H locs ls hr hI hl
    replace hr : f_X6_siblingNamed_L2 z1 z2 aM aB (gL1 (f_X6_siblingNamed_L2 z1 z2 aM aB) k) z3 = some res := hr
    unfold f_X6_siblingNamed_L2 at hr
    refine lv_iload_n hx hb dX6_siblingNamed_2 rfl (lv_at hl 3 rfl) ?_
    refine lv_aload_n hx hb dX6_siblingNamed_3 rfl (lv_at hl 0 rfl) ?_
    refine m_get X hI mH_0 0 (by decide) q1652 rfl dX6_siblingNamed_4 ?_
    refine lv_iconst (v := 1) hx hb dX6_siblingNamed_7 (by decide) ?_
    refine m_iald X hI mH_aaM hr dX6_siblingNamed_8 (fun v1 hr => ?_)
    refine lv_icmp_ge (tgt := 103) hx hb dX6_siblingNamed_9 (by decide) (fun c9 => ?_) (fun c9 => ?_)
    · replace hr := gIf_t c9 hr
      refine lv_iconst (v := (-1)) hx hb dX6_siblingNamed_103 (by decide) ?_
      have hr := gS_i hr
      subst hr
      exact g_iret X hI rfl (Nat.le_refl _) (Nat.le_refl _) dX6_siblingNamed_104
    · replace hr := gIf_f c9 hr
      refine lv_bipush (v := 26) hx hb dX6_siblingNamed_12 (by decide) ?_
      refine lv_iload_n hx hb dX6_siblingNamed_14 rfl (lv_at hl 3 rfl) ?_
      refine lv_bipush (v := 31) hx hb dX6_siblingNamed_15 (by decide) ?_
      refine lv_imul hx hb dX6_siblingNamed_17 ?_
      refine lv_iadd hx hb dX6_siblingNamed_18 ?_
      refine lv_istore (lv' := [(4, .int ((26 : Int32) + (z3 * (31 : Int32)))), (0, .ref o), (1, .int z1), (2, .int z2), (3, .int z3)]) hx hb dX6_siblingNamed_19 hl (by decide) rfl (fun ls hl => ?_)
      refine lv_aload_n hx hb dX6_siblingNamed_21 rfl (lv_at hl 1 rfl) ?_
      refine m_get X hI mH_0 0 (by decide) q1652 rfl dX6_siblingNamed_22 ?_
      refine lv_iload hx hb dX6_siblingNamed_25 (lv_at hl 0 rfl) ?_
      refine m_iald X hI mH_aaM hr dX6_siblingNamed_27 (fun v2 hr => ?_)
      refine lv_iload_n hx hb dX6_siblingNamed_28 rfl (lv_at hl 3 rfl) ?_
      refine lv_icmp_ne (tgt := 36) hx hb dX6_siblingNamed_29 (by decide) (fun c9 => ?_) (fun c9 => ?_)
      · replace hr := gIf_f c9 hr
        refine lv_iconst (v := 0) hx hb dX6_siblingNamed_36 (by decide) ?_
        exact w_X6_siblingNamed_J37 X ih hr hI (lv_sub hl [1, 2, 3, 4, 0] rfl)
      · replace hr := gIf_t c9 hr
        refine lv_iconst (v := 1) hx hb dX6_siblingNamed_32 (by decide) ?_
        refine lv_goto (tgt := 37) hx hb dX6_siblingNamed_33 (by decide) ?_
        exact w_X6_siblingNamed_J37 X ih hr hI (lv_sub hl [1, 2, 3, 4, 0] rfl)
set_option maxHeartbeats 2000000 in
theorem w_X6_siblingNamed {l : Launch} {x : gV} {base : Nat} {z1 : Int32} {z2 : Int32} {h : gH} {n : Nat} {o : Nat} {aM : (Nat → Int32)} {aS : (Nat → Int32)} {iU : Int32} {aB : (Nat → Int32)} {iL : Int32} {iE : Int32} {iP : Int32} {aR : (Nat → Int32)} {iW : Int32} {iT : Int32} {aT : (Nat → Int32)} {aC : (Nat → Int32)} {aH : (Nat → Int32)} {aE : (Nat → Int32)} {aQ : (Nat → Int32)} {iA : Int32} {iY : Int32} {iF : Int32} {iV : Int32} {aK : (Nat → Int32)} {res : Int32} (hr : f_X6_siblingNamed z1 z2 aM aB = some res) : gM l yX6_siblingNamed (ws_ yX6_siblingNamed cX6_siblingNamed 7 (some .int)) rm_X6_siblingNamed x base [.ref o, .int z1, .int z2] (mH h o aM aS iU aB iL iE iP aR iW iT aT aC aH aE aQ iA iY iF iV aK) n (some (.int res)) (mH h o aM aS iU aB iL iE iP aR iW iT aT aC aH aE aQ iA iY iF iV aK) n 0 0 := by
  refine g_met (cc := cX6_siblingNamed) (nL := 7) (ret := (some .int)) (by decide) (Nat.le_of_ble_eq_true rfl) (fun p e s m below meth c ls X hnm hl hI => ?_)
  have hl : lv_has ls 7 [(0, .ref o), (1, .int z1), (2, .int z2)] := hl
  have hx := X.1
  have hb := X.2.1
  unfold f_X6_siblingNamed at hr
  refine lv_iconst (v := 0) hx hb dX6_siblingNamed_0 (by decide) ?_
  refine lv_istore_n (lv' := [(3, .int (0 : Int32)), (0, .ref o), (1, .int z1), (2, .int z2)]) hx hb dX6_siblingNamed_1 rfl hl (by decide) rfl (fun ls hl => ?_)
  exact w_X6_siblingNamed_L2 X gN hr hI (lv_sub hl [1, 2, 3, 0] rfl)
abbrev rm_X6_parseNewSibling : Room := { frames := 3, cells := 0, slots := 0, locals := 63 }
theorem hd_X6_parseNewSibling : yX6_parseNewSibling.cls = RX6 ∧ yX6_parseNewSibling.cls ≠ "java/lang/invoke/MethodHandle" ∧ yX6_parseNewSibling.cls ≠ "java/lang/invoke/VarHandle" ∧ (parseMethodDescriptor yX6_parseNewSibling.desc).map (fun d => d.parameters.length) = some 0 := by decide +kernel
set_option maxHeartbeats 2000000 in
theorem w_X6_parseNewSibling_J165 {h : gH} {n : Nat} {o : Nat} {aM : (Nat → Int32)} {aS : (Nat → Int32)} {iU : Int32} {aB : (Nat → Int32)} {iL : Int32} {iE : Int32} {iP : Int32} {aR : (Nat → Int32)} {iW : Int32} {iT : Int32} {aT : (Nat → Int32)} {aC : (Nat → Int32)} {aH : (Nat → Int32)} {aE : (Nat → Int32)} {aQ : (Nat → Int32)} {iA : Int32} {iY : Int32} {iF : Int32} {iV : Int32} {aK : (Nat → Int32)} {res : Int32 × (Nat → Int32) × Int32 × Int32 × Int32 × Int32 × Int32 × Int32} (X : gXX x base RX6 cX6_parseNewSibling 3 (some .boolean) p l s m args meth c) {H : Heap} {locs : List Loc} {ls : Array Slot} (hr : f_X6_parseNewSibling_J165 aM aB iL iE iP iA iY iF iV = some res) (hI : gI x base s.heap (mH h o aM aS iU aB iL iE iP aR iW iT aT aC aH aE aQ iA iY iF iV aK) n H locs) (hl : lv_has ls 3 [(0, .ref o)]) : W p l e rm_X6_parseNewSibling s m args below meth c H locs 0 0 (MQ below (gQ x base (some (.int res.1)) (mH h o res.2.1 aS iU aB iL res.2.2.1 res.2.2.2.1 aR iW iT aT aC aH aE aQ res.2.2.2.2.1 res.2.2.2.2.2.1 res.2.2.2.2.2.2.1 res.2.2.2.2.2.2.2 aK) n) args s 0 0 (fun q => base ≤ q)) (F0 m 165 ls []) := by
  have hx := X.1
  have hb := X.2.1
  unfold f_X6_parseNewSibling_J165 at hr
  refine lv_aload_n hx hb dX6_parseNewSibling_165 rfl (lv_at hl 0 rfl) ?_
  obtain ⟨v22, iE_23, iP_24, iA_25, iY_26, iF_27, iV_28, hc21, hr⟩ := gT7_i hr
  refine gRun_i (g_runV X hI (w_X6_semicolon hc21) (g_obj_s mH_0) rfl hl (lw_V q1631 q1633 qs40 q122 q1634) rfl rfl hd_X6_semicolon ⟨Nat.le_of_ble_eq_true rfl, Nat.le_of_ble_eq_true rfl⟩ (as := []) (rest := []) rfl rfl (Nat.le_of_ble_eq_true rfl) ⟨(Nat.le_refl _), (Nat.le_refl _)⟩ dX6_parseNewSibling_166) (fun H locs hI => ?_)
  refine lv_if_ne (tgt := 174) hx hb dX6_parseNewSibling_169 (by decide) (fun c9 => ?_) (fun c9 => ?_)
  · replace hr := gIf_f c9 hr
    refine lv_aload_n hx hb dX6_parseNewSibling_174 rfl (lv_at hl 0 rfl) ?_
    refine m_get X hI mH_0 0 (by decide) q1652 rfl dX6_parseNewSibling_175 ?_
    refine lv_iconst (v := 1) hx hb dX6_parseNewSibling_178 (by decide) ?_
    refine lv_dup2_11 hx hb dX6_parseNewSibling_179 rfl rfl ?_
    refine m_iald X hI mH_aaM hr dX6_parseNewSibling_180 (fun v29 hr => ?_)
    refine lv_iconst (v := 1) hx hb dX6_parseNewSibling_181 (by decide) ?_
    refine lv_iadd hx hb dX6_parseNewSibling_182 ?_
    refine m_iast X hI mH_aaM mH_saM hr dX6_parseNewSibling_183 (fun aM_30 H locs hI hr => ?_)
    refine lv_iconst (v := 1) hx hb dX6_parseNewSibling_184 (by decide) ?_
    have hr := gS_i hr
    subst hr
    exact g_iret X hI (g_narZ (Or.inr rfl)) (Nat.le_refl _) (Nat.le_refl _) dX6_parseNewSibling_185
  · replace hr := gIf_t c9 hr
    refine lv_iconst (v := 0) hx hb dX6_parseNewSibling_172 (by decide) ?_
    have hr := gS_i hr
    subst hr
    exact g_iret X hI (g_narZ (Or.inl rfl)) (Nat.le_refl _) (Nat.le_refl _) dX6_parseNewSibling_173
set_option maxHeartbeats 2000000 in
theorem w_X6_parseNewSibling_L131 {h : gH} {n : Nat} {o : Nat} {aS : (Nat → Int32)} {iU : Int32} {aB : (Nat → Int32)} {iL : Int32} {aR : (Nat → Int32)} {iW : Int32} {iT : Int32} {aT : (Nat → Int32)} {aC : (Nat → Int32)} {aH : (Nat → Int32)} {aE : (Nat → Int32)} {aQ : (Nat → Int32)} {aK : (Nat → Int32)} {z1 : Int32} {res : Int32 × (Nat → Int32) × Int32 × Int32 × Int32 × Int32 × Int32 × Int32} (X : gXX x base RX6 cX6_parseNewSibling 3 (some .boolean) p l s m args meth c) : ∀ (k : Nat) {z2 : Int32} {aM : (Nat → Int32)} {iE : Int32} {iP : Int32} {iA : Int32} {iY : Int32} {iF : Int32} {iV : Int32} {H : Heap} {locs : List Loc} {ls : Array Slot}, gL8 (f_X6_parseNewSibling_L131 z1 aB iL) k z2 aM iE iP iA iY iF iV = some res → gI x base s.heap (mH h o aM aS iU aB iL iE iP aR iW iT aT aC aH aE aQ iA iY iF iV aK) n H locs → lv_has ls 3 [(0, .ref o), (1, .int z1), (2, .int z2)] → W p l e rm_X6_parseNewSibling s m args below meth c H locs 0 0 (MQ below (gQ x base (some (.int res.1)) (mH h o res.2.1 aS iU aB iL res.2.2.1 res.2.2.2.1 aR iW iT aT aC aH aE aQ res.2.2.2.2.1 res.2.2.2.2.2.1 res.2.2.2.2.2.2.1 res.2.2.2.2.2.2.2 aK) n) args s 0 0 (fun q => base ≤ q)) (F0 m 131 ls []) := by
  have hx := X.1
  have hb := X.2.1
  intro k
  induction k with
  | zero =>
    intros
    rename_i hr _ _
    exact nomatch (show (none : Option _) = some _ from hr)
  | succ k ih =>
    intro z2 aM iE iP iA iY iF iV H locs ls hr hI hl
    replace hr : f_X6_parseNewSibling_L131 z1 aB iL (gL8 (f_X6_parseNewSibling_L131 z1 aB iL) k) z2 aM iE iP iA iY iF iV = some res := hr
    unfold f_X6_parseNewSibling_L131 at hr
    refine lv_iload_n hx hb dX6_parseNewSibling_131 rfl (lv_at hl 2 rfl) ?_
    refine lv_aload_n hx hb dX6_parseNewSibling_132 rfl (lv_at hl 0 rfl) ?_
    refine m_get X hI mH_0 0 (by decide) q1652 rfl dX6_parseNewSibling_133 ?_
    refine lv_iconst (v := 0) hx hb dX6_parseNewSibling_136 (by decide) ?_
    refine m_iald X hI mH_aaM hr dX6_parseNewSibling_137 (fun v20 hr => ?_)
    refine lv_icmp_ge (tgt := 165) hx hb dX6_parseNewSibling_138 (by decide) (fun c9 => ?_) (fun c9 => ?_)
    · replace hr := gIf_t c9 hr
      exact w_X6_parseNewSibling_J165 X hr hI (lv_sub hl [0] rfl)
    · replace hr := gIf_f c9 hr
      refine lv_aload_n hx hb dX6_parseNewSibling_141 rfl (lv_at hl 0 rfl) ?_
      refine lv_iload_n hx hb dX6_parseNewSibling_142 rfl (lv_at hl 1 rfl) ?_
      refine lv_bipush (v := 7) hx hb dX6_parseNewSibling_143 (by decide) ?_
      refine lv_iadd hx hb dX6_parseNewSibling_145 ?_
      refine lv_iload_n hx hb dX6_parseNewSibling_146 rfl (lv_at hl 2 rfl) ?_
      refine lv_iadd hx hb dX6_parseNewSibling_147 ?_
      refine lv_iconst (v := 0) hx hb dX6_parseNewSibling_148 (by decide) ?_
      refine lv_bipush (v := 9) hx hb dX6_parseNewSibling_149 (by decide) ?_
      obtain ⟨v32, aM_33, iE_34, iP_35, iA_36, iY_37, iF_38, iV_39, hc31, hr⟩ := gT8_i hr
      refine gRun_i (g_runV X hI (w_X6_parseRanged hc31) (g_obj_s mH_0) rfl hl (lw_V q1624 q1626 qs39 q122 q1627) rfl rfl hd_X6_parseRanged ⟨Nat.le_of_ble_eq_true rfl, Nat.le_of_ble_eq_true rfl⟩ (as := [.int ((z1 + (7 : Int32)) + z2), .int (0 : Int32), .int (9 : Int32)]) (rest := []) rfl rfl (Nat.le_of_ble_eq_true rfl) ⟨(Nat.le_refl _), (Nat.le_refl _)⟩ dX6_parseNewSibling_151) (fun H locs hI => ?_)
      refine lv_if_ne (tgt := 159) hx hb dX6_parseNewSibling_154 (by decide) (fun c9 => ?_) (fun c9 => ?_)
      · replace hr := gIf_f c9 hr
        refine lv_iinc (v := (z2 + (1 : Int32))) (lv' := [(2, .int (z2 + (1 : Int32))), (0, .ref o), (1, .int z1)]) hx hb dX6_parseNewSibling_159 hl (k := 2) rfl (g_inc (by decide)) (by decide) rfl (fun ls hl => ?_)
        refine lv_goto (tgt := 131) hx hb dX6_parseNewSibling_162 (by decide) ?_
        exact ih hr hI (lv_sub hl [1, 2, 0] rfl)
      · replace hr := gIf_t c9 hr
        refine lv_iconst (v := 0) hx hb dX6_parseNewSibling_157 (by decide) ?_
        have hr := gS_i hr
        subst hr
        exact g_iret X hI (g_narZ (Or.inl rfl)) (Nat.le_refl _) (Nat.le_refl _) dX6_parseNewSibling_158
set_option maxHeartbeats 2000000 in
theorem w_X6_parseNewSibling_J125 {h : gH} {n : Nat} {o : Nat} {aM : (Nat → Int32)} {aS : (Nat → Int32)} {iU : Int32} {aB : (Nat → Int32)} {iL : Int32} {iE : Int32} {iP : Int32} {aR : (Nat → Int32)} {iW : Int32} {iT : Int32} {aT : (Nat → Int32)} {aC : (Nat → Int32)} {aH : (Nat → Int32)} {aE : (Nat → Int32)} {aQ : (Nat → Int32)} {iA : Int32} {iY : Int32} {iF : Int32} {iV : Int32} {aK : (Nat → Int32)} {z1 : Int32} {res : Int32 × (Nat → Int32) × Int32 × Int32 × Int32 × Int32 × Int32 × Int32} (X : gXX x base RX6 cX6_parseNewSibling 3 (some .boolean) p l s m args meth c) {H : Heap} {locs : List Loc} {ls : Array Slot} (hr : f_X6_parseNewSibling_J125 z1 aM aB iL iE iP iA iY iF iV = some res) (hI : gI x base s.heap (mH h o aM aS iU aB iL iE iP aR iW iT aT aC aH aE aQ iA iY iF iV aK) n H locs) (hl : lv_has ls 3 [(0, .ref o), (1, .int z1)]) : W p l e rm_X6_parseNewSibling s m args below meth c H locs 0 0 (MQ below (gQ x base (some (.int res.1)) (mH h o res.2.1 aS iU aB iL res.2.2.1 res.2.2.2.1 aR iW iT aT aC aH aE aQ res.2.2.2.2.1 res.2.2.2.2.2.1 res.2.2.2.2.2.2.1 res.2.2.2.2.2.2.2 aK) n) args s 0 0 (fun q => base ≤ q)) (F0 m 125 ls []) := by
  have hx := X.1
  have hb := X.2.1
  unfold f_X6_parseNewSibling_J125 at hr
  refine lv_aload_n hx hb dX6_parseNewSibling_125 rfl (lv_at hl 0 rfl) ?_
  obtain ⟨iA_16, iY_17, iF_18, iV_19, hc15, hr⟩ := gT4_i hr
  refine gRun_v (g_runV X hI (w_X6_token hc15) (g_obj_s mH_0) rfl hl (lw_V q1601 q1603 qs35 q122 q1604) rfl rfl hd_X6_token ⟨Nat.le_of_ble_eq_true rfl, Nat.le_of_ble_eq_true rfl⟩ (as := []) (rest := []) rfl rfl (Nat.le_of_ble_eq_true rfl) ⟨(Nat.le_refl _), (Nat.le_refl _)⟩ dX6_parseNewSibling_126) (fun H locs hI => ?_)
  refine lv_iconst (v := 0) hx hb dX6_parseNewSibling_129 (by decide) ?_
  refine lv_istore_n (lv' := [(2, .int (0 : Int32)), (0, .ref o), (1, .int z1)]) hx hb dX6_parseNewSibling_130 rfl hl (by decide) rfl (fun ls hl => ?_)
  exact w_X6_parseNewSibling_L131 X gN hr hI (lv_sub hl [1, 2, 0] rfl)
set_option maxHeartbeats 2000000 in
theorem w_X6_parseNewSibling_L90 {h : gH} {n : Nat} {o : Nat} {aS : (Nat → Int32)} {iU : Int32} {aB : (Nat → Int32)} {iL : Int32} {iE : Int32} {iP : Int32} {aR : (Nat → Int32)} {iW : Int32} {iT : Int32} {aT : (Nat → Int32)} {aC : (Nat → Int32)} {aH : (Nat → Int32)} {aE : (Nat → Int32)} {aQ : (Nat → Int32)} {iA : Int32} {iY : Int32} {iF : Int32} {iV : Int32} {aK : (Nat → Int32)} {z1 : Int32} {res : Int32 × (Nat → Int32) × Int32 × Int32 × Int32 × Int32 × Int32 × Int32} (X : gXX x base RX6 cX6_parseNewSibling 3 (some .boolean) p l s m args meth c) : ∀ (k : Nat) {z2 : Int32} {aM : (Nat → Int32)} {H : Heap} {locs : List Loc} {ls : Array Slot}, gL2 (f_X6_parseNewSibling_L90 z1 aB iL iE iP iA iY iF iV) k z2 aM = some res → gI x base s.heap (mH h o aM aS iU aB iL iE iP aR iW iT aT aC aH aE aQ iA iY iF iV aK) n H locs → lv_has ls 3 [(0, .ref o), (1, .int z1), (2, .int z2)] → W p l e rm_X6_parseNewSibling s m args below meth c H locs 0 0 (MQ below (gQ x base (some (.int res.1)) (mH h o res.2.1 aS iU aB iL res.2.2.1 res.2.2.2.1 aR iW iT aT aC aH aE aQ res.2.2.2.2.1 res.2.2.2.2.2.1 res.2.2.2.2.2.2.1 res.2.2.2.2.2.2.2 aK) n) args s 0 0 (fun q => base ≤ q)) (F0 m 90 ls []) := by
  have hx := X.1
  have hb := X.2.1
  intro k
  induction k with
  | zero =>
    intros
    rename_i hr _ _
    exact nomatch (show (none : Option _) = some _ from hr)
  | succ k ih =>
    intro z2 aM H locs ls hr hI hl
    replace hr : f_X6_parseNewSibling_L90 z1 aB iL iE iP iA iY iF iV (gL2 (f_X6_parseNewSibling_L90 z1 aB iL iE iP iA iY iF iV) k) z2 aM = some res := hr
    unfold f_X6_parseNewSibling_L90 at hr
    refine lv_iload_n hx hb dX6_parseNewSibling_90 rfl (lv_at hl 2 rfl) ?_
    refine lv_aload_n hx hb dX6_parseNewSibling_91 rfl (lv_at hl 0 rfl) ?_
    refine m_get X hI mH_0 15 (by decide) q1667 rfl dX6_parseNewSibling_92 ?_
    refine lv_icmp_ge (tgt := 125) hx hb dX6_parseNewSibling_95 (by decide) (fun c9 => ?_) (fun c9 => ?_)
    · replace hr := gIf_t c9 hr
      exact w_X6_parseNewSibling_J125 X hr hI (lv_sub hl [0, 1] rfl)
    · replace hr := gIf_f c9 hr
      refine lv_aload_n hx hb dX6_parseNewSibling_98 rfl (lv_at hl 0 rfl) ?_
      refine m_get X hI mH_0 0 (by decide) q1652 rfl dX6_parseNewSibling_99 ?_
      refine lv_iload_n hx hb dX6_parseNewSibling_102 rfl (lv_at hl 1 rfl) ?_
      refine lv_iconst (v := 1) hx hb dX6_parseNewSibling_103 (by decide) ?_
      refine lv_iadd hx hb dX6_parseNewSibling_104 ?_
      refine lv_iload_n hx hb dX6_parseNewSibling_105 rfl (lv_at hl 2 rfl) ?_
      refine lv_iadd hx hb dX6_parseNewSibling_106 ?_
      refine lv_aload_n hx hb dX6_parseNewSibling_107 rfl (lv_at hl 0 rfl) ?_
      refine m_get X hI mH_0 17 (by decide) q1669 rfl dX6_parseNewSibling_108 ?_
      refine lv_isub hx hb dX6_parseNewSibling_111 ?_
      refine lv_aload_n hx hb dX6_parseNewSibling_112 rfl (lv_at hl 0 rfl) ?_
      refine m_get X hI mH_0 3 (by decide) q1655 rfl dX6_parseNewSibling_113 ?_
      refine lv_iload_n hx hb dX6_parseNewSibling_116 rfl (lv_at hl 2 rfl) ?_
      refine m_iald X hI mH_aaB hr dX6_parseNewSibling_117 (fun v40 hr => ?_)
      refine m_iast X hI mH_aaM mH_saM hr dX6_parseNewSibling_118 (fun aM_41 H locs hI hr => ?_)
      refine lv_iinc (v := (z2 + (1 : Int32))) (lv' := [(2, .int (z2 + (1 : Int32))), (0, .ref o), (1, .int z1)]) hx hb dX6_parseNewSibling_119 hl (k := 2) rfl (g_inc (by decide)) (by decide) rfl (fun ls hl => ?_)
      refine lv_goto (tgt := 90) hx hb dX6_parseNewSibling_122 (by decide) ?_
      exact ih hr hI (lv_sub hl [1, 2, 0] rfl)
set_option maxHeartbeats 2000000 in
theorem w_X6_parseNewSibling {l : Launch} {x : gV} {base : Nat} {h : gH} {n : Nat} {o : Nat} {aM : (Nat → Int32)} {aS : (Nat → Int32)} {iU : Int32} {aB : (Nat → Int32)} {iL : Int32} {iE : Int32} {iP : Int32} {aR : (Nat → Int32)} {iW : Int32} {iT : Int32} {aT : (Nat → Int32)} {aC : (Nat → Int32)} {aH : (Nat → Int32)} {aE : (Nat → Int32)} {aQ : (Nat → Int32)} {iA : Int32} {iY : Int32} {iF : Int32} {iV : Int32} {aK : (Nat → Int32)} {res : Int32 × (Nat → Int32) × Int32 × Int32 × Int32 × Int32 × Int32 × Int32} (hr : f_X6_parseNewSibling aM aB iL iE iP iA iY iF iV = some res) : gM l yX6_parseNewSibling (ws_ yX6_parseNewSibling cX6_parseNewSibling 3 (some .boolean)) rm_X6_parseNewSibling x base [.ref o] (mH h o aM aS iU aB iL iE iP aR iW iT aT aC aH aE aQ iA iY iF iV aK) n (some (.int res.1)) (mH h o res.2.1 aS iU aB iL res.2.2.1 res.2.2.2.1 aR iW iT aT aC aH aE aQ res.2.2.2.2.1 res.2.2.2.2.2.1 res.2.2.2.2.2.2.1 res.2.2.2.2.2.2.2 aK) n 0 0 := by
  refine g_met (cc := cX6_parseNewSibling) (nL := 3) (ret := (some .boolean)) (by decide) (Nat.le_of_ble_eq_true rfl) (fun p e s m below meth c ls X hnm hl hI => ?_)
  have hl : lv_has ls 3 [(0, .ref o)] := hl
  have hx := X.1
  have hb := X.2.1
  unfold f_X6_parseNewSibling at hr
  refine lv_aload_n hx hb dX6_parseNewSibling_0 rfl (lv_at hl 0 rfl) ?_
  refine m_get X hI mH_0 0 (by decide) q1652 rfl dX6_parseNewSibling_1 ?_
  refine lv_iconst (v := 1) hx hb dX6_parseNewSibling_4 (by decide) ?_
  refine m_iald X hI mH_aaM hr dX6_parseNewSibling_5 (fun v1 hr => ?_)
  refine lv_bipush (v := 6) hx hb dX6_parseNewSibling_6 (by decide) ?_
  refine lv_icmp_ne (tgt := 17) hx hb dX6_parseNewSibling_8 (by decide) (fun c9 => ?_) (fun c9 => ?_)
  · replace hr := gIf_f c9 hr
    refine lv_aload_n hx hb dX6_parseNewSibling_17 rfl (lv_at hl 0 rfl) ?_
    obtain ⟨iA_3, iY_4, iF_5, iV_6, hc2, hr⟩ := gT4_i hr
    refine gRun_v (g_runV X hI (w_X6_token hc2) (g_obj_s mH_0) rfl hl (lw_V q1601 q1603 qs35 q122 q1604) rfl rfl hd_X6_token ⟨Nat.le_of_ble_eq_true rfl, Nat.le_of_ble_eq_true rfl⟩ (as := []) (rest := []) rfl rfl (Nat.le_of_ble_eq_true rfl) ⟨(Nat.le_refl _), (Nat.le_refl _)⟩ dX6_parseNewSibling_18) (fun H locs hI => ?_)
    refine lv_aload_n hx hb dX6_parseNewSibling_21 rfl (lv_at hl 0 rfl) ?_
    obtain ⟨v8, iE_9, iP_10, hc7, hr⟩ := gT3_i hr
    refine gRun_i (g_runV X hI (w_X6_isShortWord hc7) (g_obj_s mH_0) rfl hl (lw_V q1644 q1646 qs43 q122 q1647) rfl rfl hd_X6_isShortWord ⟨Nat.le_of_ble_eq_true rfl, Nat.le_of_ble_eq_true rfl⟩ (as := []) (rest := []) rfl rfl (Nat.le_of_ble_eq_true rfl) ⟨(Nat.le_refl _), (Nat.le_refl _)⟩ dX6_parseNewSibling_22) (fun H locs hI => ?_)
    refine lv_if_ne (tgt := 30) hx hb dX6_parseNewSibling_25 (by decide) (fun c9 => ?_) (fun c9 => ?_)
    · replace hr := gIf_f c9 hr
      refine lv_aload_n hx hb dX6_parseNewSibling_30 rfl (lv_at hl 0 rfl) ?_
      refine lv_aload_n hx hb dX6_parseNewSibling_31 rfl (lv_at hl 0 rfl) ?_
      refine m_get X hI mH_0 17 (by decide) q1669 rfl dX6_parseNewSibling_32 ?_
      refine lv_aload_n hx hb dX6_parseNewSibling_35 rfl (lv_at hl 0 rfl) ?_
      refine m_get X hI mH_0 15 (by decide) q1667 rfl dX6_parseNewSibling_36 ?_
      refine lv_aload_n hx hb dX6_parseNewSibling_39 rfl (lv_at hl 0 rfl) ?_
      refine m_get X hI mH_0 17 (by decide) q1669 rfl dX6_parseNewSibling_40 ?_
      refine lv_isub hx hb dX6_parseNewSibling_43 ?_
      obtain ⟨v12, hc11, hr⟩ := gB_i hr
      refine gRun_i (g_runV X hI (w_X6_siblingNamed hc11) (g_obj_s mH_0) rfl hl (lw_V q1648 q1650 qs44 q122 q1651) rfl rfl hd_X6_siblingNamed ⟨Nat.le_of_ble_eq_true rfl, Nat.le_of_ble_eq_true rfl⟩ (as := [.int iF_5, .int (iA_3 - iF_5)]) (rest := []) rfl rfl (Nat.le_of_ble_eq_true rfl) ⟨(Nat.le_refl _), (Nat.le_refl _)⟩ dX6_parseNewSibling_44) (fun H locs hI => ?_)
      refine lv_iconst (v := (-1)) hx hb dX6_parseNewSibling_47 (by decide) ?_
      refine lv_icmp_eq (tgt := 57) hx hb dX6_parseNewSibling_48 (by decide) (fun c9 => ?_) (fun c9 => ?_)
      · replace hr := gIf_t c9 hr
        refine lv_bipush (v := 26) hx hb dX6_parseNewSibling_57 (by decide) ?_
        refine lv_aload_n hx hb dX6_parseNewSibling_59 rfl (lv_at hl 0 rfl) ?_
        refine m_get X hI mH_0 0 (by decide) q1652 rfl dX6_parseNewSibling_60 ?_
        refine lv_iconst (v := 1) hx hb dX6_parseNewSibling_63 (by decide) ?_
        refine m_iald X hI mH_aaM hr dX6_parseNewSibling_64 (fun v13 hr => ?_)
        refine lv_bipush (v := 31) hx hb dX6_parseNewSibling_65 (by decide) ?_
        refine lv_imul hx hb dX6_parseNewSibling_67 ?_
        refine lv_iadd hx hb dX6_parseNewSibling_68 ?_
        refine lv_istore_n (lv' := [(1, .int ((26 : Int32) + (v13 * (31 : Int32)))), (0, .ref o)]) hx hb dX6_parseNewSibling_69 rfl hl (by decide) rfl (fun ls hl => ?_)
        refine lv_aload_n hx hb dX6_parseNewSibling_70 rfl (lv_at hl 1 rfl) ?_
        refine m_get X hI mH_0 0 (by decide) q1652 rfl dX6_parseNewSibling_71 ?_
        refine lv_iload_n hx hb dX6_parseNewSibling_74 rfl (lv_at hl 0 rfl) ?_
        refine lv_aload_n hx hb dX6_parseNewSibling_75 rfl (lv_at hl 1 rfl) ?_
        refine m_get X hI mH_0 15 (by decide) q1667 rfl dX6_parseNewSibling_76 ?_
        refine lv_aload_n hx hb dX6_parseNewSibling_79 rfl (lv_at hl 1 rfl) ?_
        refine m_get X hI mH_0 17 (by decide) q1669 rfl dX6_parseNewSibling_80 ?_
        refine lv_isub hx hb dX6_parseNewSibling_83 ?_
        refine m_iast X hI mH_aaM mH_saM hr dX6_parseNewSibling_84 (fun aM_14 H locs hI hr => ?_)
        refine lv_aload_n hx hb dX6_parseNewSibling_85 rfl (lv_at hl 1 rfl) ?_
        refine m_get X hI mH_0 17 (by decide) q1669 rfl dX6_parseNewSibling_86 ?_
        refine lv_istore_n (lv' := [(2, .int iF_5), (1, .int ((26 : Int32) + (v13 * (31 : Int32)))), (0, .ref o)]) hx hb dX6_parseNewSibling_89 rfl hl (by decide) rfl (fun ls hl => ?_)
        exact w_X6_parseNewSibling_L90 X gN hr hI (lv_sub hl [2, 1, 0] rfl)
      · replace hr := gIf_f c9 hr
        refine lv_aload_n hx hb dX6_parseNewSibling_51 rfl (lv_at hl 0 rfl) ?_
        refine lv_iconst (v := 3) hx hb dX6_parseNewSibling_52 (by decide) ?_
        obtain ⟨v43, iE_44, iP_45, hc42, hr⟩ := gT3_i hr
        refine gRun_i (g_runV X hI (w_X6_wrong hc42) (g_obj_s mH_0) rfl hl (lw_V q1620 q1622 qs38 q122 q1623) rfl rfl hd_X6_wrong ⟨Nat.le_of_ble_eq_true rfl, Nat.le_of_ble_eq_true rfl⟩ (as := [.int (3 : Int32)]) (rest := []) rfl rfl (Nat.le_of_ble_eq_true rfl) ⟨(Nat.le_refl _), (Nat.le_refl _)⟩ dX6_parseNewSibling_53) (fun H locs hI => ?_)
        obtain ⟨c9, hr⟩ := gIf_o hr
        have hr := gS_i hr
        subst hr
        exact g_iret X hI (g_narZ c9) (Nat.le_refl _) (Nat.le_refl _) dX6_parseNewSibling_56
    · replace hr := gIf_t c9 hr
      refine lv_iconst (v := 0) hx hb dX6_parseNewSibling_28 (by decide) ?_
      have hr := gS_i hr
      subst hr
      exact g_iret X hI (g_narZ (Or.inl rfl)) (Nat.le_refl _) (Nat.le_refl _) dX6_parseNewSibling_29
  · replace hr := gIf_t c9 hr
    refine lv_aload_n hx hb dX6_parseNewSibling_11 rfl (lv_at hl 0 rfl) ?_
    refine lv_iconst (v := 4) hx hb dX6_parseNewSibling_12 (by decide) ?_
    obtain ⟨v47, iE_48, iP_49, hc46, hr⟩ := gT3_i hr
    refine gRun_i (g_runV X hI (w_X6_wrong hc46) (g_obj_s mH_0) rfl hl (lw_V q1620 q1622 qs38 q122 q1623) rfl rfl hd_X6_wrong ⟨Nat.le_of_ble_eq_true rfl, Nat.le_of_ble_eq_true rfl⟩ (as := [.int (4 : Int32)]) (rest := []) rfl rfl (Nat.le_of_ble_eq_true rfl) ⟨(Nat.le_refl _), (Nat.le_refl _)⟩ dX6_parseNewSibling_13) (fun H locs hI => ?_)
    obtain ⟨c9, hr⟩ := gIf_o hr
    have hr := gS_i hr
    subst hr
    exact g_iret X hI (g_narZ c9) (Nat.le_refl _) (Nat.le_refl _) dX6_parseNewSibling_16
abbrev rm_X6_parseSetup : Room := { frames := 8, cells := 0, slots := 0, locals := 445 }
theorem hd_X6_parseSetup : yX6_parseSetup.cls = RX6 ∧ yX6_parseSetup.cls ≠ "java/lang/invoke/MethodHandle" ∧ yX6_parseSetup.cls ≠ "java/lang/invoke/VarHandle" ∧ (parseMethodDescriptor yX6_parseSetup.desc).map (fun d => d.parameters.length) = some 0 := by decide +kernel
set_option maxHeartbeats 2000000 in
theorem w_X6_parseSetup_J98 {h : gH} {n : Nat} {o : Nat} {aM : (Nat → Int32)} {aS : (Nat → Int32)} {iU : Int32} {aB : (Nat → Int32)} {iL : Int32} {iE : Int32} {iP : Int32} {aR : (Nat → Int32)} {iW : Int32} {iT : Int32} {aT : (Nat → Int32)} {aC : (Nat → Int32)} {aH : (Nat → Int32)} {aE : (Nat → Int32)} {aQ : (Nat → Int32)} {iA : Int32} {iY : Int32} {iF : Int32} {iV : Int32} {aK : (Nat → Int32)} {res : Int32 × (Nat → Int32) × Int32 × Int32 × Int32 × Int32 × Int32 × Int32} (X : gXX x base RX6 cX6_parseSetup 2 (some .boolean) p l s m args meth c) {H : Heap} {locs : List Loc} {ls : Array Slot} (hr : f_X6_parseSetup_J98 x aM aB iL iE iP iA iY iF iV = some res) (hI : gI x base s.heap (mH h o aM aS iU aB iL iE iP aR iW iT aT aC aH aE aQ iA iY iF iV aK) n H locs) (hl : lv_has ls 2 [(0, .ref o)]) : W p l e rm_X6_parseSetup s m args below meth c H locs 0 0 (MQ below (gQ x base (some (.int res.1)) (mH h o res.2.1 aS iU aB iL res.2.2.1 res.2.2.2.1 aR iW iT aT aC aH aE aQ res.2.2.2.2.1 res.2.2.2.2.2.1 res.2.2.2.2.2.2.1 res.2.2.2.2.2.2.2 aK) n) args s 0 0 (fun q => base ≤ q)) (F0 m 98 ls []) := by
  have hx := X.1
  have hb := X.2.1
  unfold f_X6_parseSetup_J98 at hr
  refine lv_aload_n hx hb dX6_parseSetup_98 rfl (lv_at hl 0 rfl) ?_
  refine m_get X hI mH_0 16 (by decide) q1668 rfl dX6_parseSetup_99 ?_
  refine lv_if_eq (tgt := 113) hx hb dX6_parseSetup_102 (by decide) (fun c9 => ?_) (fun c9 => ?_)
  · replace hr := gIf_t c9 hr
    refine lv_iconst (v := 1) hx hb dX6_parseSetup_113 (by decide) ?_
    refine lv_goto (tgt := 118) hx hb dX6_parseSetup_114 (by decide) ?_
    have hr := gS_i hr
    subst hr
    exact g_iret X hI (g_narZ (Or.inr rfl)) (Nat.le_refl _) (Nat.le_refl _) dX6_parseSetup_118
  · replace hr := gIf_f c9 hr
    refine lv_aload_n hx hb dX6_parseSetup_105 rfl (lv_at hl 0 rfl) ?_
    refine lv_iconst (v := 1) hx hb dX6_parseSetup_106 (by decide) ?_
    obtain ⟨v32, iE_33, iP_34, hc31, hr⟩ := gT3_i hr
    refine gRun_i (g_runV X hI (w_X6_wrong hc31) (g_obj_s mH_0) rfl hl (lw_V q1620 q1622 qs38 q122 q1623) rfl rfl hd_X6_wrong ⟨Nat.le_of_ble_eq_true rfl, Nat.le_of_ble_eq_true rfl⟩ (as := [.int (1 : Int32)]) (rest := []) rfl rfl (Nat.le_of_ble_eq_true rfl) ⟨(Nat.le_refl _), (Nat.le_refl _)⟩ dX6_parseSetup_107) (fun H locs hI => ?_)
    refine lv_if_eq (tgt := 117) hx hb dX6_parseSetup_110 (by decide) (fun c9 => ?_) (fun c9 => ?_)
    · replace hr := gIf_t c9 hr
      refine lv_iconst (v := 0) hx hb dX6_parseSetup_117 (by decide) ?_
      have hr := gS_i hr
      subst hr
      exact g_iret X hI (g_narZ (Or.inl rfl)) (Nat.le_refl _) (Nat.le_refl _) dX6_parseSetup_118
    · replace hr := gIf_f c9 hr
      refine lv_iconst (v := 1) hx hb dX6_parseSetup_113 (by decide) ?_
      refine lv_goto (tgt := 118) hx hb dX6_parseSetup_114 (by decide) ?_
      have hr := gS_i hr
      subst hr
      exact g_iret X hI (g_narZ (Or.inr rfl)) (Nat.le_refl _) (Nat.le_refl _) dX6_parseSetup_118
set_option maxHeartbeats 2000000 in
theorem w_X6_parseSetup_L80 {h : gH} {n : Nat} {o : Nat} {aS : (Nat → Int32)} {iU : Int32} {aB : (Nat → Int32)} {iL : Int32} {aR : (Nat → Int32)} {iW : Int32} {iT : Int32} {aT : (Nat → Int32)} {aC : (Nat → Int32)} {aH : (Nat → Int32)} {aE : (Nat → Int32)} {aQ : (Nat → Int32)} {aK : (Nat → Int32)} {res : Int32 × (Nat → Int32) × Int32 × Int32 × Int32 × Int32 × Int32 × Int32} (X : gXX x base RX6 cX6_parseSetup 2 (some .boolean) p l s m args meth c) : ∀ (k : Nat) {aM : (Nat → Int32)} {iE : Int32} {iP : Int32} {iA : Int32} {iY : Int32} {iF : Int32} {iV : Int32} {H : Heap} {locs : List Loc} {ls : Array Slot}, gL7 (f_X6_parseSetup_L80 x aB iL) k aM iE iP iA iY iF iV = some res → gI x base s.heap (mH h o aM aS iU aB iL iE iP aR iW iT aT aC aH aE aQ iA iY iF iV aK) n H locs → lv_has ls 2 [(0, .ref o)] → W p l e rm_X6_parseSetup s m args below meth c H locs 0 0 (MQ below (gQ x base (some (.int res.1)) (mH h o res.2.1 aS iU aB iL res.2.2.1 res.2.2.2.1 aR iW iT aT aC aH aE aQ res.2.2.2.2.1 res.2.2.2.2.2.1 res.2.2.2.2.2.2.1 res.2.2.2.2.2.2.2 aK) n) args s 0 0 (fun q => base ≤ q)) (F0 m 80 ls []) := by
  have hx := X.1
  have hb := X.2.1
  intro k
  induction k with
  | zero =>
    intros
    rename_i hr _ _
    exact nomatch (show (none : Option _) = some _ from hr)
  | succ k ih =>
    intro aM iE iP iA iY iF iV H locs ls hr hI hl
    replace hr : f_X6_parseSetup_L80 x aB iL (gL7 (f_X6_parseSetup_L80 x aB iL) k) aM iE iP iA iY iF iV = some res := hr
    unfold f_X6_parseSetup_L80 at hr
    refine lv_aload_n hx hb dX6_parseSetup_80 rfl (lv_at hl 0 rfl) ?_
    refine g_ldc X (i := 2) (tx := "sibling") (by decide +kernel) dX6_parseSetup_81 ?_
    obtain ⟨v30, hc29, hr⟩ := gB_i hr
    refine gRun_i (g_runV X hI (w_X6_isWord hc29) (g_obj_s mH_0) rfl hl (lw_V q1616 q1618 qs37 q122 q1619) rfl rfl hd_X6_isWord ⟨Nat.le_of_ble_eq_true rfl, Nat.le_of_ble_eq_true rfl⟩ (as := [.ref (x.2.2.1 2)]) (rest := []) rfl rfl (Nat.le_of_ble_eq_true rfl) ⟨(Nat.le_refl _), (Nat.le_refl _)⟩ dX6_parseSetup_83) (fun H locs hI => ?_)
    refine lv_if_eq (tgt := 98) hx hb dX6_parseSetup_86 (by decide) (fun c9 => ?_) (fun c9 => ?_)
    · replace hr := gIf_t c9 hr
      exact w_X6_parseSetup_J98 X hr hI (lv_sub hl [0] rfl)
    · replace hr := gIf_f c9 hr
      refine lv_aload_n hx hb dX6_parseSetup_89 rfl (lv_at hl 0 rfl) ?_
      obtain ⟨v36, aM_37, iE_38, iP_39, iA_40, iY_41, iF_42, iV_43, hc35, hr⟩ := gT8_i hr
      refine gRun_i (g_runV X hI (w_X6_parseNewSibling hc35) (g_obj_s mH_0) rfl hl (lw_V q1640 q1642 qs42 q122 q1643) rfl rfl hd_X6_parseNewSibling ⟨Nat.le_of_ble_eq_true rfl, Nat.le_of_ble_eq_true rfl⟩ (as := []) (rest := []) rfl rfl (Nat.le_of_ble_eq_true rfl) ⟨(Nat.le_refl _), (Nat.le_refl _)⟩ dX6_parseSetup_90) (fun H locs hI => ?_)
      refine lv_if_ne (tgt := 80) hx hb dX6_parseSetup_93 (by decide) (fun c9 => ?_) (fun c9 => ?_)
      · replace hr := gIf_f c9 hr
        exact ih hr hI (lv_sub hl [0] rfl)
      · replace hr := gIf_t c9 hr
        refine lv_iconst (v := 0) hx hb dX6_parseSetup_96 (by decide) ?_
        have hr := gS_i hr
        subst hr
        exact g_iret X hI (g_narZ (Or.inl rfl)) (Nat.le_refl _) (Nat.le_refl _) dX6_parseSetup_97
set_option maxHeartbeats 2000000 in
theorem w_X6_parseSetup_J22 {h : gH} {n : Nat} {o : Nat} {aM : (Nat → Int32)} {aS : (Nat → Int32)} {iU : Int32} {aB : (Nat → Int32)} {iL : Int32} {iE : Int32} {iP : Int32} {aR : (Nat → Int32)} {iW : Int32} {iT : Int32} {aT : (Nat → Int32)} {aC : (Nat → Int32)} {aH : (Nat → Int32)} {aE : (Nat → Int32)} {aQ : (Nat → Int32)} {iA : Int32} {iY : Int32} {iF : Int32} {iV : Int32} {aK : (Nat → Int32)} {res : Int32 × (Nat → Int32) × Int32 × Int32 × Int32 × Int32 × Int32 × Int32} (X : gXX x base RX6 cX6_parseSetup 2 (some .boolean) p l s m args meth c) {H : Heap} {locs : List Loc} {ls : Array Slot} (hr : f_X6_parseSetup_J22 x aM aB iL iE iP iA iY iF iV = some res) (hI : gI x base s.heap (mH h o aM aS iU aB iL iE iP aR iW iT aT aC aH aE aQ iA iY iF iV aK) n H locs) (hl : lv_has ls 2 [(0, .ref o)]) : W p l e rm_X6_parseSetup s m args below meth c H locs 0 0 (MQ below (gQ x base (some (.int res.1)) (mH h o res.2.1 aS iU aB iL res.2.2.1 res.2.2.2.1 aR iW iT aT aC aH aE aQ res.2.2.2.2.1 res.2.2.2.2.2.1 res.2.2.2.2.2.2.1 res.2.2.2.2.2.2.2 aK) n) args s 0 0 (fun q => base ≤ q)) (F0 m 22 ls []) := by
  have hx := X.1
  have hb := X.2.1
  unfold f_X6_parseSetup_J22 at hr
  refine lv_aload_n hx hb dX6_parseSetup_22 rfl (lv_at hl 0 rfl) ?_
  refine g_ldc X (i := 1) (tx := "cake") (by decide +kernel) dX6_parseSetup_23 ?_
  obtain ⟨v2, hc1, hr⟩ := gB_i hr
  refine gRun_i (g_runV X hI (w_X6_isWord hc1) (g_obj_s mH_0) rfl hl (lw_V q1616 q1618 qs37 q122 q1619) rfl rfl hd_X6_isWord ⟨Nat.le_of_ble_eq_true rfl, Nat.le_of_ble_eq_true rfl⟩ (as := [.ref (x.2.2.1 1)]) (rest := []) rfl rfl (Nat.le_of_ble_eq_true rfl) ⟨(Nat.le_refl _), (Nat.le_refl _)⟩ dX6_parseSetup_25) (fun H locs hI => ?_)
  refine lv_if_ne (tgt := 37) hx hb dX6_parseSetup_28 (by decide) (fun c9 => ?_) (fun c9 => ?_)
  · replace hr := gIf_f c9 hr
    refine lv_aload_n hx hb dX6_parseSetup_37 rfl (lv_at hl 0 rfl) ?_
    obtain ⟨iA_4, iY_5, iF_6, iV_7, hc3, hr⟩ := gT4_i hr
    refine gRun_v (g_runV X hI (w_X6_token hc3) (g_obj_s mH_0) rfl hl (lw_V q1601 q1603 qs35 q122 q1604) rfl rfl hd_X6_token ⟨Nat.le_of_ble_eq_true rfl, Nat.le_of_ble_eq_true rfl⟩ (as := []) (rest := []) rfl rfl (Nat.le_of_ble_eq_true rfl) ⟨(Nat.le_refl _), (Nat.le_refl _)⟩ dX6_parseSetup_38) (fun H locs hI => ?_)
    refine lv_aload_n hx hb dX6_parseSetup_41 rfl (lv_at hl 0 rfl) ?_
    refine lv_iconst (v := 0) hx hb dX6_parseSetup_42 (by decide) ?_
    refine lv_iconst (v := 1) hx hb dX6_parseSetup_43 (by decide) ?_
    refine lv_bipush (v := 24) hx hb dX6_parseSetup_44 (by decide) ?_
    obtain ⟨v9, aM_10, iE_11, iP_12, iA_13, iY_14, iF_15, iV_16, hc8, hr⟩ := gT8_i hr
    refine gRun_i (g_runV X hI (w_X6_parseRanged hc8) (g_obj_s mH_0) rfl hl (lw_V q1624 q1626 qs39 q122 q1627) rfl rfl hd_X6_parseRanged ⟨Nat.le_of_ble_eq_true rfl, Nat.le_of_ble_eq_true rfl⟩ (as := [.int (0 : Int32), .int (1 : Int32), .int (24 : Int32)]) (rest := []) rfl rfl (Nat.le_of_ble_eq_true rfl) ⟨(Nat.le_refl _), (Nat.le_refl _)⟩ dX6_parseSetup_46) (fun H locs hI => ?_)
    refine lv_if_eq (tgt := 59) hx hb dX6_parseSetup_49 (by decide) (fun c9 => ?_) (fun c9 => ?_)
    · replace hr := gIf_t c9 hr
      refine lv_iconst (v := 0) hx hb dX6_parseSetup_59 (by decide) ?_
      have hr := gS_i hr
      subst hr
      exact g_iret X hI (g_narZ (Or.inl rfl)) (Nat.le_refl _) (Nat.le_refl _) dX6_parseSetup_60
    · replace hr := gIf_f c9 hr
      refine lv_aload_n hx hb dX6_parseSetup_52 rfl (lv_at hl 0 rfl) ?_
      obtain ⟨v18, iE_19, iP_20, iA_21, iY_22, iF_23, iV_24, hc17, hr⟩ := gT7_i hr
      refine gRun_i (g_runV X hI (w_X6_semicolon hc17) (g_obj_s mH_0) rfl hl (lw_V q1631 q1633 qs40 q122 q1634) rfl rfl hd_X6_semicolon ⟨Nat.le_of_ble_eq_true rfl, Nat.le_of_ble_eq_true rfl⟩ (as := []) (rest := []) rfl rfl (Nat.le_of_ble_eq_true rfl) ⟨(Nat.le_refl _), (Nat.le_refl _)⟩ dX6_parseSetup_53) (fun H locs hI => ?_)
      refine lv_if_ne (tgt := 61) hx hb dX6_parseSetup_56 (by decide) (fun c9 => ?_) (fun c9 => ?_)
      · replace hr := gIf_f c9 hr
        refine lv_aload_n hx hb dX6_parseSetup_61 rfl (lv_at hl 0 rfl) ?_
        obtain ⟨aM_26, hc25, hr⟩ := gB_i hr
        refine gRun_v (g_runV X hI (w_X6_clear hc25) (g_obj_s mH_0) rfl hl (lw_V q1635 q1637 qs41 q122 q1638) rfl rfl hd_X6_clear ⟨Nat.le_of_ble_eq_true rfl, Nat.le_of_ble_eq_true rfl⟩ (as := []) (rest := []) rfl rfl (Nat.le_of_ble_eq_true rfl) ⟨(Nat.le_refl _), (Nat.le_refl _)⟩ dX6_parseSetup_62) (fun H locs hI => ?_)
        refine lv_aload_n hx hb dX6_parseSetup_65 rfl (lv_at hl 0 rfl) ?_
        refine g_ldc X (i := 2) (tx := "sibling") (by decide +kernel) dX6_parseSetup_66 ?_
        obtain ⟨v28, hc27, hr⟩ := gB_i hr
        refine gRun_i (g_runV X hI (w_X6_isWord hc27) (g_obj_s mH_0) rfl hl (lw_V q1616 q1618 qs37 q122 q1619) rfl rfl hd_X6_isWord ⟨Nat.le_of_ble_eq_true rfl, Nat.le_of_ble_eq_true rfl⟩ (as := [.ref (x.2.2.1 2)]) (rest := []) rfl rfl (Nat.le_of_ble_eq_true rfl) ⟨(Nat.le_refl _), (Nat.le_refl _)⟩ dX6_parseSetup_68) (fun H locs hI => ?_)
        refine lv_if_ne (tgt := 80) hx hb dX6_parseSetup_71 (by decide) (fun c9 => ?_) (fun c9 => ?_)
        · replace hr := gIf_f c9 hr
          exact w_X6_parseSetup_L80 X gN hr hI (lv_sub hl [0] rfl)
        · replace hr := gIf_t c9 hr
          refine lv_aload_n hx hb dX6_parseSetup_74 rfl (lv_at hl 0 rfl) ?_
          refine lv_iconst (v := 1) hx hb dX6_parseSetup_75 (by decide) ?_
          obtain ⟨v45, iE_46, iP_47, hc44, hr⟩ := gT3_i hr
          refine gRun_i (g_runV X hI (w_X6_wrong hc44) (g_obj_s mH_0) rfl hl (lw_V q1620 q1622 qs38 q122 q1623) rfl rfl hd_X6_wrong ⟨Nat.le_of_ble_eq_true rfl, Nat.le_of_ble_eq_true rfl⟩ (as := [.int (1 : Int32)]) (rest := []) rfl rfl (Nat.le_of_ble_eq_true rfl) ⟨(Nat.le_refl _), (Nat.le_refl _)⟩ dX6_parseSetup_76) (fun H locs hI => ?_)
          obtain ⟨c9, hr⟩ := gIf_o hr
          have hr := gS_i hr
          subst hr
          exact g_iret X hI (g_narZ c9) (Nat.le_refl _) (Nat.le_refl _) dX6_parseSetup_79
      · replace hr := gIf_t c9 hr
        refine lv_iconst (v := 0) hx hb dX6_parseSetup_59 (by decide) ?_
        have hr := gS_i hr
        subst hr
        exact g_iret X hI (g_narZ (Or.inl rfl)) (Nat.le_refl _) (Nat.le_refl _) dX6_parseSetup_60
  · replace hr := gIf_t c9 hr
    refine lv_aload_n hx hb dX6_parseSetup_31 rfl (lv_at hl 0 rfl) ?_
    refine lv_iconst (v := 1) hx hb dX6_parseSetup_32 (by decide) ?_
    obtain ⟨v49, iE_50, iP_51, hc48, hr⟩ := gT3_i hr
    refine gRun_i (g_runV X hI (w_X6_wrong hc48) (g_obj_s mH_0) rfl hl (lw_V q1620 q1622 qs38 q122 q1623) rfl rfl hd_X6_wrong ⟨Nat.le_of_ble_eq_true rfl, Nat.le_of_ble_eq_true rfl⟩ (as := [.int (1 : Int32)]) (rest := []) rfl rfl (Nat.le_of_ble_eq_true rfl) ⟨(Nat.le_refl _), (Nat.le_refl _)⟩ dX6_parseSetup_33) (fun H locs hI => ?_)
    obtain ⟨c9, hr⟩ := gIf_o hr
    have hr := gS_i hr
    subst hr
    exact g_iret X hI (g_narZ c9) (Nat.le_refl _) (Nat.le_refl _) dX6_parseSetup_36
set_option maxHeartbeats 2000000 in
theorem w_X6_parseSetup_L2 {h : gH} {n : Nat} {o : Nat} {aS : (Nat → Int32)} {iU : Int32} {aB : (Nat → Int32)} {iL : Int32} {iE : Int32} {iP : Int32} {aR : (Nat → Int32)} {iW : Int32} {iT : Int32} {aT : (Nat → Int32)} {aC : (Nat → Int32)} {aH : (Nat → Int32)} {aE : (Nat → Int32)} {aQ : (Nat → Int32)} {iA : Int32} {iY : Int32} {iF : Int32} {iV : Int32} {aK : (Nat → Int32)} {res : Int32 × (Nat → Int32) × Int32 × Int32 × Int32 × Int32 × Int32 × Int32} (X : gXX x base RX6 cX6_parseSetup 2 (some .boolean) p l s m args meth c) : ∀ (k : Nat) {z1 : Int32} {aM : (Nat → Int32)} {H : Heap} {locs : List Loc} {ls : Array Slot}, gL2 (f_X6_parseSetup_L2 x aB iL iE iP iA iY iF iV) k z1 aM = some res → gI x base s.heap (mH h o aM aS iU aB iL iE iP aR iW iT aT aC aH aE aQ iA iY iF iV aK) n H locs → lv_has ls 2 [(0, .ref o), (1, .int z1)] → W p l e rm_X6_parseSetup s m args below meth c H locs 0 0 (MQ below (gQ x base (some (.int res.1)) (mH h o res.2.1 aS iU aB iL res.2.2.1 res.2.2.2.1 aR iW iT aT aC aH aE aQ res.2.2.2.2.1 res.2.2.2.2.2.1 res.2.2.2.2.2.2.1 res.2.2.2.2.2.2.2 aK) n) args s 0 0 (fun q => base ≤ q)) (F0 m 2 ls []) := by
  have hx := X.1
  have hb := X.2.1
  intro k
  induction k with
  | zero =>
    intros
    rename_i hr _ _
    exact nomatch (show (none : Option _) = some _ from hr)
  | succ k ih =>
    intro z1 aM H locs ls hr hI hl
    replace hr : f_X6_parseSetup_L2 x aB iL iE iP iA iY iF iV (gL2 (f_X6_parseSetup_L2 x aB iL iE iP iA iY iF iV) k) z1 aM = some res := hr
    unfold f_X6_parseSetup_L2 at hr
    refine lv_iload_n hx hb dX6_parseSetup_2 rfl (lv_at hl 1 rfl) ?_
    refine lv_sipush (v := 212) hx hb dX6_parseSetup_3 (by decide) ?_
    refine lv_icmp_ge (tgt := 22) hx hb dX6_parseSetup_6 (by decide) (fun c9 => ?_) (fun c9 => ?_)
    · replace hr := gIf_t c9 hr
      exact w_X6_parseSetup_J22 X hr hI (lv_sub hl [0] rfl)
    · replace hr := gIf_f c9 hr
      refine lv_aload_n hx hb dX6_parseSetup_9 rfl (lv_at hl 0 rfl) ?_
      refine m_get X hI mH_0 0 (by decide) q1652 rfl dX6_parseSetup_10 ?_
      refine lv_iload_n hx hb dX6_parseSetup_13 rfl (lv_at hl 1 rfl) ?_
      refine lv_iconst (v := 0) hx hb dX6_parseSetup_14 (by decide) ?_
      refine m_iast X hI mH_aaM mH_saM hr dX6_parseSetup_15 (fun aM_52 H locs hI hr => ?_)
      refine lv_iinc (v := (z1 + (1 : Int32))) (lv' := [(1, .int (z1 + (1 : Int32))), (0, .ref o)]) hx hb dX6_parseSetup_16 hl (k := 1) rfl (g_inc (by decide)) (by decide) rfl (fun ls hl => ?_)
      refine lv_goto (tgt := 2) hx hb dX6_parseSetup_19 (by decide) ?_
      exact ih hr hI (lv_sub hl [1, 0] rfl)
set_option maxHeartbeats 2000000 in
theorem w_X6_parseSetup {l : Launch} {x : gV} {base : Nat} {h : gH} {n : Nat} {o : Nat} {aM : (Nat → Int32)} {aS : (Nat → Int32)} {iU : Int32} {aB : (Nat → Int32)} {iL : Int32} {iE : Int32} {iP : Int32} {aR : (Nat → Int32)} {iW : Int32} {iT : Int32} {aT : (Nat → Int32)} {aC : (Nat → Int32)} {aH : (Nat → Int32)} {aE : (Nat → Int32)} {aQ : (Nat → Int32)} {iA : Int32} {iY : Int32} {iF : Int32} {iV : Int32} {aK : (Nat → Int32)} {res : Int32 × (Nat → Int32) × Int32 × Int32 × Int32 × Int32 × Int32 × Int32} (hr : f_X6_parseSetup x aM aB iL iE iP iA iY iF iV = some res) : gM l yX6_parseSetup (ws_ yX6_parseSetup cX6_parseSetup 2 (some .boolean)) rm_X6_parseSetup x base [.ref o] (mH h o aM aS iU aB iL iE iP aR iW iT aT aC aH aE aQ iA iY iF iV aK) n (some (.int res.1)) (mH h o res.2.1 aS iU aB iL res.2.2.1 res.2.2.2.1 aR iW iT aT aC aH aE aQ res.2.2.2.2.1 res.2.2.2.2.2.1 res.2.2.2.2.2.2.1 res.2.2.2.2.2.2.2 aK) n 0 0 := by
  refine g_met (cc := cX6_parseSetup) (nL := 2) (ret := (some .boolean)) (by decide) (Nat.le_of_ble_eq_true rfl) (fun p e s m below meth c ls X hnm hl hI => ?_)
  have hl : lv_has ls 2 [(0, .ref o)] := hl
  have hx := X.1
  have hb := X.2.1
  unfold f_X6_parseSetup at hr
  refine lv_iconst (v := 0) hx hb dX6_parseSetup_0 (by decide) ?_
  refine lv_istore_n (lv' := [(1, .int (0 : Int32)), (0, .ref o)]) hx hb dX6_parseSetup_1 rfl hl (by decide) rfl (fun ls hl => ?_)
  exact w_X6_parseSetup_L2 X gN hr hI (lv_sub hl [1, 0] rfl)
abbrev rm_X6_fails : Room := { frames := 0, cells := 0, slots := 0, locals := 0 }
theorem hd_X6_fails : yX6_fails.cls = RX6 ∧ yX6_fails.cls ≠ "java/lang/invoke/MethodHandle" ∧ yX6_fails.cls ≠ "java/lang/invoke/VarHandle" ∧ (parseMethodDescriptor yX6_fails.desc).map (fun d => d.parameters.length) = some 3 := by decide +kernel
set_option maxHeartbeats 2000000 in
theorem w_X6_fails_J26 {h : gH} {n : Nat} {o : Nat} {aM : (Nat → Int32)} {aS : (Nat → Int32)} {iU : Int32} {aB : (Nat → Int32)} {iL : Int32} {iE : Int32} {iP : Int32} {aR : (Nat → Int32)} {iW : Int32} {iT : Int32} {aT : (Nat → Int32)} {aC : (Nat → Int32)} {aH : (Nat → Int32)} {aE : (Nat → Int32)} {aQ : (Nat → Int32)} {iA : Int32} {iY : Int32} {iF : Int32} {iV : Int32} {aK : (Nat → Int32)} {s1 : Int32} {res : Int32 × Int32} (X : gXX x base RX6 cX6_fails 4 (some .boolean) p l s m args meth c) {H : Heap} {locs : List Loc} {ls : Array Slot} (hr : f_X6_fails_J26 s1 iT = some res) (hI : gI x base s.heap (mH h o aM aS iU aB iL iE iP aR iW iT aT aC aH aE aQ iA iY iF iV aK) n H locs) (hl : lv_has ls 4 [(0, .ref o)]) : W p l e rm_X6_fails s m args below meth c H locs 0 0 (MQ below (gQ x base (some (.int res.1)) (mH h o aM aS iU aB iL iE iP aR iW res.2 aT aC aH aE aQ iA iY iF iV aK) n) args s 0 0 (fun q => base ≤ q)) (F0 m 26 ls [.int s1, .ref o]) := by
  have hx := X.1
  have hb := X.2.1
  unfold f_X6_fails_J26 at hr
  refine m_put X hI mH_0 9 (by decide) q1661 rfl (by decide +kernel) (Nat.le_of_ble_eq_true rfl) rfl mH_iT dX6_fails_26 (fun H locs hI => ?_)
  refine lv_aload_n hx hb dX6_fails_29 rfl (lv_at hl 0 rfl) ?_
  refine m_get X hI mH_0 9 (by decide) q1661 rfl dX6_fails_30 ?_
  refine lv_if_le (tgt := 40) hx hb dX6_fails_33 (by decide) (fun c9 => ?_) (fun c9 => ?_)
  · replace hr := gIf_t c9 hr
    refine lv_iconst (v := 0) hx hb dX6_fails_40 (by decide) ?_
    have hr := gS_i hr
    subst hr
    exact g_iret X hI (g_narZ (Or.inl rfl)) (Nat.le_refl _) (Nat.le_refl _) dX6_fails_41
  · replace hr := gIf_f c9 hr
    refine lv_iconst (v := 1) hx hb dX6_fails_36 (by decide) ?_
    refine lv_goto (tgt := 41) hx hb dX6_fails_37 (by decide) ?_
    have hr := gS_i hr
    subst hr
    exact g_iret X hI (g_narZ (Or.inr rfl)) (Nat.le_refl _) (Nat.le_refl _) dX6_fails_41
set_option maxHeartbeats 2000000 in
theorem w_X6_fails {l : Launch} {x : gV} {base : Nat} {z1 : Int32} {z2 : Int32} {z3 : Int32} {h : gH} {n : Nat} {o : Nat} {aM : (Nat → Int32)} {aS : (Nat → Int32)} {iU : Int32} {aB : (Nat → Int32)} {iL : Int32} {iE : Int32} {iP : Int32} {aR : (Nat → Int32)} {iW : Int32} {iT : Int32} {aT : (Nat → Int32)} {aC : (Nat → Int32)} {aH : (Nat → Int32)} {aE : (Nat → Int32)} {aQ : (Nat → Int32)} {iA : Int32} {iY : Int32} {iF : Int32} {iV : Int32} {aK : (Nat → Int32)} {res : Int32 × Int32} (hr : f_X6_fails z1 z2 z3 iT = some res) : gM l yX6_fails (ws_ yX6_fails cX6_fails 4 (some .boolean)) rm_X6_fails x base [.ref o, .int z1, .int z2, .int z3] (mH h o aM aS iU aB iL iE iP aR iW iT aT aC aH aE aQ iA iY iF iV aK) n (some (.int res.1)) (mH h o aM aS iU aB iL iE iP aR iW res.2 aT aC aH aE aQ iA iY iF iV aK) n 0 0 := by
  refine g_met (cc := cX6_fails) (nL := 4) (ret := (some .boolean)) (by decide) (Nat.le_of_ble_eq_true rfl) (fun p e s m below meth c ls X hnm hl hI => ?_)
  have hl : lv_has ls 4 [(0, .ref o), (1, .int z1), (2, .int z2), (3, .int z3)] := hl
  have hx := X.1
  have hb := X.2.1
  unfold f_X6_fails at hr
  refine lv_aload_n hx hb dX6_fails_0 rfl (lv_at hl 0 rfl) ?_
  refine lv_iload_n hx hb dX6_fails_1 rfl (lv_at hl 1 rfl) ?_
  refine lv_if_eq (tgt := 9) hx hb dX6_fails_2 (by decide) (fun c9 => ?_) (fun c9 => ?_)
  · replace hr := gIf_t c9 hr
    refine lv_iload_n hx hb dX6_fails_9 rfl (lv_at hl 2 rfl) ?_
    refine lv_if_eq (tgt := 17) hx hb dX6_fails_10 (by decide) (fun c9 => ?_) (fun c9 => ?_)
    · replace hr := gIf_t c9 hr
      refine lv_iload_n hx hb dX6_fails_17 rfl (lv_at hl 3 rfl) ?_
      refine lv_if_eq (tgt := 25) hx hb dX6_fails_18 (by decide) (fun c9 => ?_) (fun c9 => ?_)
      · replace hr := gIf_t c9 hr
        refine lv_iconst (v := 0) hx hb dX6_fails_25 (by decide) ?_
        exact w_X6_fails_J26 X hr hI (lv_sub hl [0] rfl)
      · replace hr := gIf_f c9 hr
        refine lv_iconst (v := 3) hx hb dX6_fails_21 (by decide) ?_
        refine lv_goto (tgt := 26) hx hb dX6_fails_22 (by decide) ?_
        exact w_X6_fails_J26 X hr hI (lv_sub hl [0] rfl)
    · replace hr := gIf_f c9 hr
      refine lv_iconst (v := 2) hx hb dX6_fails_13 (by decide) ?_
      refine lv_goto (tgt := 26) hx hb dX6_fails_14 (by decide) ?_
      exact w_X6_fails_J26 X hr hI (lv_sub hl [0] rfl)
  · replace hr := gIf_f c9 hr
    refine lv_iconst (v := 1) hx hb dX6_fails_5 (by decide) ?_
    refine lv_goto (tgt := 26) hx hb dX6_fails_6 (by decide) ?_
    exact w_X6_fails_J26 X hr hI (lv_sub hl [0] rfl)
abbrev rm_X6_appendWord : Room := { frames := 0, cells := 0, slots := 0, locals := 0 }
theorem hd_X6_appendWord : yX6_appendWord.cls = RX6 ∧ yX6_appendWord.cls ≠ "java/lang/invoke/MethodHandle" ∧ yX6_appendWord.cls ≠ "java/lang/invoke/VarHandle" ∧ (parseMethodDescriptor yX6_appendWord.desc).map (fun d => d.parameters.length) = some 1 := by decide +kernel
set_option maxHeartbeats 2000000 in
theorem w_X6_appendWord_L3 {h : gH} {n : Nat} {o : Nat} {aM : (Nat → Int32)} {aS : (Nat → Int32)} {iU : Int32} {iE : Int32} {iP : Int32} {aR : (Nat → Int32)} {iW : Int32} {iT : Int32} {aT : (Nat → Int32)} {aC : (Nat → Int32)} {aH : (Nat → Int32)} {aE : (Nat → Int32)} {aQ : (Nat → Int32)} {iA : Int32} {iY : Int32} {iF : Int32} {iV : Int32} {aK : (Nat → Int32)} {z1 : Int32} {res : (Nat → Int32) × Int32} (X : gXX x base RX6 cX6_appendWord 3 none p l s m args meth c) : ∀ (k : Nat) {z2 : Int32} {aB : (Nat → Int32)} {iL : Int32} {H : Heap} {locs : List Loc} {ls : Array Slot}, gL3 (f_X6_appendWord_L3 z1) k z2 aB iL = some res → gI x base s.heap (mH h o aM aS iU aB iL iE iP aR iW iT aT aC aH aE aQ iA iY iF iV aK) n H locs → lv_has ls 3 [(0, .ref o), (1, .int z1), (2, .int z2)] → W p l e rm_X6_appendWord s m args below meth c H locs 0 0 (MQ below (gQ x base none (mH h o aM aS iU res.1 res.2 iE iP aR iW iT aT aC aH aE aQ iA iY iF iV aK) n) args s 0 0 (fun q => base ≤ q)) (F0 m 3 ls []) := by
  have hx := X.1
  have hb := X.2.1
  intro k
  induction k with
  | zero =>
    intros
    rename_i hr _ _
    exact nomatch (show (none : Option _) = some _ from hr)
  | succ k ih =>
    intro z2 aB iL H locs ls hr hI hl
    replace hr : f_X6_appendWord_L3 z1 (gL3 (f_X6_appendWord_L3 z1) k) z2 aB iL = some res := hr
    unfold f_X6_appendWord_L3 at hr
    refine lv_iload_n hx hb dX6_appendWord_3 rfl (lv_at hl 2 rfl) ?_
    refine lv_if_lt (tgt := 39) hx hb dX6_appendWord_4 (by decide) (fun c9 => ?_) (fun c9 => ?_)
    · replace hr := gIf_t c9 hr
      have hr := gS_i hr
      subst hr
      exact g_vret X hI (Nat.le_refl _) (Nat.le_refl _) dX6_appendWord_39
    · replace hr := gIf_f c9 hr
      refine lv_aload_n hx hb dX6_appendWord_7 rfl (lv_at hl 0 rfl) ?_
      refine m_get X hI mH_0 3 (by decide) q1655 rfl dX6_appendWord_8 ?_
      refine lv_aload_n hx hb dX6_appendWord_11 rfl (lv_at hl 0 rfl) ?_
      refine m_get X hI mH_0 4 (by decide) q1656 rfl dX6_appendWord_12 ?_
      refine lv_iload_n hx hb dX6_appendWord_15 rfl (lv_at hl 1 rfl) ?_
      refine lv_iload_n hx hb dX6_appendWord_16 rfl (lv_at hl 2 rfl) ?_
      refine lv_ishr hx hb dX6_appendWord_17 ?_
      refine lv_sipush (v := 255) hx hb dX6_appendWord_18 (by decide) ?_
      refine lv_iand hx hb dX6_appendWord_21 ?_
      refine m_iast X hI mH_aaB mH_saB hr dX6_appendWord_22 (fun aB_1 H locs hI hr => ?_)
      refine lv_aload_n hx hb dX6_appendWord_23 rfl (lv_at hl 0 rfl) ?_
      refine lv_dup hx hb dX6_appendWord_24 rfl ?_
      refine m_get X hI mH_0 4 (by decide) q1656 rfl dX6_appendWord_25 ?_
      refine lv_iconst (v := 1) hx hb dX6_appendWord_28 (by decide) ?_
      refine lv_iadd hx hb dX6_appendWord_29 ?_
      refine m_put X hI mH_0 4 (by decide) q1656 rfl (by decide +kernel) (Nat.le_of_ble_eq_true rfl) rfl mH_iL dX6_appendWord_30 (fun H locs hI => ?_)
      refine lv_iinc (v := (z2 + (-8 : Int32))) (lv' := [(2, .int (z2 + (-8 : Int32))), (0, .ref o), (1, .int z1)]) hx hb dX6_appendWord_33 hl (k := 2) rfl (g_inc (by decide)) (by decide) rfl (fun ls hl => ?_)
      refine lv_goto (tgt := 3) hx hb dX6_appendWord_36 (by decide) ?_
      exact ih hr hI (lv_sub hl [1, 2, 0] rfl)
set_option maxHeartbeats 2000000 in
theorem w_X6_appendWord {l : Launch} {x : gV} {base : Nat} {z1 : Int32} {h : gH} {n : Nat} {o : Nat} {aM : (Nat → Int32)} {aS : (Nat → Int32)} {iU : Int32} {aB : (Nat → Int32)} {iL : Int32} {iE : Int32} {iP : Int32} {aR : (Nat → Int32)} {iW : Int32} {iT : Int32} {aT : (Nat → Int32)} {aC : (Nat → Int32)} {aH : (Nat → Int32)} {aE : (Nat → Int32)} {aQ : (Nat → Int32)} {iA : Int32} {iY : Int32} {iF : Int32} {iV : Int32} {aK : (Nat → Int32)} {res : (Nat → Int32) × Int32} (hr : f_X6_appendWord z1 aB iL = some res) : gM l yX6_appendWord (ws_ yX6_appendWord cX6_appendWord 3 none) rm_X6_appendWord x base [.ref o, .int z1] (mH h o aM aS iU aB iL iE iP aR iW iT aT aC aH aE aQ iA iY iF iV aK) n none (mH h o aM aS iU res.1 res.2 iE iP aR iW iT aT aC aH aE aQ iA iY iF iV aK) n 0 0 := by
  refine g_met (cc := cX6_appendWord) (nL := 3) (ret := none) (by decide) (Nat.le_of_ble_eq_true rfl) (fun p e s m below meth c ls X hnm hl hI => ?_)
  have hl : lv_has ls 3 [(0, .ref o), (1, .int z1)] := hl
  have hx := X.1
  have hb := X.2.1
  unfold f_X6_appendWord at hr
  refine lv_bipush (v := 24) hx hb dX6_appendWord_0 (by decide) ?_
  refine lv_istore_n (lv' := [(2, .int (24 : Int32)), (0, .ref o), (1, .int z1)]) hx hb dX6_appendWord_2 rfl hl (by decide) rfl (fun ls hl => ?_)
  exact w_X6_appendWord_L3 X gN hr hI (lv_sub hl [1, 2, 0] rfl)
abbrev rm_X6_append : Room := { frames := 1, cells := 0, slots := 0, locals := 23 }
theorem hd_X6_append : yX6_append.cls = RX6 ∧ yX6_append.cls ≠ "java/lang/invoke/MethodHandle" ∧ yX6_append.cls ≠ "java/lang/invoke/VarHandle" ∧ (parseMethodDescriptor yX6_append.desc).map (fun d => d.parameters.length) = some 5 := by decide +kernel
set_option maxHeartbeats 2000000 in
theorem w_X6_append_J19 {h : gH} {n : Nat} {o : Nat} {aM : (Nat → Int32)} {aS : (Nat → Int32)} {iU : Int32} {aB : (Nat → Int32)} {iL : Int32} {iE : Int32} {iP : Int32} {aR : (Nat → Int32)} {iW : Int32} {iT : Int32} {aT : (Nat → Int32)} {aC : (Nat → Int32)} {aH : (Nat → Int32)} {aE : (Nat → Int32)} {aQ : (Nat → Int32)} {iA : Int32} {iY : Int32} {iF : Int32} {iV : Int32} {aK : (Nat → Int32)} {z1 : Int32} {z2 : Int32} {z3 : Int32} {z4 : Int32} {z5 : Int32} {s1 : Int32} {res : Int32 × (Nat → Int32) × Int32 × Int32} (X : gXX x base RX6 cX6_append 6 (some .int) p l s m args meth c) {H : Heap} {locs : List Loc} {ls : Array Slot} (hr : f_X6_append_J19 z1 z2 z3 z4 z5 s1 aB iL iT = some res) (hI : gI x base s.heap (mH h o aM aS iU aB iL iE iP aR iW iT aT aC aH aE aQ iA iY iF iV aK) n H locs) (hl : lv_has ls 6 [(0, .ref o), (1, .int z1), (2, .int z2), (3, .int z3), (4, .int z4), (5, .int z5)]) : W p l e rm_X6_append s m args below meth c H locs 0 0 (MQ below (gQ x base (some (.int res.1)) (mH h o aM aS iU res.2.1 res.2.2.1 iE iP aR iW res.2.2.2 aT aC aH aE aQ iA iY iF iV aK) n) args s 0 0 (fun q => base ≤ q)) (F0 m 19 ls [.int s1, .ref o]) := by
  have hx := X.1
  have hb := X.2.1
  unfold f_X6_append_J19 at hr
  refine lv_iconst (v := 0) hx hb dX6_append_19 (by decide) ?_
  refine lv_iconst (v := 0) hx hb dX6_append_20 (by decide) ?_
  obtain ⟨v2, iT_3, hc1, hr⟩ := gT2_i hr
  refine gRun_i (g_runV X hI (w_X6_fails hc1) (g_obj_s mH_0) rfl hl (lw_V q1717 q1719 qs45 q122 q1720) rfl rfl hd_X6_fails ⟨Nat.le_of_ble_eq_true rfl, Nat.le_of_ble_eq_true rfl⟩ (as := [.int s1, .int (0 : Int32), .int (0 : Int32)]) (rest := []) rfl rfl (Nat.le_of_ble_eq_true rfl) ⟨(Nat.le_refl _), (Nat.le_refl _)⟩ dX6_append_21) (fun H locs hI => ?_)
  refine lv_if_eq (tgt := 29) hx hb dX6_append_24 (by decide) (fun c9 => ?_) (fun c9 => ?_)
  · replace hr := gIf_t c9 hr
    refine lv_aload_n hx hb dX6_append_29 rfl (lv_at hl 0 rfl) ?_
    refine lv_iload_n hx hb dX6_append_30 rfl (lv_at hl 1 rfl) ?_
    obtain ⟨aB_5, iL_6, hc4, hr⟩ := gT2_i hr
    refine gRun_v (g_runV X hI (w_X6_appendWord hc4) (g_obj_s mH_0) rfl hl (lw_V q1721 q1723 qs46 q122 q1724) rfl rfl hd_X6_appendWord ⟨Nat.le_of_ble_eq_true rfl, Nat.le_of_ble_eq_true rfl⟩ (as := [.int z1]) (rest := []) rfl rfl (Nat.le_of_ble_eq_true rfl) ⟨(Nat.le_refl _), (Nat.le_refl _)⟩ dX6_append_31) (fun H locs hI => ?_)
    refine lv_aload_n hx hb dX6_append_34 rfl (lv_at hl 0 rfl) ?_
    refine lv_iload_n hx hb dX6_append_35 rfl (lv_at hl 2 rfl) ?_
    obtain ⟨aB_8, iL_9, hc7, hr⟩ := gT2_i hr
    refine gRun_v (g_runV X hI (w_X6_appendWord hc7) (g_obj_s mH_0) rfl hl (lw_V q1721 q1723 qs46 q122 q1724) rfl rfl hd_X6_appendWord ⟨Nat.le_of_ble_eq_true rfl, Nat.le_of_ble_eq_true rfl⟩ (as := [.int z2]) (rest := []) rfl rfl (Nat.le_of_ble_eq_true rfl) ⟨(Nat.le_refl _), (Nat.le_refl _)⟩ dX6_append_36) (fun H locs hI => ?_)
    refine lv_aload_n hx hb dX6_append_39 rfl (lv_at hl 0 rfl) ?_
    refine lv_iload_n hx hb dX6_append_40 rfl (lv_at hl 3 rfl) ?_
    obtain ⟨aB_11, iL_12, hc10, hr⟩ := gT2_i hr
    refine gRun_v (g_runV X hI (w_X6_appendWord hc10) (g_obj_s mH_0) rfl hl (lw_V q1721 q1723 qs46 q122 q1724) rfl rfl hd_X6_appendWord ⟨Nat.le_of_ble_eq_true rfl, Nat.le_of_ble_eq_true rfl⟩ (as := [.int z3]) (rest := []) rfl rfl (Nat.le_of_ble_eq_true rfl) ⟨(Nat.le_refl _), (Nat.le_refl _)⟩ dX6_append_41) (fun H locs hI => ?_)
    refine lv_aload_n hx hb dX6_append_44 rfl (lv_at hl 0 rfl) ?_
    refine lv_iload hx hb dX6_append_45 (lv_at hl 4 rfl) ?_
    obtain ⟨aB_14, iL_15, hc13, hr⟩ := gT2_i hr
    refine gRun_v (g_runV X hI (w_X6_appendWord hc13) (g_obj_s mH_0) rfl hl (lw_V q1721 q1723 qs46 q122 q1724) rfl rfl hd_X6_appendWord ⟨Nat.le_of_ble_eq_true rfl, Nat.le_of_ble_eq_true rfl⟩ (as := [.int z4]) (rest := []) rfl rfl (Nat.le_of_ble_eq_true rfl) ⟨(Nat.le_refl _), (Nat.le_refl _)⟩ dX6_append_47) (fun H locs hI => ?_)
    refine lv_aload_n hx hb dX6_append_50 rfl (lv_at hl 0 rfl) ?_
    refine lv_iload hx hb dX6_append_51 (lv_at hl 5 rfl) ?_
    obtain ⟨aB_17, iL_18, hc16, hr⟩ := gT2_i hr
    refine gRun_v (g_runV X hI (w_X6_appendWord hc16) (g_obj_s mH_0) rfl hl (lw_V q1721 q1723 qs46 q122 q1724) rfl rfl hd_X6_appendWord ⟨Nat.le_of_ble_eq_true rfl, Nat.le_of_ble_eq_true rfl⟩ (as := [.int z5]) (rest := []) rfl rfl (Nat.le_of_ble_eq_true rfl) ⟨(Nat.le_refl _), (Nat.le_refl _)⟩ dX6_append_53) (fun H locs hI => ?_)
    refine lv_aload_n hx hb dX6_append_56 rfl (lv_at hl 0 rfl) ?_
    refine m_get X hI mH_0 4 (by decide) q1656 rfl dX6_append_57 ?_
    have hr := gS_i hr
    subst hr
    exact g_iret X hI rfl (Nat.le_refl _) (Nat.le_refl _) dX6_append_60
  · replace hr := gIf_f c9 hr
    refine lv_iconst (v := 0) hx hb dX6_append_27 (by decide) ?_
    have hr := gS_i hr
    subst hr
    exact g_iret X hI rfl (Nat.le_refl _) (Nat.le_refl _) dX6_append_28
set_option maxHeartbeats 2000000 in
theorem w_X6_append {l : Launch} {x : gV} {base : Nat} {z1 : Int32} {z2 : Int32} {z3 : Int32} {z4 : Int32} {z5 : Int32} {h : gH} {n : Nat} {o : Nat} {aM : (Nat → Int32)} {aS : (Nat → Int32)} {iU : Int32} {aB : (Nat → Int32)} {iL : Int32} {iE : Int32} {iP : Int32} {aR : (Nat → Int32)} {iW : Int32} {iT : Int32} {aT : (Nat → Int32)} {aC : (Nat → Int32)} {aH : (Nat → Int32)} {aE : (Nat → Int32)} {aQ : (Nat → Int32)} {iA : Int32} {iY : Int32} {iF : Int32} {iV : Int32} {aK : (Nat → Int32)} {res : Int32 × (Nat → Int32) × Int32 × Int32} (hr : f_X6_append z1 z2 z3 z4 z5 aB iL iT = some res) : gM l yX6_append (ws_ yX6_append cX6_append 6 (some .int)) rm_X6_append x base [.ref o, .int z1, .int z2, .int z3, .int z4, .int z5] (mH h o aM aS iU aB iL iE iP aR iW iT aT aC aH aE aQ iA iY iF iV aK) n (some (.int res.1)) (mH h o aM aS iU res.2.1 res.2.2.1 iE iP aR iW res.2.2.2 aT aC aH aE aQ iA iY iF iV aK) n 0 0 := by
  refine g_met (cc := cX6_append) (nL := 6) (ret := (some .int)) (by decide) (Nat.le_of_ble_eq_true rfl) (fun p e s m below meth c ls X hnm hl hI => ?_)
  have hl : lv_has ls 6 [(0, .ref o), (1, .int z1), (2, .int z2), (3, .int z3), (4, .int z4), (5, .int z5)] := hl
  have hx := X.1
  have hb := X.2.1
  unfold f_X6_append at hr
  refine lv_aload_n hx hb dX6_append_0 rfl (lv_at hl 0 rfl) ?_
  refine lv_aload_n hx hb dX6_append_1 rfl (lv_at hl 0 rfl) ?_
  refine m_get X hI mH_0 4 (by decide) q1656 rfl dX6_append_2 ?_
  refine lv_bipush (v := 20) hx hb dX6_append_5 (by decide) ?_
  refine lv_iadd hx hb dX6_append_7 ?_
  refine lv_sipush (v := 600) hx hb dX6_append_8 (by decide) ?_
  refine lv_icmp_le (tgt := 18) hx hb dX6_append_11 (by decide) (fun c9 => ?_) (fun c9 => ?_)
  · replace hr := gIf_t c9 hr
    refine lv_iconst (v := 0) hx hb dX6_append_18 (by decide) ?_
    exact w_X6_append_J19 X hr hI (lv_sub hl [0, 1, 2, 3, 4, 5] rfl)
  · replace hr := gIf_f c9 hr
    refine lv_iconst (v := 1) hx hb dX6_append_14 (by decide) ?_
    refine lv_goto (tgt := 19) hx hb dX6_append_15 (by decide) ?_
    exact w_X6_append_J19 X hr hI (lv_sub hl [0, 1, 2, 3, 4, 5] rfl)
abbrev rm_X6_truncate : Room := { frames := 1, cells := 0, slots := 0, locals := 23 }
theorem hd_X6_truncate : yX6_truncate.cls = RX6 ∧ yX6_truncate.cls ≠ "java/lang/invoke/MethodHandle" ∧ yX6_truncate.cls ≠ "java/lang/invoke/VarHandle" ∧ (parseMethodDescriptor yX6_truncate.desc).map (fun d => d.parameters.length) = some 1 := by decide +kernel
set_option maxHeartbeats 2000000 in
theorem w_X6_truncate_J18 {h : gH} {n : Nat} {o : Nat} {aM : (Nat → Int32)} {aS : (Nat → Int32)} {iU : Int32} {aB : (Nat → Int32)} {iL : Int32} {iE : Int32} {iP : Int32} {aR : (Nat → Int32)} {iW : Int32} {iT : Int32} {aT : (Nat → Int32)} {aC : (Nat → Int32)} {aH : (Nat → Int32)} {aE : (Nat → Int32)} {aQ : (Nat → Int32)} {iA : Int32} {iY : Int32} {iF : Int32} {iV : Int32} {aK : (Nat → Int32)} {z1 : Int32} {s1 : Int32} {res : Int32 × Int32 × Int32} (X : gXX x base RX6 cX6_truncate 2 (some .int) p l s m args meth c) {H : Heap} {locs : List Loc} {ls : Array Slot} (hr : f_X6_truncate_J18 z1 s1 iL iT = some res) (hI : gI x base s.heap (mH h o aM aS iU aB iL iE iP aR iW iT aT aC aH aE aQ iA iY iF iV aK) n H locs) (hl : lv_has ls 2 [(0, .ref o), (1, .int z1)]) : W p l e rm_X6_truncate s m args below meth c H locs 0 0 (MQ below (gQ x base (some (.int res.1)) (mH h o aM aS iU aB res.2.1 iE iP aR iW res.2.2 aT aC aH aE aQ iA iY iF iV aK) n) args s 0 0 (fun q => base ≤ q)) (F0 m 18 ls [.int s1, .ref o]) := by
  have hx := X.1
  have hb := X.2.1
  unfold f_X6_truncate_J18 at hr
  refine lv_iconst (v := 0) hx hb dX6_truncate_18 (by decide) ?_
  refine lv_iconst (v := 0) hx hb dX6_truncate_19 (by decide) ?_
  obtain ⟨v4, iT_5, hc3, hr⟩ := gT2_i hr
  refine gRun_i (g_runV X hI (w_X6_fails hc3) (g_obj_s mH_0) rfl hl (lw_V q1717 q1719 qs45 q122 q1720) rfl rfl hd_X6_fails ⟨Nat.le_of_ble_eq_true rfl, Nat.le_of_ble_eq_true rfl⟩ (as := [.int s1, .int (0 : Int32), .int (0 : Int32)]) (rest := []) rfl rfl (Nat.le_of_ble_eq_true rfl) ⟨(Nat.le_refl _), (Nat.le_refl _)⟩ dX6_truncate_20) (fun H locs hI => ?_)
  refine lv_if_eq (tgt := 28) hx hb dX6_truncate_23 (by decide) (fun c9 => ?_) (fun c9 => ?_)
  · replace hr := gIf_t c9 hr
    refine lv_aload_n hx hb dX6_truncate_28 rfl (lv_at hl 0 rfl) ?_
    refine lv_iload_n hx hb dX6_truncate_29 rfl (lv_at hl 1 rfl) ?_
    refine m_put X hI mH_0 4 (by decide) q1656 rfl (by decide +kernel) (Nat.le_of_ble_eq_true rfl) rfl mH_iL dX6_truncate_30 (fun H locs hI => ?_)
    refine lv_iload_n hx hb dX6_truncate_33 rfl (lv_at hl 1 rfl) ?_
    have hr := gS_i hr
    subst hr
    exact g_iret X hI rfl (Nat.le_refl _) (Nat.le_refl _) dX6_truncate_34
  · replace hr := gIf_f c9 hr
    refine lv_iconst (v := 0) hx hb dX6_truncate_26 (by decide) ?_
    have hr := gS_i hr
    subst hr
    exact g_iret X hI rfl (Nat.le_refl _) (Nat.le_refl _) dX6_truncate_27
set_option maxHeartbeats 2000000 in
theorem w_X6_truncate {l : Launch} {x : gV} {base : Nat} {z1 : Int32} {h : gH} {n : Nat} {o : Nat} {aM : (Nat → Int32)} {aS : (Nat → Int32)} {iU : Int32} {aB : (Nat → Int32)} {iL : Int32} {iE : Int32} {iP : Int32} {aR : (Nat → Int32)} {iW : Int32} {iT : Int32} {aT : (Nat → Int32)} {aC : (Nat → Int32)} {aH : (Nat → Int32)} {aE : (Nat → Int32)} {aQ : (Nat → Int32)} {iA : Int32} {iY : Int32} {iF : Int32} {iV : Int32} {aK : (Nat → Int32)} {res : Int32 × Int32 × Int32} (hr : f_X6_truncate z1 iL iT = some res) : gM l yX6_truncate (ws_ yX6_truncate cX6_truncate 2 (some .int)) rm_X6_truncate x base [.ref o, .int z1] (mH h o aM aS iU aB iL iE iP aR iW iT aT aC aH aE aQ iA iY iF iV aK) n (some (.int res.1)) (mH h o aM aS iU aB res.2.1 iE iP aR iW res.2.2 aT aC aH aE aQ iA iY iF iV aK) n 0 0 := by
  refine g_met (cc := cX6_truncate) (nL := 2) (ret := (some .int)) (by decide) (Nat.le_of_ble_eq_true rfl) (fun p e s m below meth c ls X hnm hl hI => ?_)
  have hl : lv_has ls 2 [(0, .ref o), (1, .int z1)] := hl
  have hx := X.1
  have hb := X.2.1
  unfold f_X6_truncate at hr
  refine lv_aload_n hx hb dX6_truncate_0 rfl (lv_at hl 0 rfl) ?_
  refine lv_iload_n hx hb dX6_truncate_1 rfl (lv_at hl 1 rfl) ?_
  refine lv_iconst (v := 0) hx hb dX6_truncate_2 (by decide) ?_
  refine lv_aload_n hx hb dX6_truncate_3 rfl (lv_at hl 0 rfl) ?_
  refine m_get X hI mH_0 4 (by decide) q1656 rfl dX6_truncate_4 ?_
  obtain ⟨v2, hc1, hr⟩ := gB_i hr
  refine gRun_i (g_runS X hI (w_X6_in hc1) hl (lw_S q1628 q1629 q122 q1630) rfl rfl hd_X6_in ⟨Nat.le_of_ble_eq_true rfl, Nat.le_of_ble_eq_true rfl⟩ (as := [.int z1, .int (0 : Int32), .int iL]) (rest := [.ref o]) rfl rfl (Nat.le_of_ble_eq_true rfl) ⟨(Nat.le_refl _), (Nat.le_refl _)⟩ dX6_truncate_7) (fun H locs hI => ?_)
  refine lv_if_ne (tgt := 17) hx hb dX6_truncate_10 (by decide) (fun c9 => ?_) (fun c9 => ?_)
  · replace hr := gIf_f c9 hr
    refine lv_iconst (v := 0) hx hb dX6_truncate_17 (by decide) ?_
    exact w_X6_truncate_J18 X hr hI (lv_sub hl [0, 1] rfl)
  · replace hr := gIf_t c9 hr
    refine lv_iconst (v := 1) hx hb dX6_truncate_13 (by decide) ?_
    refine lv_goto (tgt := 18) hx hb dX6_truncate_14 (by decide) ?_
    exact w_X6_truncate_J18 X hr hI (lv_sub hl [0, 1] rfl)
abbrev rm_X6_copyBlock : Room := { frames := 0, cells := 0, slots := 0, locals := 0 }
theorem hd_X6_copyBlock : yX6_copyBlock.cls = RX6 ∧ yX6_copyBlock.cls ≠ "java/lang/invoke/MethodHandle" ∧ yX6_copyBlock.cls ≠ "java/lang/invoke/VarHandle" ∧ (parseMethodDescriptor yX6_copyBlock.desc).map (fun d => d.parameters.length) = some 2 := by decide +kernel
set_option maxHeartbeats 2000000 in
theorem w_X6_copyBlock_L2 {h : gH} {n : Nat} {o : Nat} {aS : (Nat → Int32)} {iU : Int32} {aB : (Nat → Int32)} {iL : Int32} {iE : Int32} {iP : Int32} {aR : (Nat → Int32)} {iW : Int32} {iT : Int32} {aT : (Nat → Int32)} {aC : (Nat → Int32)} {aH : (Nat → Int32)} {aE : (Nat → Int32)} {aQ : (Nat → Int32)} {iA : Int32} {iY : Int32} {iF : Int32} {iV : Int32} {aK : (Nat → Int32)} {z1 : Int32} {z2 : Int32} {res : (Nat → Int32)} (X : gXX x base RX6 cX6_copyBlock 4 none p l s m args meth c) : ∀ (k : Nat) {z3 : Int32} {aM : (Nat → Int32)} {H : Heap} {locs : List Loc} {ls : Array Slot}, gL2 (f_X6_copyBlock_L2 z1 z2) k z3 aM = some res → gI x base s.heap (mH h o aM aS iU aB iL iE iP aR iW iT aT aC aH aE aQ iA iY iF iV aK) n H locs → lv_has ls 4 [(0, .ref o), (1, .int z1), (2, .int z2), (3, .int z3)] → W p l e rm_X6_copyBlock s m args below meth c H locs 0 0 (MQ below (gQ x base none (mH h o res aS iU aB iL iE iP aR iW iT aT aC aH aE aQ iA iY iF iV aK) n) args s 0 0 (fun q => base ≤ q)) (F0 m 2 ls []) := by
  have hx := X.1
  have hb := X.2.1
  intro k
  induction k with
  | zero =>
    intros
    rename_i hr _ _
    exact nomatch (show (none : Option _) = some _ from hr)
  | succ k ih =>
    intro z3 aM H locs ls hr hI hl
    replace hr : f_X6_copyBlock_L2 z1 z2 (gL2 (f_X6_copyBlock_L2 z1 z2) k) z3 aM = some res := hr
    unfold f_X6_copyBlock_L2 at hr
    refine lv_iload_n hx hb dX6_copyBlock_2 rfl (lv_at hl 3 rfl) ?_
    refine lv_sipush (v := 212) hx hb dX6_copyBlock_3 (by decide) ?_
    refine lv_icmp_ge (tgt := 39) hx hb dX6_copyBlock_6 (by decide) (fun c9 => ?_) (fun c9 => ?_)
    · replace hr := gIf_t c9 hr
      have hr := gS_i hr
      subst hr
      exact g_vret X hI (Nat.le_refl _) (Nat.le_refl _) dX6_copyBlock_39
    · replace hr := gIf_f c9 hr
      refine lv_aload_n hx hb dX6_copyBlock_9 rfl (lv_at hl 0 rfl) ?_
      refine m_get X hI mH_0 0 (by decide) q1652 rfl dX6_copyBlock_10 ?_
      refine lv_iload_n hx hb dX6_copyBlock_13 rfl (lv_at hl 2 rfl) ?_
      refine lv_sipush (v := 212) hx hb dX6_copyBlock_14 (by decide) ?_
      refine lv_imul hx hb dX6_copyBlock_17 ?_
      refine lv_iload_n hx hb dX6_copyBlock_18 rfl (lv_at hl 3 rfl) ?_
      refine lv_iadd hx hb dX6_copyBlock_19 ?_
      refine lv_aload_n hx hb dX6_copyBlock_20 rfl (lv_at hl 0 rfl) ?_
      refine m_get X hI mH_0 0 (by decide) q1652 rfl dX6_copyBlock_21 ?_
      refine lv_iload_n hx hb dX6_copyBlock_24 rfl (lv_at hl 1 rfl) ?_
      refine lv_sipush (v := 212) hx hb dX6_copyBlock_25 (by decide) ?_
      refine lv_imul hx hb dX6_copyBlock_28 ?_
      refine lv_iload_n hx hb dX6_copyBlock_29 rfl (lv_at hl 3 rfl) ?_
      refine lv_iadd hx hb dX6_copyBlock_30 ?_
      refine m_iald X hI mH_aaM hr dX6_copyBlock_31 (fun v1 hr => ?_)
      refine m_iast X hI mH_aaM mH_saM hr dX6_copyBlock_32 (fun aM_2 H locs hI hr => ?_)
      refine lv_iinc (v := (z3 + (1 : Int32))) (lv' := [(3, .int (z3 + (1 : Int32))), (0, .ref o), (1, .int z1), (2, .int z2)]) hx hb dX6_copyBlock_33 hl (k := 3) rfl (g_inc (by decide)) (by decide) rfl (fun ls hl => ?_)
      refine lv_goto (tgt := 2) hx hb dX6_copyBlock_36 (by decide) ?_
      exact ih hr hI (lv_sub hl [1, 2, 3, 0] rfl)
set_option maxHeartbeats 2000000 in
theorem w_X6_copyBlock {l : Launch} {x : gV} {base : Nat} {z1 : Int32} {z2 : Int32} {h : gH} {n : Nat} {o : Nat} {aM : (Nat → Int32)} {aS : (Nat → Int32)} {iU : Int32} {aB : (Nat → Int32)} {iL : Int32} {iE : Int32} {iP : Int32} {aR : (Nat → Int32)} {iW : Int32} {iT : Int32} {aT : (Nat → Int32)} {aC : (Nat → Int32)} {aH : (Nat → Int32)} {aE : (Nat → Int32)} {aQ : (Nat → Int32)} {iA : Int32} {iY : Int32} {iF : Int32} {iV : Int32} {aK : (Nat → Int32)} {res : (Nat → Int32)} (hr : f_X6_copyBlock z1 z2 aM = some res) : gM l yX6_copyBlock (ws_ yX6_copyBlock cX6_copyBlock 4 none) rm_X6_copyBlock x base [.ref o, .int z1, .int z2] (mH h o aM aS iU aB iL iE iP aR iW iT aT aC aH aE aQ iA iY iF iV aK) n none (mH h o res aS iU aB iL iE iP aR iW iT aT aC aH aE aQ iA iY iF iV aK) n 0 0 := by
  refine g_met (cc := cX6_copyBlock) (nL := 4) (ret := none) (by decide) (Nat.le_of_ble_eq_true rfl) (fun p e s m below meth c ls X hnm hl hI => ?_)
  have hl : lv_has ls 4 [(0, .ref o), (1, .int z1), (2, .int z2)] := hl
  have hx := X.1
  have hb := X.2.1
  unfold f_X6_copyBlock at hr
  refine lv_iconst (v := 0) hx hb dX6_copyBlock_0 (by decide) ?_
  refine lv_istore_n (lv' := [(3, .int (0 : Int32)), (0, .ref o), (1, .int z1), (2, .int z2)]) hx hb dX6_copyBlock_1 rfl hl (by decide) rfl (fun ls hl => ?_)
  exact w_X6_copyBlock_L2 X gN hr hI (lv_sub hl [1, 2, 3, 0] rfl)
abbrev rm_X6_load : Room := { frames := 9, cells := 0, slots := 0, locals := 466 }
theorem hd_X6_load : yX6_load.cls = RX6 ∧ yX6_load.cls ≠ "java/lang/invoke/MethodHandle" ∧ yX6_load.cls ≠ "java/lang/invoke/VarHandle" ∧ (parseMethodDescriptor yX6_load.desc).map (fun d => d.parameters.length) = some 0 := by decide +kernel
set_option maxHeartbeats 2000000 in
theorem w_X6_load_J42 {h : gH} {n : Nat} {o : Nat} {aM : (Nat → Int32)} {aS : (Nat → Int32)} {iU : Int32} {aB : (Nat → Int32)} {iL : Int32} {iE : Int32} {iP : Int32} {aR : (Nat → Int32)} {iW : Int32} {iT : Int32} {aT : (Nat → Int32)} {aC : (Nat → Int32)} {aH : (Nat → Int32)} {aE : (Nat → Int32)} {aQ : (Nat → Int32)} {iA : Int32} {iY : Int32} {iF : Int32} {iV : Int32} {aK : (Nat → Int32)} {s1 : Int32} {res : Int32 × (Nat → Int32) × (Nat → Int32) × Int32 × Int32 × Int32 × Int32 × Int32 × Int32 × Int32 × Int32 × Int32} (X : gXX x base RX6 cX6_load 2 (some .int) p l s m args meth c) {H : Heap} {locs : List Loc} {ls : Array Slot} (hr : f_X6_load_J42 x s1 aM aS iU aB iL iE iP iT iA iY iF iV = some res) (hI : gI x base s.heap (mH h o aM aS iU aB iL iE iP aR iW iT aT aC aH aE aQ iA iY iF iV aK) n H locs) (hl : lv_has ls 2 [(0, .ref o)]) : W p l e rm_X6_load s m args below meth c H locs 0 0 (MQ below (gQ x base (some (.int res.1)) (mH h o res.2.1 res.2.2.1 res.2.2.2.1 aB res.2.2.2.2.1 res.2.2.2.2.2.1 res.2.2.2.2.2.2.1 aR iW res.2.2.2.2.2.2.2.1 aT aC aH aE aQ res.2.2.2.2.2.2.2.2.1 res.2.2.2.2.2.2.2.2.2.1 res.2.2.2.2.2.2.2.2.2.2.1 res.2.2.2.2.2.2.2.2.2.2.2 aK) n) args s 0 0 (fun q => base ≤ q)) (F0 m 42 ls [.int s1, .ref o]) := by
  have hx := X.1
  have hb := X.2.1
  unfold f_X6_load_J42 at hr
  refine lv_iconst (v := 0) hx hb dX6_load_42 (by decide) ?_
  refine lv_iconst (v := 0) hx hb dX6_load_43 (by decide) ?_
  obtain ⟨v20, iT_21, hc19, hr⟩ := gT2_i hr
  refine gRun_i (g_runV X hI (w_X6_fails hc19) (g_obj_s mH_0) rfl hl (lw_V q1717 q1719 qs45 q122 q1720) rfl rfl hd_X6_fails ⟨Nat.le_of_ble_eq_true rfl, Nat.le_of_ble_eq_true rfl⟩ (as := [.int s1, .int (0 : Int32), .int (0 : Int32)]) (rest := []) rfl rfl (Nat.le_of_ble_eq_true rfl) ⟨(Nat.le_refl _), (Nat.le_refl _)⟩ dX6_load_44) (fun H locs hI => ?_)
  refine lv_if_eq (tgt := 52) hx hb dX6_load_47 (by decide) (fun c9 => ?_) (fun c9 => ?_)
  · replace hr := gIf_t c9 hr
    refine lv_aload_n hx hb dX6_load_52 rfl (lv_at hl 0 rfl) ?_
    refine lv_iconst (v := 0) hx hb dX6_load_53 (by decide) ?_
    refine m_put X hI mH_0 2 (by decide) q1654 rfl (by decide +kernel) (Nat.le_of_ble_eq_true rfl) rfl mH_iU dX6_load_54 (fun H locs hI => ?_)
    refine lv_aload_n hx hb dX6_load_57 rfl (lv_at hl 0 rfl) ?_
    refine m_get X hI mH_0 1 (by decide) q1653 rfl dX6_load_58 ?_
    refine lv_iconst (v := 0) hx hb dX6_load_61 (by decide) ?_
    refine lv_iconst (v := 0) hx hb dX6_load_62 (by decide) ?_
    refine m_zast X hI mH_aaS mH_saS hr dX6_load_63 (fun aS_22 H locs hI hr => ?_)
    refine lv_aload_n hx hb dX6_load_64 rfl (lv_at hl 0 rfl) ?_
    refine m_get X hI mH_0 1 (by decide) q1653 rfl dX6_load_65 ?_
    refine lv_iconst (v := 1) hx hb dX6_load_68 (by decide) ?_
    refine lv_iconst (v := 0) hx hb dX6_load_69 (by decide) ?_
    refine m_zast X hI mH_aaS mH_saS hr dX6_load_70 (fun aS_23 H locs hI hr => ?_)
    refine lv_aload_n hx hb dX6_load_71 rfl (lv_at hl 0 rfl) ?_
    refine m_get X hI mH_0 0 (by decide) q1652 rfl dX6_load_72 ?_
    refine lv_iconst (v := 1) hx hb dX6_load_75 (by decide) ?_
    refine m_iald X hI mH_aaM hr dX6_load_76 (fun v24 hr => ?_)
    have hr := gS_i hr
    subst hr
    exact g_iret X hI rfl (Nat.le_refl _) (Nat.le_refl _) dX6_load_77
  · replace hr := gIf_f c9 hr
    refine lv_iconst (v := 0) hx hb dX6_load_50 (by decide) ?_
    have hr := gS_i hr
    subst hr
    exact g_iret X hI rfl (Nat.le_refl _) (Nat.le_refl _) dX6_load_51
set_option maxHeartbeats 2000000 in
theorem w_X6_load_J32 {h : gH} {n : Nat} {o : Nat} {aM : (Nat → Int32)} {aS : (Nat → Int32)} {iU : Int32} {aB : (Nat → Int32)} {iL : Int32} {iE : Int32} {iP : Int32} {aR : (Nat → Int32)} {iW : Int32} {iT : Int32} {aT : (Nat → Int32)} {aC : (Nat → Int32)} {aH : (Nat → Int32)} {aE : (Nat → Int32)} {aQ : (Nat → Int32)} {iA : Int32} {iY : Int32} {iF : Int32} {iV : Int32} {aK : (Nat → Int32)} {z1 : Int32} {res : Int32 × (Nat → Int32) × (Nat → Int32) × Int32 × Int32 × Int32 × Int32 × Int32 × Int32 × Int32 × Int32 × Int32} (X : gXX x base RX6 cX6_load 2 (some .int) p l s m args meth c) {H : Heap} {locs : List Loc} {ls : Array Slot} (hr : f_X6_load_J32 x z1 aM aS iU aB iL iE iP iT iA iY iF iV = some res) (hI : gI x base s.heap (mH h o aM aS iU aB iL iE iP aR iW iT aT aC aH aE aQ iA iY iF iV aK) n H locs) (hl : lv_has ls 2 [(0, .ref o), (1, .int z1)]) : W p l e rm_X6_load s m args below meth c H locs 0 0 (MQ below (gQ x base (some (.int res.1)) (mH h o res.2.1 res.2.2.1 res.2.2.2.1 aB res.2.2.2.2.1 res.2.2.2.2.2.1 res.2.2.2.2.2.2.1 aR iW res.2.2.2.2.2.2.2.1 aT aC aH aE aQ res.2.2.2.2.2.2.2.2.1 res.2.2.2.2.2.2.2.2.2.1 res.2.2.2.2.2.2.2.2.2.2.1 res.2.2.2.2.2.2.2.2.2.2.2 aK) n) args s 0 0 (fun q => base ≤ q)) (F0 m 32 ls []) := by
  have hx := X.1
  have hb := X.2.1
  unfold f_X6_load_J32 at hr
  refine lv_aload_n hx hb dX6_load_32 rfl (lv_at hl 0 rfl) ?_
  refine lv_iload_n hx hb dX6_load_33 rfl (lv_at hl 1 rfl) ?_
  refine lv_if_ne (tgt := 41) hx hb dX6_load_34 (by decide) (fun c9 => ?_) (fun c9 => ?_)
  · replace hr := gIf_f c9 hr
    refine lv_iconst (v := 0) hx hb dX6_load_41 (by decide) ?_
    exact w_X6_load_J42 X hr hI (lv_sub hl [0] rfl)
  · replace hr := gIf_t c9 hr
    refine lv_iconst (v := 1) hx hb dX6_load_37 (by decide) ?_
    refine lv_goto (tgt := 42) hx hb dX6_load_38 (by decide) ?_
    exact w_X6_load_J42 X hr hI (lv_sub hl [0] rfl)
set_option maxHeartbeats 2000000 in
theorem w_X6_load {l : Launch} {x : gV} {base : Nat} {h : gH} {n : Nat} {o : Nat} {aM : (Nat → Int32)} {aS : (Nat → Int32)} {iU : Int32} {aB : (Nat → Int32)} {iL : Int32} {iE : Int32} {iP : Int32} {aR : (Nat → Int32)} {iW : Int32} {iT : Int32} {aT : (Nat → Int32)} {aC : (Nat → Int32)} {aH : (Nat → Int32)} {aE : (Nat → Int32)} {aQ : (Nat → Int32)} {iA : Int32} {iY : Int32} {iF : Int32} {iV : Int32} {aK : (Nat → Int32)} {res : Int32 × (Nat → Int32) × (Nat → Int32) × Int32 × Int32 × Int32 × Int32 × Int32 × Int32 × Int32 × Int32 × Int32} (hr : f_X6_load x aM aS iU aB iL iE iP iT iA iY iF iV = some res) : gM l yX6_load (ws_ yX6_load cX6_load 2 (some .int)) rm_X6_load x base [.ref o] (mH h o aM aS iU aB iL iE iP aR iW iT aT aC aH aE aQ iA iY iF iV aK) n (some (.int res.1)) (mH h o res.2.1 res.2.2.1 res.2.2.2.1 aB res.2.2.2.2.1 res.2.2.2.2.2.1 res.2.2.2.2.2.2.1 aR iW res.2.2.2.2.2.2.2.1 aT aC aH aE aQ res.2.2.2.2.2.2.2.2.1 res.2.2.2.2.2.2.2.2.2.1 res.2.2.2.2.2.2.2.2.2.2.1 res.2.2.2.2.2.2.2.2.2.2.2 aK) n 0 0 := by
  refine g_met (cc := cX6_load) (nL := 2) (ret := (some .int)) (by decide) (Nat.le_of_ble_eq_true rfl) (fun p e s m below meth c ls X hnm hl hI => ?_)
  have hl : lv_has ls 2 [(0, .ref o)] := hl
  have hx := X.1
  have hb := X.2.1
  unfold f_X6_load at hr
  refine lv_aload_n hx hb dX6_load_0 rfl (lv_at hl 0 rfl) ?_
  refine lv_iconst (v := 0) hx hb dX6_load_1 (by decide) ?_
  refine lv_bipush (v := 9) hx hb dX6_load_2 (by decide) ?_
  obtain ⟨aM_2, hc1, hr⟩ := gB_i hr
  refine gRun_v (g_runV X hI (w_X6_copyBlock hc1) (g_obj_s mH_0) rfl hl (lw_V q1733 q1735 qs47 q122 q1736) rfl rfl hd_X6_copyBlock ⟨Nat.le_of_ble_eq_true rfl, Nat.le_of_ble_eq_true rfl⟩ (as := [.int (0 : Int32), .int (9 : Int32)]) (rest := []) rfl rfl (Nat.le_of_ble_eq_true rfl) ⟨(Nat.le_refl _), (Nat.le_refl _)⟩ dX6_load_4) (fun H locs hI => ?_)
  refine lv_aload_n hx hb dX6_load_7 rfl (lv_at hl 0 rfl) ?_
  obtain ⟨iE_4, iP_5, iA_6, iY_7, iF_8, iV_9, hc3, hr⟩ := gT6_i hr
  refine gRun_v (g_runV X hI (w_X6_begin hc3) (g_obj_s mH_0) rfl hl (lw_V q1597 q1599 qs34 q122 q1600) rfl rfl hd_X6_begin ⟨Nat.le_of_ble_eq_true rfl, Nat.le_of_ble_eq_true rfl⟩ (as := []) (rest := []) rfl rfl (Nat.le_of_ble_eq_true rfl) ⟨(Nat.le_refl _), (Nat.le_refl _)⟩ dX6_load_8) (fun H locs hI => ?_)
  refine lv_aload_n hx hb dX6_load_11 rfl (lv_at hl 0 rfl) ?_
  obtain ⟨v11, aM_12, iE_13, iP_14, iA_15, iY_16, iF_17, iV_18, hc10, hr⟩ := gT8_i hr
  refine gRun_i (g_runV X hI (w_X6_parseSetup hc10) (g_obj_s mH_0) rfl hl (lw_V q1611 q1613 qs36 q122 q1614) rfl rfl hd_X6_parseSetup ⟨Nat.le_of_ble_eq_true rfl, Nat.le_of_ble_eq_true rfl⟩ (as := []) (rest := []) rfl rfl (Nat.le_of_ble_eq_true rfl) ⟨(Nat.le_refl _), (Nat.le_refl _)⟩ dX6_load_12) (fun H locs hI => ?_)
  refine lv_istore_n (lv' := [(1, .int v11), (0, .ref o)]) hx hb dX6_load_15 rfl hl (by decide) rfl (fun ls hl => ?_)
  refine lv_aload_n hx hb dX6_load_16 rfl (lv_at hl 1 rfl) ?_
  refine lv_iconst (v := 0) hx hb dX6_load_17 (by decide) ?_
  refine m_put X hI mH_0 4 (by decide) q1656 rfl (by decide +kernel) (Nat.le_of_ble_eq_true rfl) rfl mH_iL dX6_load_18 (fun H locs hI => ?_)
  refine lv_iload_n hx hb dX6_load_21 rfl (lv_at hl 0 rfl) ?_
  refine lv_if_ne (tgt := 32) hx hb dX6_load_22 (by decide) (fun c9 => ?_) (fun c9 => ?_)
  · replace hr := gIf_f c9 hr
    exact w_X6_load_J32 X hr hI (lv_sub hl [1, 0] rfl)
  · replace hr := gIf_t c9 hr
    refine lv_aload_n hx hb dX6_load_25 rfl (lv_at hl 1 rfl) ?_
    refine lv_bipush (v := 9) hx hb dX6_load_26 (by decide) ?_
    refine lv_iconst (v := 0) hx hb dX6_load_28 (by decide) ?_
    obtain ⟨aM_26, hc25, hr⟩ := gB_i hr
    refine gRun_v (g_runV X hI (w_X6_copyBlock hc25) (g_obj_s mH_0) rfl hl (lw_V q1733 q1735 qs47 q122 q1736) rfl rfl hd_X6_copyBlock ⟨Nat.le_of_ble_eq_true rfl, Nat.le_of_ble_eq_true rfl⟩ (as := [.int (9 : Int32), .int (0 : Int32)]) (rest := []) rfl rfl (Nat.le_of_ble_eq_true rfl) ⟨(Nat.le_refl _), (Nat.le_refl _)⟩ dX6_load_29) (fun H locs hI => ?_)
    exact w_X6_load_J32 X hr hI (lv_sub hl [1, 0] rfl)
abbrev rm_X6_nameOf : Room := { frames := 0, cells := 0, slots := 0, locals := 0 }
theorem hd_X6_nameOf : yX6_nameOf.cls ≠ "java/lang/invoke/MethodHandle" ∧ yX6_nameOf.cls ≠ "java/lang/invoke/VarHandle" ∧ (parseMethodDescriptor yX6_nameOf.desc).map (fun d => d.parameters.length) = some 1 := by decide +kernel
set_option maxHeartbeats 2000000 in
theorem w_X6_nameOf {l : Launch} {x : gV} {base : Nat} {z0 : Int32} {h : gH} {n : Nat} {o : Nat} {aM : (Nat → Int32)} {aS : (Nat → Int32)} {iU : Int32} {aB : (Nat → Int32)} {iL : Int32} {iE : Int32} {iP : Int32} {aR : (Nat → Int32)} {iW : Int32} {iT : Int32} {aT : (Nat → Int32)} {aC : (Nat → Int32)} {aH : (Nat → Int32)} {aE : (Nat → Int32)} {aQ : (Nat → Int32)} {iA : Int32} {iY : Int32} {iF : Int32} {iV : Int32} {aK : (Nat → Int32)} {res : Nat} (hr : f_X6_nameOf x z0 = some res) : gM l yX6_nameOf (ws_ yX6_nameOf cX6_nameOf 1 (some (.object "java/lang/String"))) rm_X6_nameOf x base [.int z0] (mH h o aM aS iU aB iL iE iP aR iW iT aT aC aH aE aQ iA iY iF iV aK) n (some (.ref res)) (mH h o aM aS iU aB iL iE iP aR iW iT aT aC aH aE aQ iA iY iF iV aK) n 0 0 := by
  refine g_met (cc := cX6_nameOf) (nL := 1) (ret := (some (.object "java/lang/String"))) (by decide) (Nat.le_of_ble_eq_true rfl) (fun p e s m below meth c ls X hnm hl hI => ?_)
  have hl : lv_has ls 1 [(0, .int z0)] := hl
  have hx := X.1
  have hb := X.2.1
  unfold f_X6_nameOf at hr
  refine lv_iload_n hx hb dX6_nameOf_0 rfl (lv_at hl 0 rfl) ?_
  by_cases c9 : z0 = 0
  · replace hr := gIf_t c9 hr
    refine lv_tableIn (off := 43) (tgt := 44) hx hb dX6_nameOf_1 (by rw [c9]; decide) (by rw [c9]; decide) (by rw [c9]; rfl) (by decide) ?_
    refine g_ldc X (i := 3) (tx := "give") (by decide +kernel) dX6_nameOf_44 ?_
    have hr := gS_i hr
    subst hr
    exact g_aret X hI (Or.inl ⟨_, rfl⟩) (Nat.le_refl _) (Nat.le_refl _) dX6_nameOf_46
  replace hr := gIf_f c9 hr
  have n0 := c9
  by_cases c9 : z0 = 1
  · replace hr := gIf_t c9 hr
    refine lv_tableIn (off := 46) (tgt := 47) hx hb dX6_nameOf_1 (by rw [c9]; decide) (by rw [c9]; decide) (by rw [c9]; rfl) (by decide) ?_
    refine g_ldc X (i := 4) (tx := "free") (by decide +kernel) dX6_nameOf_47 ?_
    have hr := gS_i hr
    subst hr
    exact g_aret X hI (Or.inl ⟨_, rfl⟩) (Nat.le_refl _) (Nat.le_refl _) dX6_nameOf_49
  replace hr := gIf_f c9 hr
  have n1 := c9
  by_cases c9 : z0 = 2
  · replace hr := gIf_t c9 hr
    refine lv_tableIn (off := 49) (tgt := 50) hx hb dX6_nameOf_1 (by rw [c9]; decide) (by rw [c9]; decide) (by rw [c9]; rfl) (by decide) ?_
    refine g_ldc X (i := 5) (tx := "swap") (by decide +kernel) dX6_nameOf_50 ?_
    have hr := gS_i hr
    subst hr
    exact g_aret X hI (Or.inl ⟨_, rfl⟩) (Nat.le_refl _) (Nat.le_refl _) dX6_nameOf_52
  replace hr := gIf_f c9 hr
  have n2 := c9
  by_cases c9 : z0 = 3
  · replace hr := gIf_t c9 hr
    refine lv_tableIn (off := 52) (tgt := 53) hx hb dX6_nameOf_1 (by rw [c9]; decide) (by rw [c9]; decide) (by rw [c9]; rfl) (by decide) ?_
    refine g_ldc X (i := 6) (tx := "value") (by decide +kernel) dX6_nameOf_53 ?_
    have hr := gS_i hr
    subst hr
    exact g_aret X hI (Or.inl ⟨_, rfl⟩) (Nat.le_refl _) (Nat.le_refl _) dX6_nameOf_55
  replace hr := gIf_f c9 hr
  have n3 := c9
  by_cases c9 : z0 = 4
  · replace hr := gIf_t c9 hr
    refine lv_tableIn (off := 55) (tgt := 56) hx hb dX6_nameOf_1 (by rw [c9]; decide) (by rw [c9]; decide) (by rw [c9]; rfl) (by decide) ?_
    refine g_ldc X (i := 7) (tx := "divide") (by decide +kernel) dX6_nameOf_56 ?_
    have hr := gS_i hr
    subst hr
    exact g_aret X hI (Or.inl ⟨_, rfl⟩) (Nat.le_refl _) (Nat.le_refl _) dX6_nameOf_58
  replace hr := gIf_f c9 hr
  have n4 := c9
  by_cases c9 : z0 = 5
  · replace hr := gIf_t c9 hr
    refine lv_tableIn (off := 58) (tgt := 59) hx hb dX6_nameOf_1 (by rw [c9]; decide) (by rw [c9]; decide) (by rw [c9]; rfl) (by decide) ?_
    refine g_ldc X (i := 8) (tx := "knife") (by decide +kernel) dX6_nameOf_59 ?_
    have hr := gS_i hr
    subst hr
    exact g_aret X hI (Or.inl ⟨_, rfl⟩) (Nat.le_refl _) (Nat.le_refl _) dX6_nameOf_61
  replace hr := gIf_f c9 hr
  have n5 := c9
  by_cases c9 : z0 = 6
  · replace hr := gIf_t c9 hr
    refine lv_tableIn (off := 61) (tgt := 62) hx hb dX6_nameOf_1 (by rw [c9]; decide) (by rw [c9]; decide) (by rw [c9]; rfl) (by decide) ?_
    refine g_ldc X (i := 9) (tx := "robin") (by decide +kernel) dX6_nameOf_62 ?_
    have hr := gS_i hr
    subst hr
    exact g_aret X hI (Or.inl ⟨_, rfl⟩) (Nat.le_refl _) (Nat.le_refl _) dX6_nameOf_64
  replace hr := gIf_f c9 hr
  have n6 := c9
  refine lv_tableOut (tgt := 65) hx hb dX6_nameOf_1 (by have m0 := lv_neT (a := 0) n0 (by decide); have m1 := lv_neT (a := 1) n1 (by decide); have m2 := lv_neT (a := 2) n2 (by decide); have m3 := lv_neT (a := 3) n3 (by decide); have m4 := lv_neT (a := 4) n4 (by decide); have m5 := lv_neT (a := 5) n5 (by decide); have m6 := lv_neT (a := 6) n6 (by decide); omega) (by decide) ?_
  refine g_ldc X (i := 10) (tx := "rotate") (by decide +kernel) dX6_nameOf_65 ?_
  have hr := gS_i hr
  subst hr
  exact g_aret X hI (Or.inl ⟨_, rfl⟩) (Nat.le_refl _) (Nat.le_refl _) dX6_nameOf_67
abbrev rm_X6_commandHere : Room := { frames := 8, cells := 0, slots := 0, locals := 445 }
theorem hd_X6_commandHere : yX6_commandHere.cls = RX6 ∧ yX6_commandHere.cls ≠ "java/lang/invoke/MethodHandle" ∧ yX6_commandHere.cls ≠ "java/lang/invoke/VarHandle" ∧ (parseMethodDescriptor yX6_commandHere.desc).map (fun d => d.parameters.length) = some 0 := by decide +kernel
set_option maxHeartbeats 2000000 in
theorem w_X6_commandHere_L2 {h : gH} {n : Nat} {o : Nat} {aM : (Nat → Int32)} {aS : (Nat → Int32)} {iU : Int32} {aB : (Nat → Int32)} {iL : Int32} {iE : Int32} {iP : Int32} {aR : (Nat → Int32)} {iW : Int32} {iT : Int32} {aT : (Nat → Int32)} {aC : (Nat → Int32)} {aH : (Nat → Int32)} {aE : (Nat → Int32)} {aQ : (Nat → Int32)} {iA : Int32} {iY : Int32} {iF : Int32} {iV : Int32} {aK : (Nat → Int32)} {res : Int32} (X : gXX x base RX6 cX6_commandHere 2 (some .int) p l s m args meth c) : ∀ (k : Nat) {z1 : Int32} {H : Heap} {locs : List Loc} {ls : Array Slot}, gL1 (f_X6_commandHere_L2 x aB iA iY iF) k z1 = some res → gI x base s.heap (mH h o aM aS iU aB iL iE iP aR iW iT aT aC aH aE aQ iA iY iF iV aK) n H locs → lv_has ls 2 [(0, .ref o), (1, .int z1)] → W p l e rm_X6_commandHere s m args below meth c H locs 0 0 (MQ below (gQ x base (some (.int res)) (mH h o aM aS iU aB iL iE iP aR iW iT aT aC aH aE aQ iA iY iF iV aK) n) args s 0 0 (fun q => base ≤ q)) (F0 m 2 ls []) := by
  have hx := X.1
  have hb := X.2.1
  intro k
  induction k with
  | zero =>
    intros
    rename_i hr _ _
    exact nomatch (show (none : Option _) = some _ from hr)
  | succ k ih =>
    intro z1 H locs ls hr hI hl
    replace hr : f_X6_commandHere_L2 x aB iA iY iF (gL1 (f_X6_commandHere_L2 x aB iA iY iF) k) z1 = some res := hr
    unfold f_X6_commandHere_L2 at hr
    refine lv_iload_n hx hb dX6_commandHere_2 rfl (lv_at hl 1 rfl) ?_
    refine lv_bipush (v := 7) hx hb dX6_commandHere_3 (by decide) ?_
    refine lv_icmp_gt (tgt := 27) hx hb dX6_commandHere_5 (by decide) (fun c9 => ?_) (fun c9 => ?_)
    · replace hr := gIf_t c9 hr
      refine lv_iconst (v := (-1)) hx hb dX6_commandHere_27 (by decide) ?_
      have hr := gS_i hr
      subst hr
      exact g_iret X hI rfl (Nat.le_refl _) (Nat.le_refl _) dX6_commandHere_28
    · replace hr := gIf_f c9 hr
      refine lv_aload_n hx hb dX6_commandHere_8 rfl (lv_at hl 0 rfl) ?_
      refine lv_iload_n hx hb dX6_commandHere_9 rfl (lv_at hl 1 rfl) ?_
      obtain ⟨v2, hc1, hr⟩ := gB_i hr
      refine gRun_a (g_runS X hI (w_X6_nameOf hc1) hl (lw_S q1749 q1750 q122 q1751) rfl rfl hd_X6_nameOf ⟨Nat.le_of_ble_eq_true rfl, Nat.le_of_ble_eq_true rfl⟩ (as := [.int z1]) (rest := [.ref o]) rfl rfl (Nat.le_of_ble_eq_true rfl) ⟨(Nat.le_refl _), (Nat.le_refl _)⟩ dX6_commandHere_10) (fun H locs hI => ?_)
      obtain ⟨v4, hc3, hr⟩ := gB_i hr
      refine gRun_i (g_runV X hI (w_X6_isWord hc3) (g_obj_s mH_0) rfl hl (lw_V q1616 q1618 qs37 q122 q1619) rfl rfl hd_X6_isWord ⟨Nat.le_of_ble_eq_true rfl, Nat.le_of_ble_eq_true rfl⟩ (as := [.ref v2]) (rest := []) rfl rfl (Nat.le_of_ble_eq_true rfl) ⟨(Nat.le_refl _), (Nat.le_refl _)⟩ dX6_commandHere_13) (fun H locs hI => ?_)
      refine lv_if_eq (tgt := 21) hx hb dX6_commandHere_16 (by decide) (fun c9 => ?_) (fun c9 => ?_)
      · replace hr := gIf_t c9 hr
        refine lv_iinc (v := (z1 + (1 : Int32))) (lv' := [(1, .int (z1 + (1 : Int32))), (0, .ref o)]) hx hb dX6_commandHere_21 hl (k := 1) rfl (g_inc (by decide)) (by decide) rfl (fun ls hl => ?_)
        refine lv_goto (tgt := 2) hx hb dX6_commandHere_24 (by decide) ?_
        exact ih hr hI (lv_sub hl [1, 0] rfl)
      · replace hr := gIf_f c9 hr
        refine lv_iload_n hx hb dX6_commandHere_19 rfl (lv_at hl 1 rfl) ?_
        have hr := gS_i hr
        subst hr
        exact g_iret X hI rfl (Nat.le_refl _) (Nat.le_refl _) dX6_commandHere_20
set_option maxHeartbeats 2000000 in
theorem w_X6_commandHere {l : Launch} {x : gV} {base : Nat} {h : gH} {n : Nat} {o : Nat} {aM : (Nat → Int32)} {aS : (Nat → Int32)} {iU : Int32} {aB : (Nat → Int32)} {iL : Int32} {iE : Int32} {iP : Int32} {aR : (Nat → Int32)} {iW : Int32} {iT : Int32} {aT : (Nat → Int32)} {aC : (Nat → Int32)} {aH : (Nat → Int32)} {aE : (Nat → Int32)} {aQ : (Nat → Int32)} {iA : Int32} {iY : Int32} {iF : Int32} {iV : Int32} {aK : (Nat → Int32)} {res : Int32} (hr : f_X6_commandHere x aB iA iY iF = some res) : gM l yX6_commandHere (ws_ yX6_commandHere cX6_commandHere 2 (some .int)) rm_X6_commandHere x base [.ref o] (mH h o aM aS iU aB iL iE iP aR iW iT aT aC aH aE aQ iA iY iF iV aK) n (some (.int res)) (mH h o aM aS iU aB iL iE iP aR iW iT aT aC aH aE aQ iA iY iF iV aK) n 0 0 := by
  refine g_met (cc := cX6_commandHere) (nL := 2) (ret := (some .int)) (by decide) (Nat.le_of_ble_eq_true rfl) (fun p e s m below meth c ls X hnm hl hI => ?_)
  have hl : lv_has ls 2 [(0, .ref o)] := hl
  have hx := X.1
  have hb := X.2.1
  unfold f_X6_commandHere at hr
  refine lv_iconst (v := 0) hx hb dX6_commandHere_0 (by decide) ?_
  refine lv_istore_n (lv' := [(1, .int (0 : Int32)), (0, .ref o)]) hx hb dX6_commandHere_1 rfl hl (by decide) rfl (fun ls hl => ?_)
  exact w_X6_commandHere_L2 X gN hr hI (lv_sub hl [1, 0] rfl)
abbrev rm_X6_parseSibling : Room := { frames := 2, cells := 0, slots := 0, locals := 41 }
theorem hd_X6_parseSibling : yX6_parseSibling.cls = RX6 ∧ yX6_parseSibling.cls ≠ "java/lang/invoke/MethodHandle" ∧ yX6_parseSibling.cls ≠ "java/lang/invoke/VarHandle" ∧ (parseMethodDescriptor yX6_parseSibling.desc).map (fun d => d.parameters.length) = some 1 := by decide +kernel
set_option maxHeartbeats 2000000 in
theorem w_X6_parseSibling {l : Launch} {x : gV} {base : Nat} {z1 : Int32} {h : gH} {n : Nat} {o : Nat} {aM : (Nat → Int32)} {aS : (Nat → Int32)} {iU : Int32} {aB : (Nat → Int32)} {iL : Int32} {iE : Int32} {iP : Int32} {aR : (Nat → Int32)} {iW : Int32} {iT : Int32} {aT : (Nat → Int32)} {aC : (Nat → Int32)} {aH : (Nat → Int32)} {aE : (Nat → Int32)} {aQ : (Nat → Int32)} {iA : Int32} {iY : Int32} {iF : Int32} {iV : Int32} {aK : (Nat → Int32)} {res : Int32 × Int32 × Int32 × Int32 × Int32 × Int32 × Int32 × (Nat → Int32)} (hr : f_X6_parseSibling z1 aM aB iL iE iP iA iY iF iV aK = some res) : gM l yX6_parseSibling (ws_ yX6_parseSibling cX6_parseSibling 2 (some .boolean)) rm_X6_parseSibling x base [.ref o, .int z1] (mH h o aM aS iU aB iL iE iP aR iW iT aT aC aH aE aQ iA iY iF iV aK) n (some (.int res.1)) (mH h o aM aS iU aB iL res.2.1 res.2.2.1 aR iW iT aT aC aH aE aQ res.2.2.2.1 res.2.2.2.2.1 res.2.2.2.2.2.1 res.2.2.2.2.2.2.1 res.2.2.2.2.2.2.2) n 0 0 := by
  refine g_met (cc := cX6_parseSibling) (nL := 2) (ret := (some .boolean)) (by decide) (Nat.le_of_ble_eq_true rfl) (fun p e s m below meth c ls X hnm hl hI => ?_)
  have hl : lv_has ls 2 [(0, .ref o), (1, .int z1)] := hl
  have hx := X.1
  have hb := X.2.1
  unfold f_X6_parseSibling at hr
  refine lv_aload_n hx hb dX6_parseSibling_0 rfl (lv_at hl 0 rfl) ?_
  obtain ⟨v2, iE_3, iP_4, hc1, hr⟩ := gT3_i hr
  refine gRun_i (g_runV X hI (w_X6_isShortWord hc1) (g_obj_s mH_0) rfl hl (lw_V q1644 q1646 qs43 q122 q1647) rfl rfl hd_X6_isShortWord ⟨Nat.le_of_ble_eq_true rfl, Nat.le_of_ble_eq_true rfl⟩ (as := []) (rest := []) rfl rfl (Nat.le_of_ble_eq_true rfl) ⟨(Nat.le_refl _), (Nat.le_refl _)⟩ dX6_parseSibling_1) (fun H locs hI => ?_)
  refine lv_if_ne (tgt := 9) hx hb dX6_parseSibling_4 (by decide) (fun c9 => ?_) (fun c9 => ?_)
  · replace hr := gIf_f c9 hr
    refine lv_aload_n hx hb dX6_parseSibling_9 rfl (lv_at hl 0 rfl) ?_
    refine m_get X hI mH_0 19 (by decide) q1671 rfl dX6_parseSibling_10 ?_
    refine lv_iload_n hx hb dX6_parseSibling_13 rfl (lv_at hl 1 rfl) ?_
    refine lv_aload_n hx hb dX6_parseSibling_14 rfl (lv_at hl 0 rfl) ?_
    refine lv_aload_n hx hb dX6_parseSibling_15 rfl (lv_at hl 0 rfl) ?_
    refine m_get X hI mH_0 17 (by decide) q1669 rfl dX6_parseSibling_16 ?_
    refine lv_aload_n hx hb dX6_parseSibling_19 rfl (lv_at hl 0 rfl) ?_
    refine m_get X hI mH_0 15 (by decide) q1667 rfl dX6_parseSibling_20 ?_
    refine lv_aload_n hx hb dX6_parseSibling_23 rfl (lv_at hl 0 rfl) ?_
    refine m_get X hI mH_0 17 (by decide) q1669 rfl dX6_parseSibling_24 ?_
    refine lv_isub hx hb dX6_parseSibling_27 ?_
    obtain ⟨v6, hc5, hr⟩ := gB_i hr
    refine gRun_i (g_runV X hI (w_X6_siblingNamed hc5) (g_obj_s mH_0) rfl hl (lw_V q1648 q1650 qs44 q122 q1651) rfl rfl hd_X6_siblingNamed ⟨Nat.le_of_ble_eq_true rfl, Nat.le_of_ble_eq_true rfl⟩ (as := [.int iF, .int (iA - iF)]) (rest := [.int z1, .ref (o + 10)]) rfl rfl (Nat.le_of_ble_eq_true rfl) ⟨(Nat.le_refl _), (Nat.le_refl _)⟩ dX6_parseSibling_28) (fun H locs hI => ?_)
    refine m_iast X hI mH_aaK mH_saK hr dX6_parseSibling_31 (fun aK_7 H locs hI hr => ?_)
    refine lv_aload_n hx hb dX6_parseSibling_32 rfl (lv_at hl 0 rfl) ?_
    refine m_get X hI mH_0 19 (by decide) q1671 rfl dX6_parseSibling_33 ?_
    refine lv_iload_n hx hb dX6_parseSibling_36 rfl (lv_at hl 1 rfl) ?_
    refine m_iald X hI mH_aaK hr dX6_parseSibling_37 (fun v8 hr => ?_)
    refine lv_iconst (v := (-1)) hx hb dX6_parseSibling_38 (by decide) ?_
    refine lv_icmp_ne (tgt := 48) hx hb dX6_parseSibling_39 (by decide) (fun c9 => ?_) (fun c9 => ?_)
    · replace hr := gIf_f c9 hr
      refine lv_aload_n hx hb dX6_parseSibling_48 rfl (lv_at hl 0 rfl) ?_
      obtain ⟨iA_10, iY_11, iF_12, iV_13, hc9, hr⟩ := gT4_i hr
      refine gRun_v (g_runV X hI (w_X6_token hc9) (g_obj_s mH_0) rfl hl (lw_V q1601 q1603 qs35 q122 q1604) rfl rfl hd_X6_token ⟨Nat.le_of_ble_eq_true rfl, Nat.le_of_ble_eq_true rfl⟩ (as := []) (rest := []) rfl rfl (Nat.le_of_ble_eq_true rfl) ⟨(Nat.le_refl _), (Nat.le_refl _)⟩ dX6_parseSibling_49) (fun H locs hI => ?_)
      refine lv_iconst (v := 1) hx hb dX6_parseSibling_52 (by decide) ?_
      have hr := gS_i hr
      subst hr
      exact g_iret X hI (g_narZ (Or.inr rfl)) (Nat.le_refl _) (Nat.le_refl _) dX6_parseSibling_53
    · replace hr := gIf_t c9 hr
      refine lv_aload_n hx hb dX6_parseSibling_42 rfl (lv_at hl 0 rfl) ?_
      refine lv_iconst (v := 3) hx hb dX6_parseSibling_43 (by decide) ?_
      obtain ⟨v15, iE_16, iP_17, hc14, hr⟩ := gT3_i hr
      refine gRun_i (g_runV X hI (w_X6_wrong hc14) (g_obj_s mH_0) rfl hl (lw_V q1620 q1622 qs38 q122 q1623) rfl rfl hd_X6_wrong ⟨Nat.le_of_ble_eq_true rfl, Nat.le_of_ble_eq_true rfl⟩ (as := [.int (3 : Int32)]) (rest := []) rfl rfl (Nat.le_of_ble_eq_true rfl) ⟨(Nat.le_refl _), (Nat.le_refl _)⟩ dX6_parseSibling_44) (fun H locs hI => ?_)
      obtain ⟨c9, hr⟩ := gIf_o hr
      have hr := gS_i hr
      subst hr
      exact g_iret X hI (g_narZ c9) (Nat.le_refl _) (Nat.le_refl _) dX6_parseSibling_47
  · replace hr := gIf_t c9 hr
    refine lv_iconst (v := 0) hx hb dX6_parseSibling_7 (by decide) ?_
    have hr := gS_i hr
    subst hr
    exact g_iret X hI (g_narZ (Or.inl rfl)) (Nat.le_refl _) (Nat.le_refl _) dX6_parseSibling_8
abbrev rm_X6_parseNumber : Room := { frames := 2, cells := 0, slots := 0, locals := 40 }
theorem hd_X6_parseNumber : yX6_parseNumber.cls = RX6 ∧ yX6_parseNumber.cls ≠ "java/lang/invoke/MethodHandle" ∧ yX6_parseNumber.cls ≠ "java/lang/invoke/VarHandle" ∧ (parseMethodDescriptor yX6_parseNumber.desc).map (fun d => d.parameters.length) = some 1 := by decide +kernel
set_option maxHeartbeats 2000000 in
theorem w_X6_parseNumber {l : Launch} {x : gV} {base : Nat} {z1 : Int32} {h : gH} {n : Nat} {o : Nat} {aM : (Nat → Int32)} {aS : (Nat → Int32)} {iU : Int32} {aB : (Nat → Int32)} {iL : Int32} {iE : Int32} {iP : Int32} {aR : (Nat → Int32)} {iW : Int32} {iT : Int32} {aT : (Nat → Int32)} {aC : (Nat → Int32)} {aH : (Nat → Int32)} {aE : (Nat → Int32)} {aQ : (Nat → Int32)} {iA : Int32} {iY : Int32} {iF : Int32} {iV : Int32} {aK : (Nat → Int32)} {res : Int32 × Int32 × Int32 × Int32 × Int32 × Int32 × Int32 × (Nat → Int32)} (hr : f_X6_parseNumber z1 aB iL iE iP iA iY iF iV aK = some res) : gM l yX6_parseNumber (ws_ yX6_parseNumber cX6_parseNumber 2 (some .boolean)) rm_X6_parseNumber x base [.ref o, .int z1] (mH h o aM aS iU aB iL iE iP aR iW iT aT aC aH aE aQ iA iY iF iV aK) n (some (.int res.1)) (mH h o aM aS iU aB iL res.2.1 res.2.2.1 aR iW iT aT aC aH aE aQ res.2.2.2.1 res.2.2.2.2.1 res.2.2.2.2.2.1 res.2.2.2.2.2.2.1 res.2.2.2.2.2.2.2) n 0 0 := by
  refine g_met (cc := cX6_parseNumber) (nL := 2) (ret := (some .boolean)) (by decide) (Nat.le_of_ble_eq_true rfl) (fun p e s m below meth c ls X hnm hl hI => ?_)
  have hl : lv_has ls 2 [(0, .ref o), (1, .int z1)] := hl
  have hx := X.1
  have hb := X.2.1
  unfold f_X6_parseNumber at hr
  refine lv_aload_n hx hb dX6_parseNumber_0 rfl (lv_at hl 0 rfl) ?_
  refine m_get X hI mH_0 16 (by decide) q1668 rfl dX6_parseNumber_1 ?_
  refine lv_iconst (v := 2) hx hb dX6_parseNumber_4 (by decide) ?_
  refine lv_icmp_eq (tgt := 14) hx hb dX6_parseNumber_5 (by decide) (fun c9 => ?_) (fun c9 => ?_)
  · replace hr := gIf_t c9 hr
    refine lv_aload_n hx hb dX6_parseNumber_14 rfl (lv_at hl 0 rfl) ?_
    refine m_get X hI mH_0 19 (by decide) q1671 rfl dX6_parseNumber_15 ?_
    refine lv_iload_n hx hb dX6_parseNumber_18 rfl (lv_at hl 1 rfl) ?_
    refine lv_aload_n hx hb dX6_parseNumber_19 rfl (lv_at hl 0 rfl) ?_
    refine m_get X hI mH_0 18 (by decide) q1670 rfl dX6_parseNumber_20 ?_
    refine m_iast X hI mH_aaK mH_saK hr dX6_parseNumber_23 (fun aK_1 H locs hI hr => ?_)
    refine lv_aload_n hx hb dX6_parseNumber_24 rfl (lv_at hl 0 rfl) ?_
    obtain ⟨iA_3, iY_4, iF_5, iV_6, hc2, hr⟩ := gT4_i hr
    refine gRun_v (g_runV X hI (w_X6_token hc2) (g_obj_s mH_0) rfl hl (lw_V q1601 q1603 qs35 q122 q1604) rfl rfl hd_X6_token ⟨Nat.le_of_ble_eq_true rfl, Nat.le_of_ble_eq_true rfl⟩ (as := []) (rest := []) rfl rfl (Nat.le_of_ble_eq_true rfl) ⟨(Nat.le_refl _), (Nat.le_refl _)⟩ dX6_parseNumber_25) (fun H locs hI => ?_)
    refine lv_iconst (v := 1) hx hb dX6_parseNumber_28 (by decide) ?_
    have hr := gS_i hr
    subst hr
    exact g_iret X hI (g_narZ (Or.inr rfl)) (Nat.le_refl _) (Nat.le_refl _) dX6_parseNumber_29
  · replace hr := gIf_f c9 hr
    refine lv_aload_n hx hb dX6_parseNumber_8 rfl (lv_at hl 0 rfl) ?_
    refine lv_iconst (v := 1) hx hb dX6_parseNumber_9 (by decide) ?_
    obtain ⟨v8, iE_9, iP_10, hc7, hr⟩ := gT3_i hr
    refine gRun_i (g_runV X hI (w_X6_wrong hc7) (g_obj_s mH_0) rfl hl (lw_V q1620 q1622 qs38 q122 q1623) rfl rfl hd_X6_wrong ⟨Nat.le_of_ble_eq_true rfl, Nat.le_of_ble_eq_true rfl⟩ (as := [.int (1 : Int32)]) (rest := []) rfl rfl (Nat.le_of_ble_eq_true rfl) ⟨(Nat.le_refl _), (Nat.le_refl _)⟩ dX6_parseNumber_10) (fun H locs hI => ?_)
    obtain ⟨c9, hr⟩ := gIf_o hr
    have hr := gS_i hr
    subst hr
    exact g_iret X hI (g_narZ c9) (Nat.le_refl _) (Nat.le_refl _) dX6_parseNumber_13
abbrev rm_X6_parseArguments : Room := { frames := 3, cells := 0, slots := 0, locals := 62 }
theorem hd_X6_parseArguments : yX6_parseArguments.cls = RX6 ∧ yX6_parseArguments.cls ≠ "java/lang/invoke/MethodHandle" ∧ yX6_parseArguments.cls ≠ "java/lang/invoke/VarHandle" ∧ (parseMethodDescriptor yX6_parseArguments.desc).map (fun d => d.parameters.length) = some 2 := by decide +kernel
set_option maxHeartbeats 2000000 in
theorem w_X6_parseArguments {l : Launch} {x : gV} {base : Nat} {z1 : Int32} {z2 : Int32} {h : gH} {n : Nat} {o : Nat} {aM : (Nat → Int32)} {aS : (Nat → Int32)} {iU : Int32} {aB : (Nat → Int32)} {iL : Int32} {iE : Int32} {iP : Int32} {aR : (Nat → Int32)} {iW : Int32} {iT : Int32} {aT : (Nat → Int32)} {aC : (Nat → Int32)} {aH : (Nat → Int32)} {aE : (Nat → Int32)} {aQ : (Nat → Int32)} {iA : Int32} {iY : Int32} {iF : Int32} {iV : Int32} {aK : (Nat → Int32)} {res : Int32 × Int32 × Int32 × Int32 × Int32 × Int32 × Int32 × (Nat → Int32)} (hr : f_X6_parseArguments z1 z2 aM aB iL iE iP iA iY iF iV aK = some res) : gM l yX6_parseArguments (ws_ yX6_parseArguments cX6_parseArguments 3 (some .boolean)) rm_X6_parseArguments x base [.ref o, .int z1, .int z2] (mH h o aM aS iU aB iL iE iP aR iW iT aT aC aH aE aQ iA iY iF iV aK) n (some (.int res.1)) (mH h o aM aS iU aB iL res.2.1 res.2.2.1 aR iW iT aT aC aH aE aQ res.2.2.2.1 res.2.2.2.2.1 res.2.2.2.2.2.1 res.2.2.2.2.2.2.1 res.2.2.2.2.2.2.2) n 0 0 := by
  refine g_met (cc := cX6_parseArguments) (nL := 3) (ret := (some .boolean)) (by decide) (Nat.le_of_ble_eq_true rfl) (fun p e s m below meth c ls X hnm hl hI => ?_)
  have hl : lv_has ls 3 [(0, .ref o), (1, .int z1), (2, .int z2)] := hl
  have hx := X.1
  have hb := X.2.1
  unfold f_X6_parseArguments at hr
  refine lv_iload_n hx hb dX6_parseArguments_0 rfl (lv_at hl 1 rfl) ?_
  by_cases c9 : z1 = 0
  · replace hr := gIf_t c9 hr
    refine lv_tableIn (off := 39) (tgt := 40) hx hb dX6_parseArguments_1 (by rw [c9]; decide) (by rw [c9]; decide) (by rw [c9]; rfl) (by decide) ?_
    refine lv_aload_n hx hb dX6_parseArguments_40 rfl (lv_at hl 0 rfl) ?_
    refine lv_iload_n hx hb dX6_parseArguments_41 rfl (lv_at hl 2 rfl) ?_
    obtain ⟨v2, iE_3, iP_4, iA_5, iY_6, iF_7, iV_8, aK_9, hc1, hr⟩ := gT8_i hr
    refine gRun_i (g_runV X hI (w_X6_parseSibling hc1) (g_obj_s mH_0) rfl hl (lw_V q1764 q1766 qs51 q122 q1767) rfl rfl hd_X6_parseSibling ⟨Nat.le_of_ble_eq_true rfl, Nat.le_of_ble_eq_true rfl⟩ (as := [.int z2]) (rest := []) rfl rfl (Nat.le_of_ble_eq_true rfl) ⟨(Nat.le_refl _), (Nat.le_refl _)⟩ dX6_parseArguments_42) (fun H locs hI => ?_)
    refine lv_if_eq (tgt := 72) hx hb dX6_parseArguments_45 (by decide) (fun c9 => ?_) (fun c9 => ?_)
    · replace hr := gIf_t c9 hr
      refine lv_iconst (v := 0) hx hb dX6_parseArguments_72 (by decide) ?_
      have hr := gS_i hr
      subst hr
      exact g_iret X hI (g_narZ (Or.inl rfl)) (Nat.le_refl _) (Nat.le_refl _) dX6_parseArguments_73
    · replace hr := gIf_f c9 hr
      refine lv_aload_n hx hb dX6_parseArguments_48 rfl (lv_at hl 0 rfl) ?_
      refine lv_iload_n hx hb dX6_parseArguments_49 rfl (lv_at hl 2 rfl) ?_
      refine lv_iconst (v := 1) hx hb dX6_parseArguments_50 (by decide) ?_
      refine lv_iadd hx hb dX6_parseArguments_51 ?_
      obtain ⟨v11, iE_12, iP_13, iA_14, iY_15, iF_16, iV_17, aK_18, hc10, hr⟩ := gT8_i hr
      refine gRun_i (g_runV X hI (w_X6_parseNumber hc10) (g_obj_s mH_0) rfl hl (lw_V q1768 q1770 qs52 q122 q1771) rfl rfl hd_X6_parseNumber ⟨Nat.le_of_ble_eq_true rfl, Nat.le_of_ble_eq_true rfl⟩ (as := [.int (z2 + (1 : Int32))]) (rest := []) rfl rfl (Nat.le_of_ble_eq_true rfl) ⟨(Nat.le_refl _), (Nat.le_refl _)⟩ dX6_parseArguments_52) (fun H locs hI => ?_)
      refine lv_if_eq (tgt := 72) hx hb dX6_parseArguments_55 (by decide) (fun c9 => ?_) (fun c9 => ?_)
      · replace hr := gIf_t c9 hr
        refine lv_iconst (v := 0) hx hb dX6_parseArguments_72 (by decide) ?_
        have hr := gS_i hr
        subst hr
        exact g_iret X hI (g_narZ (Or.inl rfl)) (Nat.le_refl _) (Nat.le_refl _) dX6_parseArguments_73
      · replace hr := gIf_f c9 hr
        refine lv_aload_n hx hb dX6_parseArguments_58 rfl (lv_at hl 0 rfl) ?_
        refine lv_iload_n hx hb dX6_parseArguments_59 rfl (lv_at hl 2 rfl) ?_
        refine lv_iconst (v := 2) hx hb dX6_parseArguments_60 (by decide) ?_
        refine lv_iadd hx hb dX6_parseArguments_61 ?_
        obtain ⟨v20, iE_21, iP_22, iA_23, iY_24, iF_25, iV_26, aK_27, hc19, hr⟩ := gT8_i hr
        refine gRun_i (g_runV X hI (w_X6_parseNumber hc19) (g_obj_s mH_0) rfl hl (lw_V q1768 q1770 qs52 q122 q1771) rfl rfl hd_X6_parseNumber ⟨Nat.le_of_ble_eq_true rfl, Nat.le_of_ble_eq_true rfl⟩ (as := [.int (z2 + (2 : Int32))]) (rest := []) rfl rfl (Nat.le_of_ble_eq_true rfl) ⟨(Nat.le_refl _), (Nat.le_refl _)⟩ dX6_parseArguments_62) (fun H locs hI => ?_)
        refine lv_if_eq (tgt := 72) hx hb dX6_parseArguments_65 (by decide) (fun c9 => ?_) (fun c9 => ?_)
        · replace hr := gIf_t c9 hr
          refine lv_iconst (v := 0) hx hb dX6_parseArguments_72 (by decide) ?_
          have hr := gS_i hr
          subst hr
          exact g_iret X hI (g_narZ (Or.inl rfl)) (Nat.le_refl _) (Nat.le_refl _) dX6_parseArguments_73
        · replace hr := gIf_f c9 hr
          refine lv_iconst (v := 1) hx hb dX6_parseArguments_68 (by decide) ?_
          refine lv_goto (tgt := 73) hx hb dX6_parseArguments_69 (by decide) ?_
          have hr := gS_i hr
          subst hr
          exact g_iret X hI (g_narZ (Or.inr rfl)) (Nat.le_refl _) (Nat.le_refl _) dX6_parseArguments_73
  replace hr := gIf_f c9 hr
  have n0 := c9
  by_cases c9 : z1 = 1
  · replace hr := gIf_t c9 hr
    refine lv_tableIn (off := 73) (tgt := 74) hx hb dX6_parseArguments_1 (by rw [c9]; decide) (by rw [c9]; decide) (by rw [c9]; rfl) (by decide) ?_
    refine lv_aload_n hx hb dX6_parseArguments_74 rfl (lv_at hl 0 rfl) ?_
    refine lv_iload_n hx hb dX6_parseArguments_75 rfl (lv_at hl 2 rfl) ?_
    refine lv_iconst (v := 1) hx hb dX6_parseArguments_76 (by decide) ?_
    refine lv_iadd hx hb dX6_parseArguments_77 ?_
    obtain ⟨v29, iE_30, iP_31, iA_32, iY_33, iF_34, iV_35, aK_36, hc28, hr⟩ := gT8_i hr
    refine gRun_i (g_runV X hI (w_X6_parseNumber hc28) (g_obj_s mH_0) rfl hl (lw_V q1768 q1770 qs52 q122 q1771) rfl rfl hd_X6_parseNumber ⟨Nat.le_of_ble_eq_true rfl, Nat.le_of_ble_eq_true rfl⟩ (as := [.int (z2 + (1 : Int32))]) (rest := []) rfl rfl (Nat.le_of_ble_eq_true rfl) ⟨(Nat.le_refl _), (Nat.le_refl _)⟩ dX6_parseArguments_78) (fun H locs hI => ?_)
    refine lv_if_eq (tgt := 98) hx hb dX6_parseArguments_81 (by decide) (fun c9 => ?_) (fun c9 => ?_)
    · replace hr := gIf_t c9 hr
      refine lv_iconst (v := 0) hx hb dX6_parseArguments_98 (by decide) ?_
      have hr := gS_i hr
      subst hr
      exact g_iret X hI (g_narZ (Or.inl rfl)) (Nat.le_refl _) (Nat.le_refl _) dX6_parseArguments_99
    · replace hr := gIf_f c9 hr
      refine lv_aload_n hx hb dX6_parseArguments_84 rfl (lv_at hl 0 rfl) ?_
      refine lv_iload_n hx hb dX6_parseArguments_85 rfl (lv_at hl 2 rfl) ?_
      refine lv_iconst (v := 2) hx hb dX6_parseArguments_86 (by decide) ?_
      refine lv_iadd hx hb dX6_parseArguments_87 ?_
      obtain ⟨v38, iE_39, iP_40, iA_41, iY_42, iF_43, iV_44, aK_45, hc37, hr⟩ := gT8_i hr
      refine gRun_i (g_runV X hI (w_X6_parseNumber hc37) (g_obj_s mH_0) rfl hl (lw_V q1768 q1770 qs52 q122 q1771) rfl rfl hd_X6_parseNumber ⟨Nat.le_of_ble_eq_true rfl, Nat.le_of_ble_eq_true rfl⟩ (as := [.int (z2 + (2 : Int32))]) (rest := []) rfl rfl (Nat.le_of_ble_eq_true rfl) ⟨(Nat.le_refl _), (Nat.le_refl _)⟩ dX6_parseArguments_88) (fun H locs hI => ?_)
      refine lv_if_eq (tgt := 98) hx hb dX6_parseArguments_91 (by decide) (fun c9 => ?_) (fun c9 => ?_)
      · replace hr := gIf_t c9 hr
        refine lv_iconst (v := 0) hx hb dX6_parseArguments_98 (by decide) ?_
        have hr := gS_i hr
        subst hr
        exact g_iret X hI (g_narZ (Or.inl rfl)) (Nat.le_refl _) (Nat.le_refl _) dX6_parseArguments_99
      · replace hr := gIf_f c9 hr
        refine lv_iconst (v := 1) hx hb dX6_parseArguments_94 (by decide) ?_
        refine lv_goto (tgt := 99) hx hb dX6_parseArguments_95 (by decide) ?_
        have hr := gS_i hr
        subst hr
        exact g_iret X hI (g_narZ (Or.inr rfl)) (Nat.le_refl _) (Nat.le_refl _) dX6_parseArguments_99
  replace hr := gIf_f c9 hr
  have n1 := c9
  by_cases c9 : z1 = 2
  · replace hr := gIf_t c9 hr
    refine lv_tableIn (off := 99) (tgt := 100) hx hb dX6_parseArguments_1 (by rw [c9]; decide) (by rw [c9]; decide) (by rw [c9]; rfl) (by decide) ?_
    refine lv_aload_n hx hb dX6_parseArguments_100 rfl (lv_at hl 0 rfl) ?_
    refine lv_iload_n hx hb dX6_parseArguments_101 rfl (lv_at hl 2 rfl) ?_
    obtain ⟨v47, iE_48, iP_49, iA_50, iY_51, iF_52, iV_53, aK_54, hc46, hr⟩ := gT8_i hr
    refine gRun_i (g_runV X hI (w_X6_parseSibling hc46) (g_obj_s mH_0) rfl hl (lw_V q1764 q1766 qs51 q122 q1767) rfl rfl hd_X6_parseSibling ⟨Nat.le_of_ble_eq_true rfl, Nat.le_of_ble_eq_true rfl⟩ (as := [.int z2]) (rest := []) rfl rfl (Nat.le_of_ble_eq_true rfl) ⟨(Nat.le_refl _), (Nat.le_refl _)⟩ dX6_parseArguments_102) (fun H locs hI => ?_)
    refine lv_if_eq (tgt := 122) hx hb dX6_parseArguments_105 (by decide) (fun c9 => ?_) (fun c9 => ?_)
    · replace hr := gIf_t c9 hr
      refine lv_iconst (v := 0) hx hb dX6_parseArguments_122 (by decide) ?_
      have hr := gS_i hr
      subst hr
      exact g_iret X hI (g_narZ (Or.inl rfl)) (Nat.le_refl _) (Nat.le_refl _) dX6_parseArguments_123
    · replace hr := gIf_f c9 hr
      refine lv_aload_n hx hb dX6_parseArguments_108 rfl (lv_at hl 0 rfl) ?_
      refine lv_iload_n hx hb dX6_parseArguments_109 rfl (lv_at hl 2 rfl) ?_
      refine lv_iconst (v := 1) hx hb dX6_parseArguments_110 (by decide) ?_
      refine lv_iadd hx hb dX6_parseArguments_111 ?_
      obtain ⟨v56, iE_57, iP_58, iA_59, iY_60, iF_61, iV_62, aK_63, hc55, hr⟩ := gT8_i hr
      refine gRun_i (g_runV X hI (w_X6_parseSibling hc55) (g_obj_s mH_0) rfl hl (lw_V q1764 q1766 qs51 q122 q1767) rfl rfl hd_X6_parseSibling ⟨Nat.le_of_ble_eq_true rfl, Nat.le_of_ble_eq_true rfl⟩ (as := [.int (z2 + (1 : Int32))]) (rest := []) rfl rfl (Nat.le_of_ble_eq_true rfl) ⟨(Nat.le_refl _), (Nat.le_refl _)⟩ dX6_parseArguments_112) (fun H locs hI => ?_)
      refine lv_if_eq (tgt := 122) hx hb dX6_parseArguments_115 (by decide) (fun c9 => ?_) (fun c9 => ?_)
      · replace hr := gIf_t c9 hr
        refine lv_iconst (v := 0) hx hb dX6_parseArguments_122 (by decide) ?_
        have hr := gS_i hr
        subst hr
        exact g_iret X hI (g_narZ (Or.inl rfl)) (Nat.le_refl _) (Nat.le_refl _) dX6_parseArguments_123
      · replace hr := gIf_f c9 hr
        refine lv_iconst (v := 1) hx hb dX6_parseArguments_118 (by decide) ?_
        refine lv_goto (tgt := 123) hx hb dX6_parseArguments_119 (by decide) ?_
        have hr := gS_i hr
        subst hr
        exact g_iret X hI (g_narZ (Or.inr rfl)) (Nat.le_refl _) (Nat.le_refl _) dX6_parseArguments_123
  replace hr := gIf_f c9 hr
  have n2 := c9
  by_cases c9 : z1 = 3
  · replace hr := gIf_t c9 hr
    refine lv_tableIn (off := 39) (tgt := 40) hx hb dX6_parseArguments_1 (by rw [c9]; decide) (by rw [c9]; decide) (by rw [c9]; rfl) (by decide) ?_
    refine lv_aload_n hx hb dX6_parseArguments_40 rfl (lv_at hl 0 rfl) ?_
    refine lv_iload_n hx hb dX6_parseArguments_41 rfl (lv_at hl 2 rfl) ?_
    obtain ⟨v65, iE_66, iP_67, iA_68, iY_69, iF_70, iV_71, aK_72, hc64, hr⟩ := gT8_i hr
    refine gRun_i (g_runV X hI (w_X6_parseSibling hc64) (g_obj_s mH_0) rfl hl (lw_V q1764 q1766 qs51 q122 q1767) rfl rfl hd_X6_parseSibling ⟨Nat.le_of_ble_eq_true rfl, Nat.le_of_ble_eq_true rfl⟩ (as := [.int z2]) (rest := []) rfl rfl (Nat.le_of_ble_eq_true rfl) ⟨(Nat.le_refl _), (Nat.le_refl _)⟩ dX6_parseArguments_42) (fun H locs hI => ?_)
    refine lv_if_eq (tgt := 72) hx hb dX6_parseArguments_45 (by decide) (fun c9 => ?_) (fun c9 => ?_)
    · replace hr := gIf_t c9 hr
      refine lv_iconst (v := 0) hx hb dX6_parseArguments_72 (by decide) ?_
      have hr := gS_i hr
      subst hr
      exact g_iret X hI (g_narZ (Or.inl rfl)) (Nat.le_refl _) (Nat.le_refl _) dX6_parseArguments_73
    · replace hr := gIf_f c9 hr
      refine lv_aload_n hx hb dX6_parseArguments_48 rfl (lv_at hl 0 rfl) ?_
      refine lv_iload_n hx hb dX6_parseArguments_49 rfl (lv_at hl 2 rfl) ?_
      refine lv_iconst (v := 1) hx hb dX6_parseArguments_50 (by decide) ?_
      refine lv_iadd hx hb dX6_parseArguments_51 ?_
      obtain ⟨v74, iE_75, iP_76, iA_77, iY_78, iF_79, iV_80, aK_81, hc73, hr⟩ := gT8_i hr
      refine gRun_i (g_runV X hI (w_X6_parseNumber hc73) (g_obj_s mH_0) rfl hl (lw_V q1768 q1770 qs52 q122 q1771) rfl rfl hd_X6_parseNumber ⟨Nat.le_of_ble_eq_true rfl, Nat.le_of_ble_eq_true rfl⟩ (as := [.int (z2 + (1 : Int32))]) (rest := []) rfl rfl (Nat.le_of_ble_eq_true rfl) ⟨(Nat.le_refl _), (Nat.le_refl _)⟩ dX6_parseArguments_52) (fun H locs hI => ?_)
      refine lv_if_eq (tgt := 72) hx hb dX6_parseArguments_55 (by decide) (fun c9 => ?_) (fun c9 => ?_)
      · replace hr := gIf_t c9 hr
        refine lv_iconst (v := 0) hx hb dX6_parseArguments_72 (by decide) ?_
        have hr := gS_i hr
        subst hr
        exact g_iret X hI (g_narZ (Or.inl rfl)) (Nat.le_refl _) (Nat.le_refl _) dX6_parseArguments_73
      · replace hr := gIf_f c9 hr
        refine lv_aload_n hx hb dX6_parseArguments_58 rfl (lv_at hl 0 rfl) ?_
        refine lv_iload_n hx hb dX6_parseArguments_59 rfl (lv_at hl 2 rfl) ?_
        refine lv_iconst (v := 2) hx hb dX6_parseArguments_60 (by decide) ?_
        refine lv_iadd hx hb dX6_parseArguments_61 ?_
        obtain ⟨v83, iE_84, iP_85, iA_86, iY_87, iF_88, iV_89, aK_90, hc82, hr⟩ := gT8_i hr
        refine gRun_i (g_runV X hI (w_X6_parseNumber hc82) (g_obj_s mH_0) rfl hl (lw_V q1768 q1770 qs52 q122 q1771) rfl rfl hd_X6_parseNumber ⟨Nat.le_of_ble_eq_true rfl, Nat.le_of_ble_eq_true rfl⟩ (as := [.int (z2 + (2 : Int32))]) (rest := []) rfl rfl (Nat.le_of_ble_eq_true rfl) ⟨(Nat.le_refl _), (Nat.le_refl _)⟩ dX6_parseArguments_62) (fun H locs hI => ?_)
        refine lv_if_eq (tgt := 72) hx hb dX6_parseArguments_65 (by decide) (fun c9 => ?_) (fun c9 => ?_)
        · replace hr := gIf_t c9 hr
          refine lv_iconst (v := 0) hx hb dX6_parseArguments_72 (by decide) ?_
          have hr := gS_i hr
          subst hr
          exact g_iret X hI (g_narZ (Or.inl rfl)) (Nat.le_refl _) (Nat.le_refl _) dX6_parseArguments_73
        · replace hr := gIf_f c9 hr
          refine lv_iconst (v := 1) hx hb dX6_parseArguments_68 (by decide) ?_
          refine lv_goto (tgt := 73) hx hb dX6_parseArguments_69 (by decide) ?_
          have hr := gS_i hr
          subst hr
          exact g_iret X hI (g_narZ (Or.inr rfl)) (Nat.le_refl _) (Nat.le_refl _) dX6_parseArguments_73
  replace hr := gIf_f c9 hr
  have n3 := c9
  by_cases c9 : z1 = 4
  · replace hr := gIf_t c9 hr
    refine lv_tableIn (off := 99) (tgt := 100) hx hb dX6_parseArguments_1 (by rw [c9]; decide) (by rw [c9]; decide) (by rw [c9]; rfl) (by decide) ?_
    refine lv_aload_n hx hb dX6_parseArguments_100 rfl (lv_at hl 0 rfl) ?_
    refine lv_iload_n hx hb dX6_parseArguments_101 rfl (lv_at hl 2 rfl) ?_
    obtain ⟨v92, iE_93, iP_94, iA_95, iY_96, iF_97, iV_98, aK_99, hc91, hr⟩ := gT8_i hr
    refine gRun_i (g_runV X hI (w_X6_parseSibling hc91) (g_obj_s mH_0) rfl hl (lw_V q1764 q1766 qs51 q122 q1767) rfl rfl hd_X6_parseSibling ⟨Nat.le_of_ble_eq_true rfl, Nat.le_of_ble_eq_true rfl⟩ (as := [.int z2]) (rest := []) rfl rfl (Nat.le_of_ble_eq_true rfl) ⟨(Nat.le_refl _), (Nat.le_refl _)⟩ dX6_parseArguments_102) (fun H locs hI => ?_)
    refine lv_if_eq (tgt := 122) hx hb dX6_parseArguments_105 (by decide) (fun c9 => ?_) (fun c9 => ?_)
    · replace hr := gIf_t c9 hr
      refine lv_iconst (v := 0) hx hb dX6_parseArguments_122 (by decide) ?_
      have hr := gS_i hr
      subst hr
      exact g_iret X hI (g_narZ (Or.inl rfl)) (Nat.le_refl _) (Nat.le_refl _) dX6_parseArguments_123
    · replace hr := gIf_f c9 hr
      refine lv_aload_n hx hb dX6_parseArguments_108 rfl (lv_at hl 0 rfl) ?_
      refine lv_iload_n hx hb dX6_parseArguments_109 rfl (lv_at hl 2 rfl) ?_
      refine lv_iconst (v := 1) hx hb dX6_parseArguments_110 (by decide) ?_
      refine lv_iadd hx hb dX6_parseArguments_111 ?_
      obtain ⟨v101, iE_102, iP_103, iA_104, iY_105, iF_106, iV_107, aK_108, hc100, hr⟩ := gT8_i hr
      refine gRun_i (g_runV X hI (w_X6_parseSibling hc100) (g_obj_s mH_0) rfl hl (lw_V q1764 q1766 qs51 q122 q1767) rfl rfl hd_X6_parseSibling ⟨Nat.le_of_ble_eq_true rfl, Nat.le_of_ble_eq_true rfl⟩ (as := [.int (z2 + (1 : Int32))]) (rest := []) rfl rfl (Nat.le_of_ble_eq_true rfl) ⟨(Nat.le_refl _), (Nat.le_refl _)⟩ dX6_parseArguments_112) (fun H locs hI => ?_)
      refine lv_if_eq (tgt := 122) hx hb dX6_parseArguments_115 (by decide) (fun c9 => ?_) (fun c9 => ?_)
      · replace hr := gIf_t c9 hr
        refine lv_iconst (v := 0) hx hb dX6_parseArguments_122 (by decide) ?_
        have hr := gS_i hr
        subst hr
        exact g_iret X hI (g_narZ (Or.inl rfl)) (Nat.le_refl _) (Nat.le_refl _) dX6_parseArguments_123
      · replace hr := gIf_f c9 hr
        refine lv_iconst (v := 1) hx hb dX6_parseArguments_118 (by decide) ?_
        refine lv_goto (tgt := 123) hx hb dX6_parseArguments_119 (by decide) ?_
        have hr := gS_i hr
        subst hr
        exact g_iret X hI (g_narZ (Or.inr rfl)) (Nat.le_refl _) (Nat.le_refl _) dX6_parseArguments_123
  replace hr := gIf_f c9 hr
  have n4 := c9
  by_cases c9 : z1 = 5
  · replace hr := gIf_t c9 hr
    refine lv_tableIn (off := 123) (tgt := 124) hx hb dX6_parseArguments_1 (by rw [c9]; decide) (by rw [c9]; decide) (by rw [c9]; rfl) (by decide) ?_
    refine lv_iconst (v := 1) hx hb dX6_parseArguments_124 (by decide) ?_
    have hr := gS_i hr
    subst hr
    exact g_iret X hI (g_narZ (Or.inr rfl)) (Nat.le_refl _) (Nat.le_refl _) dX6_parseArguments_125
  replace hr := gIf_f c9 hr
  have n5 := c9
  refine lv_tableOut (tgt := 126) hx hb dX6_parseArguments_1 (by have m0 := lv_neT (a := 0) n0 (by decide); have m1 := lv_neT (a := 1) n1 (by decide); have m2 := lv_neT (a := 2) n2 (by decide); have m3 := lv_neT (a := 3) n3 (by decide); have m4 := lv_neT (a := 4) n4 (by decide); have m5 := lv_neT (a := 5) n5 (by decide); omega) (by decide) ?_
  refine lv_aload_n hx hb dX6_parseArguments_126 rfl (lv_at hl 0 rfl) ?_
  refine lv_iload_n hx hb dX6_parseArguments_127 rfl (lv_at hl 2 rfl) ?_
  obtain ⟨v110, iE_111, iP_112, iA_113, iY_114, iF_115, iV_116, aK_117, hc109, hr⟩ := gT8_i hr
  refine gRun_i (g_runV X hI (w_X6_parseSibling hc109) (g_obj_s mH_0) rfl hl (lw_V q1764 q1766 qs51 q122 q1767) rfl rfl hd_X6_parseSibling ⟨Nat.le_of_ble_eq_true rfl, Nat.le_of_ble_eq_true rfl⟩ (as := [.int z2]) (rest := []) rfl rfl (Nat.le_of_ble_eq_true rfl) ⟨(Nat.le_refl _), (Nat.le_refl _)⟩ dX6_parseArguments_128) (fun H locs hI => ?_)
  obtain ⟨c9, hr⟩ := gIf_o hr
  have hr := gS_i hr
  subst hr
  exact g_iret X hI (g_narZ c9) (Nat.le_refl _) (Nat.le_refl _) dX6_parseArguments_131
abbrev rm_X6_parseScript : Room := { frames := 9, cells := 0, slots := 0, locals := 466 }
theorem hd_X6_parseScript : yX6_parseScript.cls = RX6 ∧ yX6_parseScript.cls ≠ "java/lang/invoke/MethodHandle" ∧ yX6_parseScript.cls ≠ "java/lang/invoke/VarHandle" ∧ (parseMethodDescriptor yX6_parseScript.desc).map (fun d => d.parameters.length) = some 0 := by decide +kernel
set_option maxHeartbeats 2000000 in
theorem w_X6_parseScript_J46 {h : gH} {n : Nat} {o : Nat} {aM : (Nat → Int32)} {aS : (Nat → Int32)} {iU : Int32} {aB : (Nat → Int32)} {iL : Int32} {iE : Int32} {iP : Int32} {aR : (Nat → Int32)} {iW : Int32} {iT : Int32} {aT : (Nat → Int32)} {aC : (Nat → Int32)} {aH : (Nat → Int32)} {aE : (Nat → Int32)} {aQ : (Nat → Int32)} {iA : Int32} {iY : Int32} {iF : Int32} {iV : Int32} {aK : (Nat → Int32)} {r2 : Int32 → Int32 → Int32 → Int32 → Int32 → Int32 → Int32 → (Nat → Int32) → Option (Int32 × Int32 × Int32 × Int32 × Int32 × Int32 × Int32 × (Nat → Int32))} {z1 : Int32} {z2 : Int32} {s0 : Int32} {res : Int32 × Int32 × Int32 × Int32 × Int32 × Int32 × Int32 × (Nat → Int32)} (X : gXX x base RX6 cX6_parseScript 4 (some .int) p l s m args meth c) (Hr2 : ∀ {z1 : Int32} {iE : Int32} {iP : Int32} {iA : Int32} {iY : Int32} {iF : Int32} {iV : Int32} {aK : (Nat → Int32)} {H : Heap} {locs : List Loc} {ls : Array Slot}, r2 z1 iE iP iA iY iF iV aK = some res → gI x base s.heap (mH h o aM aS iU aB iL iE iP aR iW iT aT aC aH aE aQ iA iY iF iV aK) n H locs → lv_has ls 4 [(0, .ref o), (1, .int z1)] → W p l e rm_X6_parseScript s m args below meth c H locs 0 0 (MQ below (gQ x base (some (.int res.1)) (mH h o aM aS iU aB iL res.2.1 res.2.2.1 aR iW iT aT aC aH aE aQ res.2.2.2.1 res.2.2.2.2.1 res.2.2.2.2.2.1 res.2.2.2.2.2.2.1 res.2.2.2.2.2.2.2) n) args s 0 0 (fun q => base ≤ q)) (F0 m 2 ls [])) {H : Heap} {locs : List Loc} {ls : Array Slot} (hr : f_X6_parseScript_J46 x r2 z1 z2 s0 aM aB iL iE iP iA iY iF iV aK = some res) (hI : gI x base s.heap (mH h o aM aS iU aB iL iE iP aR iW iT aT aC aH aE aQ iA iY iF iV aK) n H locs) (hl : lv_has ls 4 [(0, .ref o), (1, .int z1), (2, .int z2)]) : W p l e rm_X6_parseScript s m args below meth c H locs 0 0 (MQ below (gQ x base (some (.int res.1)) (mH h o aM aS iU aB iL res.2.1 res.2.2.1 aR iW iT aT aC aH aE aQ res.2.2.2.1 res.2.2.2.2.1 res.2.2.2.2.2.1 res.2.2.2.2.2.2.1 res.2.2.2.2.2.2.2) n) args s 0 0 (fun q => base ≤ q)) (F0 m 46 ls [.int s0]) := by
  have hx := X.1
  have hb := X.2.1
  unfold f_X6_parseScript_J46 at hr
  refine lv_istore_n (lv' := [(3, .int s0), (0, .ref o), (1, .int z1), (2, .int z2)]) hx hb dX6_parseScript_46 rfl hl (by decide) rfl (fun ls hl => ?_)
  refine lv_iload_n hx hb dX6_parseScript_47 rfl (lv_at hl 0 rfl) ?_
  refine lv_if_ne (tgt := 53) hx hb dX6_parseScript_48 (by decide) (fun c9 => ?_) (fun c9 => ?_)
  · replace hr := gIf_f c9 hr
    refine lv_aload_n hx hb dX6_parseScript_53 rfl (lv_at hl 1 rfl) ?_
    obtain ⟨iA_8, iY_9, iF_10, iV_11, hc7, hr⟩ := gT4_i hr
    refine gRun_v (g_runV X hI (w_X6_token hc7) (g_obj_s mH_0) rfl hl (lw_V q1601 q1603 qs35 q122 q1604) rfl rfl hd_X6_token ⟨Nat.le_of_ble_eq_true rfl, Nat.le_of_ble_eq_true rfl⟩ (as := []) (rest := []) rfl rfl (Nat.le_of_ble_eq_true rfl) ⟨(Nat.le_refl _), (Nat.le_refl _)⟩ dX6_parseScript_54) (fun H locs hI => ?_)
    refine lv_aload_n hx hb dX6_parseScript_57 rfl (lv_at hl 1 rfl) ?_
    refine m_get X hI mH_0 19 (by decide) q1671 rfl dX6_parseScript_58 ?_
    refine lv_iload_n hx hb dX6_parseScript_61 rfl (lv_at hl 2 rfl) ?_
    refine lv_iconst (v := 4) hx hb dX6_parseScript_62 (by decide) ?_
    refine lv_imul hx hb dX6_parseScript_63 ?_
    refine lv_iload_n hx hb dX6_parseScript_64 rfl (lv_at hl 3 rfl) ?_
    refine m_iast X hI mH_aaK mH_saK hr dX6_parseScript_65 (fun aK_12 H locs hI hr => ?_)
    refine lv_aload_n hx hb dX6_parseScript_66 rfl (lv_at hl 1 rfl) ?_
    refine lv_iload_n hx hb dX6_parseScript_67 rfl (lv_at hl 3 rfl) ?_
    refine lv_iload_n hx hb dX6_parseScript_68 rfl (lv_at hl 2 rfl) ?_
    refine lv_iconst (v := 4) hx hb dX6_parseScript_69 (by decide) ?_
    refine lv_imul hx hb dX6_parseScript_70 ?_
    refine lv_iconst (v := 1) hx hb dX6_parseScript_71 (by decide) ?_
    refine lv_iadd hx hb dX6_parseScript_72 ?_
    obtain ⟨v14, iE_15, iP_16, iA_17, iY_18, iF_19, iV_20, aK_21, hc13, hr⟩ := gT8_i hr
    refine gRun_i (g_runV X hI (w_X6_parseArguments hc13) (g_obj_s mH_0) rfl hl (lw_V q1760 q1762 qs50 q122 q1763) rfl rfl hd_X6_parseArguments ⟨Nat.le_of_ble_eq_true rfl, Nat.le_of_ble_eq_true rfl⟩ (as := [.int z2, .int ((z1 * (4 : Int32)) + (1 : Int32))]) (rest := []) rfl rfl (Nat.le_of_ble_eq_true rfl) ⟨(Nat.le_refl _), (Nat.le_refl _)⟩ dX6_parseScript_73) (fun H locs hI => ?_)
    refine lv_if_eq (tgt := 86) hx hb dX6_parseScript_76 (by decide) (fun c9 => ?_) (fun c9 => ?_)
    · replace hr := gIf_t c9 hr
      refine lv_iconst (v := (-1)) hx hb dX6_parseScript_86 (by decide) ?_
      have hr := gS_i hr
      subst hr
      exact g_iret X hI rfl (Nat.le_refl _) (Nat.le_refl _) dX6_parseScript_87
    · replace hr := gIf_f c9 hr
      refine lv_aload_n hx hb dX6_parseScript_79 rfl (lv_at hl 1 rfl) ?_
      obtain ⟨v23, iE_24, iP_25, iA_26, iY_27, iF_28, iV_29, hc22, hr⟩ := gT7_i hr
      refine gRun_i (g_runV X hI (w_X6_semicolon hc22) (g_obj_s mH_0) rfl hl (lw_V q1631 q1633 qs40 q122 q1634) rfl rfl hd_X6_semicolon ⟨Nat.le_of_ble_eq_true rfl, Nat.le_of_ble_eq_true rfl⟩ (as := []) (rest := []) rfl rfl (Nat.le_of_ble_eq_true rfl) ⟨(Nat.le_refl _), (Nat.le_refl _)⟩ dX6_parseScript_80) (fun H locs hI => ?_)
      refine lv_if_ne (tgt := 88) hx hb dX6_parseScript_83 (by decide) (fun c9 => ?_) (fun c9 => ?_)
      · replace hr := gIf_f c9 hr
        refine lv_iinc (v := (z1 + (1 : Int32))) (lv' := [(1, .int (z1 + (1 : Int32))), (3, .int s0), (0, .ref o), (2, .int z2)]) hx hb dX6_parseScript_88 hl (k := 2) rfl (g_inc (by decide)) (by decide) rfl (fun ls hl => ?_)
        refine lv_goto (tgt := 2) hx hb dX6_parseScript_91 (by decide) ?_
        exact Hr2 hr hI (lv_sub hl [2, 0] rfl)
      · replace hr := gIf_t c9 hr
        refine lv_iconst (v := (-1)) hx hb dX6_parseScript_86 (by decide) ?_
        have hr := gS_i hr
        subst hr
        exact g_iret X hI rfl (Nat.le_refl _) (Nat.le_refl _) dX6_parseScript_87
  · replace hr := gIf_t c9 hr
    refine lv_iconst (v := (-1)) hx hb dX6_parseScript_51 (by decide) ?_
    have hr := gS_i hr
    subst hr
    exact g_iret X hI rfl (Nat.le_refl _) (Nat.le_refl _) dX6_parseScript_52
set_option maxHeartbeats 2000000 in
theorem w_X6_parseScript_J33 {h : gH} {n : Nat} {o : Nat} {aM : (Nat → Int32)} {aS : (Nat → Int32)} {iU : Int32} {aB : (Nat → Int32)} {iL : Int32} {iE : Int32} {iP : Int32} {aR : (Nat → Int32)} {iW : Int32} {iT : Int32} {aT : (Nat → Int32)} {aC : (Nat → Int32)} {aH : (Nat → Int32)} {aE : (Nat → Int32)} {aQ : (Nat → Int32)} {iA : Int32} {iY : Int32} {iF : Int32} {iV : Int32} {aK : (Nat → Int32)} {r2 : Int32 → Int32 → Int32 → Int32 → Int32 → Int32 → Int32 → (Nat → Int32) → Option (Int32 × Int32 × Int32 × Int32 × Int32 × Int32 × Int32 × (Nat → Int32))} {z1 : Int32} {z2 : Int32} {res : Int32 × Int32 × Int32 × Int32 × Int32 × Int32 × Int32 × (Nat → Int32)} (X : gXX x base RX6 cX6_parseScript 4 (some .int) p l s m args meth c) (Hr2 : ∀ {z1 : Int32} {iE : Int32} {iP : Int32} {iA : Int32} {iY : Int32} {iF : Int32} {iV : Int32} {aK : (Nat → Int32)} {H : Heap} {locs : List Loc} {ls : Array Slot}, r2 z1 iE iP iA iY iF iV aK = some res → gI x base s.heap (mH h o aM aS iU aB iL iE iP aR iW iT aT aC aH aE aQ iA iY iF iV aK) n H locs → lv_has ls 4 [(0, .ref o), (1, .int z1)] → W p l e rm_X6_parseScript s m args below meth c H locs 0 0 (MQ below (gQ x base (some (.int res.1)) (mH h o aM aS iU aB iL res.2.1 res.2.2.1 aR iW iT aT aC aH aE aQ res.2.2.2.1 res.2.2.2.2.1 res.2.2.2.2.2.1 res.2.2.2.2.2.2.1 res.2.2.2.2.2.2.2) n) args s 0 0 (fun q => base ≤ q)) (F0 m 2 ls [])) {H : Heap} {locs : List Loc} {ls : Array Slot} (hr : f_X6_parseScript_J33 x r2 z1 z2 aM aB iL iE iP iA iY iF iV aK = some res) (hI : gI x base s.heap (mH h o aM aS iU aB iL iE iP aR iW iT aT aC aH aE aQ iA iY iF iV aK) n H locs) (hl : lv_has ls 4 [(0, .ref o), (1, .int z1), (2, .int z2)]) : W p l e rm_X6_parseScript s m args below meth c H locs 0 0 (MQ below (gQ x base (some (.int res.1)) (mH h o aM aS iU aB iL res.2.1 res.2.2.1 aR iW iT aT aC aH aE aQ res.2.2.2.1 res.2.2.2.2.1 res.2.2.2.2.2.1 res.2.2.2.2.2.2.1 res.2.2.2.2.2.2.2) n) args s 0 0 (fun q => base ≤ q)) (F0 m 33 ls []) := by
  have hx := X.1
  have hb := X.2.1
  unfold f_X6_parseScript_J33 at hr
  refine lv_iconst (v := 1) hx hb dX6_parseScript_33 (by decide) ?_
  refine lv_goto (tgt := 46) hx hb dX6_parseScript_34 (by decide) ?_
  exact w_X6_parseScript_J46 X Hr2 hr hI (lv_sub hl [0, 1, 2] rfl)
set_option maxHeartbeats 2000000 in
theorem w_X6_parseScript_L2 {h : gH} {n : Nat} {o : Nat} {aM : (Nat → Int32)} {aS : (Nat → Int32)} {iU : Int32} {aB : (Nat → Int32)} {iL : Int32} {aR : (Nat → Int32)} {iW : Int32} {iT : Int32} {aT : (Nat → Int32)} {aC : (Nat → Int32)} {aH : (Nat → Int32)} {aE : (Nat → Int32)} {aQ : (Nat → Int32)} {res : Int32 × Int32 × Int32 × Int32 × Int32 × Int32 × Int32 × (Nat → Int32)} (X : gXX x base RX6 cX6_parseScript 4 (some .int) p l s m args meth c) : ∀ (k : Nat) {z1 : Int32} {iE : Int32} {iP : Int32} {iA : Int32} {iY : Int32} {iF : Int32} {iV : Int32} {aK : (Nat → Int32)} {H : Heap} {locs : List Loc} {ls : Array Slot}, gL8 (f_X6_parseScript_L2 x aM aB iL) k z1 iE iP iA iY iF iV aK = some res → gI x base s.heap (mH h o aM aS iU aB iL iE iP aR iW iT aT aC aH aE aQ iA iY iF iV aK) n H locs → lv_has ls 4 [(0, .ref o), (1, .int z1)] → W p l e rm_X6_parseScript s m args below meth c H locs 0 0 (MQ below (gQ x base (some (.int res.1)) (mH h o aM aS iU aB iL res.2.1 res.2.2.1 aR iW iT aT aC aH aE aQ res.2.2.2.1 res.2.2.2.2.1 res.2.2.2.2.2.1 res.2.2.2.2.2.2.1 res.2.2.2.2.2.2.2) n) args s 0 0 (fun q => base ≤ q)) (F0 m 2 ls []) := by
  have hx := X.1
  have hb := X.2.1
  intro k
  induction k with
  | zero =>
    intros
    rename_i hr _ _
    exact nomatch (show (none : Option _) = some _ from hr)
  | succ k ih =>
    intro z1 iE iP iA iY iF iV aK H locs ls hr hI hl
    replace hr : f_X6_parseScript_L2 x aM aB iL (gL8 (f_X6_parseScript_L2 x aM aB iL) k) z1 iE iP iA iY iF iV aK = some res := hr
    unfold f_X6_parseScript_L2 at hr
    refine lv_aload_n hx hb dX6_parseScript_2 rfl (lv_at hl 0 rfl) ?_
    refine m_get X hI mH_0 16 (by decide) q1668 rfl dX6_parseScript_3 ?_
    refine lv_if_eq (tgt := 94) hx hb dX6_parseScript_6 (by decide) (fun c9 => ?_) (fun c9 => ?_)
    · replace hr := gIf_t c9 hr
      refine lv_iload_n hx hb dX6_parseScript_94 rfl (lv_at hl 1 rfl) ?_
      have hr := gS_i hr
      subst hr
      exact g_iret X hI rfl (Nat.le_refl _) (Nat.le_refl _) dX6_parseScript_95
    · replace hr := gIf_f c9 hr
      refine lv_aload_n hx hb dX6_parseScript_9 rfl (lv_at hl 0 rfl) ?_
      obtain ⟨v2, hc1, hr⟩ := gB_i hr
      refine gRun_i (g_runV X hI (w_X6_commandHere hc1) (g_obj_s mH_0) rfl hl (lw_V q1745 q1747 qs49 q122 q1748) rfl rfl hd_X6_commandHere ⟨Nat.le_of_ble_eq_true rfl, Nat.le_of_ble_eq_true rfl⟩ (as := []) (rest := []) rfl rfl (Nat.le_of_ble_eq_true rfl) ⟨(Nat.le_refl _), (Nat.le_refl _)⟩ dX6_parseScript_10) (fun H locs hI => ?_)
      refine lv_istore_n (lv' := [(2, .int v2), (0, .ref o), (1, .int z1)]) hx hb dX6_parseScript_13 rfl hl (by decide) rfl (fun ls hl => ?_)
      refine lv_iload_n hx hb dX6_parseScript_14 rfl (lv_at hl 0 rfl) ?_
      refine lv_iconst (v := (-1)) hx hb dX6_parseScript_15 (by decide) ?_
      refine lv_icmp_eq (tgt := 41) hx hb dX6_parseScript_16 (by decide) (fun c9 => ?_) (fun c9 => ?_)
      · replace hr := gIf_t c9 hr
        refine lv_aload_n hx hb dX6_parseScript_41 rfl (lv_at hl 1 rfl) ?_
        refine lv_iconst (v := 1) hx hb dX6_parseScript_42 (by decide) ?_
        obtain ⟨v4, iE_5, iP_6, hc3, hr⟩ := gT3_i hr
        refine gRun_i (g_runV X hI (w_X6_wrong hc3) (g_obj_s mH_0) rfl hl (lw_V q1620 q1622 qs38 q122 q1623) rfl rfl hd_X6_wrong ⟨Nat.le_of_ble_eq_true rfl, Nat.le_of_ble_eq_true rfl⟩ (as := [.int (1 : Int32)]) (rest := []) rfl rfl (Nat.le_of_ble_eq_true rfl) ⟨(Nat.le_refl _), (Nat.le_refl _)⟩ dX6_parseScript_43) (fun H locs hI => ?_)
        exact w_X6_parseScript_J46 X ih hr hI (lv_sub hl [1, 2, 0] rfl)
      · replace hr := gIf_f c9 hr
        refine lv_iload_n hx hb dX6_parseScript_19 rfl (lv_at hl 2 rfl) ?_
        refine lv_bipush (v := 30) hx hb dX6_parseScript_20 (by decide) ?_
        refine lv_icmp_lt (tgt := 33) hx hb dX6_parseScript_22 (by decide) (fun c9 => ?_) (fun c9 => ?_)
        · replace hr := gIf_t c9 hr
          exact w_X6_parseScript_J33 X ih hr hI (lv_sub hl [1, 2, 0] rfl)
        · replace hr := gIf_f c9 hr
          refine lv_aload_n hx hb dX6_parseScript_25 rfl (lv_at hl 1 rfl) ?_
          refine lv_iconst (v := 4) hx hb dX6_parseScript_26 (by decide) ?_
          obtain ⟨v31, iE_32, iP_33, hc30, hr⟩ := gT3_i hr
          refine gRun_i (g_runV X hI (w_X6_wrong hc30) (g_obj_s mH_0) rfl hl (lw_V q1620 q1622 qs38 q122 q1623) rfl rfl hd_X6_wrong ⟨Nat.le_of_ble_eq_true rfl, Nat.le_of_ble_eq_true rfl⟩ (as := [.int (4 : Int32)]) (rest := []) rfl rfl (Nat.le_of_ble_eq_true rfl) ⟨(Nat.le_refl _), (Nat.le_refl _)⟩ dX6_parseScript_27) (fun H locs hI => ?_)
          refine lv_if_eq (tgt := 37) hx hb dX6_parseScript_30 (by decide) (fun c9 => ?_) (fun c9 => ?_)
          · replace hr := gIf_t c9 hr
            refine lv_iconst (v := 0) hx hb dX6_parseScript_37 (by decide) ?_
            refine lv_goto (tgt := 46) hx hb dX6_parseScript_38 (by decide) ?_
            exact w_X6_parseScript_J46 X ih hr hI (lv_sub hl [1, 2, 0] rfl)
          · replace hr := gIf_f c9 hr
            exact w_X6_parseScript_J33 X ih hr hI (lv_sub hl [1, 2, 0] rfl)
set_option maxHeartbeats 2000000 in
theorem w_X6_parseScript {l : Launch} {x : gV} {base : Nat} {h : gH} {n : Nat} {o : Nat} {aM : (Nat → Int32)} {aS : (Nat → Int32)} {iU : Int32} {aB : (Nat → Int32)} {iL : Int32} {iE : Int32} {iP : Int32} {aR : (Nat → Int32)} {iW : Int32} {iT : Int32} {aT : (Nat → Int32)} {aC : (Nat → Int32)} {aH : (Nat → Int32)} {aE : (Nat → Int32)} {aQ : (Nat → Int32)} {iA : Int32} {iY : Int32} {iF : Int32} {iV : Int32} {aK : (Nat → Int32)} {res : Int32 × Int32 × Int32 × Int32 × Int32 × Int32 × Int32 × (Nat → Int32)} (hr : f_X6_parseScript x aM aB iL iE iP iA iY iF iV aK = some res) : gM l yX6_parseScript (ws_ yX6_parseScript cX6_parseScript 4 (some .int)) rm_X6_parseScript x base [.ref o] (mH h o aM aS iU aB iL iE iP aR iW iT aT aC aH aE aQ iA iY iF iV aK) n (some (.int res.1)) (mH h o aM aS iU aB iL res.2.1 res.2.2.1 aR iW iT aT aC aH aE aQ res.2.2.2.1 res.2.2.2.2.1 res.2.2.2.2.2.1 res.2.2.2.2.2.2.1 res.2.2.2.2.2.2.2) n 0 0 := by
  refine g_met (cc := cX6_parseScript) (nL := 4) (ret := (some .int)) (by decide) (Nat.le_of_ble_eq_true rfl) (fun p e s m below meth c ls X hnm hl hI => ?_)
  have hl : lv_has ls 4 [(0, .ref o)] := hl
  have hx := X.1
  have hb := X.2.1
  unfold f_X6_parseScript at hr
  refine lv_iconst (v := 0) hx hb dX6_parseScript_0 (by decide) ?_
  refine lv_istore_n (lv' := [(1, .int (0 : Int32)), (0, .ref o)]) hx hb dX6_parseScript_1 rfl hl (by decide) rfl (fun ls hl => ?_)
  exact w_X6_parseScript_L2 X gN hr hI (lv_sub hl [1, 0] rfl)
abbrev rm_X6_remember : Room := { frames := 1, cells := 0, slots := 0, locals := 23 }
theorem hd_X6_remember : yX6_remember.cls = RX6 ∧ yX6_remember.cls ≠ "java/lang/invoke/MethodHandle" ∧ yX6_remember.cls ≠ "java/lang/invoke/VarHandle" ∧ (parseMethodDescriptor yX6_remember.desc).map (fun d => d.parameters.length) = some 1 := by decide +kernel
set_option maxHeartbeats 2000000 in
theorem w_X6_remember_J41 {h : gH} {n : Nat} {o : Nat} {aM : (Nat → Int32)} {aS : (Nat → Int32)} {iU : Int32} {aB : (Nat → Int32)} {iL : Int32} {iE : Int32} {iP : Int32} {aR : (Nat → Int32)} {iW : Int32} {iT : Int32} {aT : (Nat → Int32)} {aC : (Nat → Int32)} {aH : (Nat → Int32)} {aE : (Nat → Int32)} {aQ : (Nat → Int32)} {iA : Int32} {iY : Int32} {iF : Int32} {iV : Int32} {aK : (Nat → Int32)} {z1 : Int32} {res : (Nat → Int32) × Int32} (X : gXX x base RX6 cX6_remember 3 none p l s m args meth c) {H : Heap} {locs : List Loc} {ls : Array Slot} (hr : f_X6_remember_J41 z1 aM iU = some res) (hI : gI x base s.heap (mH h o aM aS iU aB iL iE iP aR iW iT aT aC aH aE aQ iA iY iF iV aK) n H locs) (hl : lv_has ls 3 [(0, .ref o), (1, .int z1)]) : W p l e rm_X6_remember s m args below meth c H locs 0 0 (MQ below (gQ x base none (mH h o res.1 aS res.2 aB iL iE iP aR iW iT aT aC aH aE aQ iA iY iF iV aK) n) args s 0 0 (fun q => base ≤ q)) (F0 m 41 ls []) := by
  have hx := X.1
  have hb := X.2.1
  unfold f_X6_remember_J41 at hr
  refine lv_aload_n hx hb dX6_remember_41 rfl (lv_at hl 0 rfl) ?_
  refine lv_dup hx hb dX6_remember_42 rfl ?_
  refine m_get X hI mH_0 2 (by decide) q1654 rfl dX6_remember_43 ?_
  refine lv_iconst (v := 1) hx hb dX6_remember_46 (by decide) ?_
  refine lv_iadd hx hb dX6_remember_47 ?_
  refine m_put X hI mH_0 2 (by decide) q1654 rfl (by decide +kernel) (Nat.le_of_ble_eq_true rfl) rfl mH_iU dX6_remember_48 (fun H locs hI => ?_)
  refine lv_aload_n hx hb dX6_remember_51 rfl (lv_at hl 0 rfl) ?_
  refine lv_iload_n hx hb dX6_remember_52 rfl (lv_at hl 1 rfl) ?_
  refine lv_aload_n hx hb dX6_remember_53 rfl (lv_at hl 0 rfl) ?_
  refine m_get X hI mH_0 2 (by decide) q1654 rfl dX6_remember_54 ?_
  obtain ⟨aM_2, hc1, hr⟩ := gB_i hr
  refine gRun_v (g_runV X hI (w_X6_copyBlock hc1) (g_obj_s mH_0) rfl hl (lw_V q1733 q1735 qs47 q122 q1736) rfl rfl hd_X6_copyBlock ⟨Nat.le_of_ble_eq_true rfl, Nat.le_of_ble_eq_true rfl⟩ (as := [.int z1, .int (iU + (1 : Int32))]) (rest := []) rfl rfl (Nat.le_of_ble_eq_true rfl) ⟨(Nat.le_refl _), (Nat.le_refl _)⟩ dX6_remember_57) (fun H locs hI => ?_)
  have hr := gS_i hr
  subst hr
  exact g_vret X hI (Nat.le_refl _) (Nat.le_refl _) dX6_remember_60
set_option maxHeartbeats 2000000 in
theorem w_X6_remember_J31 {h : gH} {n : Nat} {o : Nat} {aM : (Nat → Int32)} {aS : (Nat → Int32)} {iU : Int32} {aB : (Nat → Int32)} {iL : Int32} {iE : Int32} {iP : Int32} {aR : (Nat → Int32)} {iW : Int32} {iT : Int32} {aT : (Nat → Int32)} {aC : (Nat → Int32)} {aH : (Nat → Int32)} {aE : (Nat → Int32)} {aQ : (Nat → Int32)} {iA : Int32} {iY : Int32} {iF : Int32} {iV : Int32} {aK : (Nat → Int32)} {z1 : Int32} {res : (Nat → Int32) × Int32} (X : gXX x base RX6 cX6_remember 3 none p l s m args meth c) {H : Heap} {locs : List Loc} {ls : Array Slot} (hr : f_X6_remember_J31 z1 aM iU = some res) (hI : gI x base s.heap (mH h o aM aS iU aB iL iE iP aR iW iT aT aC aH aE aQ iA iY iF iV aK) n H locs) (hl : lv_has ls 3 [(0, .ref o), (1, .int z1)]) : W p l e rm_X6_remember s m args below meth c H locs 0 0 (MQ below (gQ x base none (mH h o res.1 aS res.2 aB iL iE iP aR iW iT aT aC aH aE aQ iA iY iF iV aK) n) args s 0 0 (fun q => base ≤ q)) (F0 m 31 ls []) := by
  have hx := X.1
  have hb := X.2.1
  unfold f_X6_remember_J31 at hr
  refine lv_aload_n hx hb dX6_remember_31 rfl (lv_at hl 0 rfl) ?_
  refine lv_dup hx hb dX6_remember_32 rfl ?_
  refine m_get X hI mH_0 2 (by decide) q1654 rfl dX6_remember_33 ?_
  refine lv_iconst (v := 1) hx hb dX6_remember_36 (by decide) ?_
  refine lv_isub hx hb dX6_remember_37 ?_
  refine m_put X hI mH_0 2 (by decide) q1654 rfl (by decide +kernel) (Nat.le_of_ble_eq_true rfl) rfl mH_iU dX6_remember_38 (fun H locs hI => ?_)
  exact w_X6_remember_J41 X hr hI (lv_sub hl [0, 1] rfl)
set_option maxHeartbeats 2000000 in
theorem w_X6_remember_L11 {h : gH} {n : Nat} {o : Nat} {aS : (Nat → Int32)} {iU : Int32} {aB : (Nat → Int32)} {iL : Int32} {iE : Int32} {iP : Int32} {aR : (Nat → Int32)} {iW : Int32} {iT : Int32} {aT : (Nat → Int32)} {aC : (Nat → Int32)} {aH : (Nat → Int32)} {aE : (Nat → Int32)} {aQ : (Nat → Int32)} {iA : Int32} {iY : Int32} {iF : Int32} {iV : Int32} {aK : (Nat → Int32)} {z1 : Int32} {res : (Nat → Int32) × Int32} (X : gXX x base RX6 cX6_remember 3 none p l s m args meth c) : ∀ (k : Nat) {z2 : Int32} {aM : (Nat → Int32)} {H : Heap} {locs : List Loc} {ls : Array Slot}, gL2 (f_X6_remember_L11 z1 iU) k z2 aM = some res → gI x base s.heap (mH h o aM aS iU aB iL iE iP aR iW iT aT aC aH aE aQ iA iY iF iV aK) n H locs → lv_has ls 3 [(0, .ref o), (1, .int z1), (2, .int z2)] → W p l e rm_X6_remember s m args below meth c H locs 0 0 (MQ below (gQ x base none (mH h o res.1 aS res.2 aB iL iE iP aR iW iT aT aC aH aE aQ iA iY iF iV aK) n) args s 0 0 (fun q => base ≤ q)) (F0 m 11 ls []) := by
  have hx := X.1
  have hb := X.2.1
  intro k
  induction k with
  | zero =>
    intros
    rename_i hr _ _
    exact nomatch (show (none : Option _) = some _ from hr)
  | succ k ih =>
    intro z2 aM H locs ls hr hI hl
    replace hr : f_X6_remember_L11 z1 iU (gL2 (f_X6_remember_L11 z1 iU) k) z2 aM = some res := hr
    unfold f_X6_remember_L11 at hr
    refine lv_iload_n hx hb dX6_remember_11 rfl (lv_at hl 2 rfl) ?_
    refine lv_bipush (v := 6) hx hb dX6_remember_12 (by decide) ?_
    refine lv_icmp_ge (tgt := 31) hx hb dX6_remember_14 (by decide) (fun c9 => ?_) (fun c9 => ?_)
    · replace hr := gIf_t c9 hr
      exact w_X6_remember_J31 X hr hI (lv_sub hl [0, 1] rfl)
    · replace hr := gIf_f c9 hr
      refine lv_aload_n hx hb dX6_remember_17 rfl (lv_at hl 0 rfl) ?_
      refine lv_iload_n hx hb dX6_remember_18 rfl (lv_at hl 2 rfl) ?_
      refine lv_iconst (v := 1) hx hb dX6_remember_19 (by decide) ?_
      refine lv_iadd hx hb dX6_remember_20 ?_
      refine lv_iload_n hx hb dX6_remember_21 rfl (lv_at hl 2 rfl) ?_
      obtain ⟨aM_4, hc3, hr⟩ := gB_i hr
      refine gRun_v (g_runV X hI (w_X6_copyBlock hc3) (g_obj_s mH_0) rfl hl (lw_V q1733 q1735 qs47 q122 q1736) rfl rfl hd_X6_copyBlock ⟨Nat.le_of_ble_eq_true rfl, Nat.le_of_ble_eq_true rfl⟩ (as := [.int (z2 + (1 : Int32)), .int z2]) (rest := []) rfl rfl (Nat.le_of_ble_eq_true rfl) ⟨(Nat.le_refl _), (Nat.le_refl _)⟩ dX6_remember_22) (fun H locs hI => ?_)
      refine lv_iinc (v := (z2 + (1 : Int32))) (lv' := [(2, .int (z2 + (1 : Int32))), (0, .ref o), (1, .int z1)]) hx hb dX6_remember_25 hl (k := 2) rfl (g_inc (by decide)) (by decide) rfl (fun ls hl => ?_)
      refine lv_goto (tgt := 11) hx hb dX6_remember_28 (by decide) ?_
      exact ih hr hI (lv_sub hl [1, 2, 0] rfl)
set_option maxHeartbeats 2000000 in
theorem w_X6_remember {l : Launch} {x : gV} {base : Nat} {z1 : Int32} {h : gH} {n : Nat} {o : Nat} {aM : (Nat → Int32)} {aS : (Nat → Int32)} {iU : Int32} {aB : (Nat → Int32)} {iL : Int32} {iE : Int32} {iP : Int32} {aR : (Nat → Int32)} {iW : Int32} {iT : Int32} {aT : (Nat → Int32)} {aC : (Nat → Int32)} {aH : (Nat → Int32)} {aE : (Nat → Int32)} {aQ : (Nat → Int32)} {iA : Int32} {iY : Int32} {iF : Int32} {iV : Int32} {aK : (Nat → Int32)} {res : (Nat → Int32) × Int32} (hr : f_X6_remember z1 aM iU = some res) : gM l yX6_remember (ws_ yX6_remember cX6_remember 3 none) rm_X6_remember x base [.ref o, .int z1] (mH h o aM aS iU aB iL iE iP aR iW iT aT aC aH aE aQ iA iY iF iV aK) n none (mH h o res.1 aS res.2 aB iL iE iP aR iW iT aT aC aH aE aQ iA iY iF iV aK) n 0 0 := by
  refine g_met (cc := cX6_remember) (nL := 3) (ret := none) (by decide) (Nat.le_of_ble_eq_true rfl) (fun p e s m below meth c ls X hnm hl hI => ?_)
  have hl : lv_has ls 3 [(0, .ref o), (1, .int z1)] := hl
  have hx := X.1
  have hb := X.2.1
  unfold f_X6_remember at hr
  refine lv_aload_n hx hb dX6_remember_0 rfl (lv_at hl 0 rfl) ?_
  refine m_get X hI mH_0 2 (by decide) q1654 rfl dX6_remember_1 ?_
  refine lv_bipush (v := 6) hx hb dX6_remember_4 (by decide) ?_
  refine lv_icmp_ne (tgt := 41) hx hb dX6_remember_6 (by decide) (fun c9 => ?_) (fun c9 => ?_)
  · replace hr := gIf_f c9 hr
    exact w_X6_remember_J41 X hr hI (lv_sub hl [0, 1] rfl)
  · replace hr := gIf_t c9 hr
    refine lv_iconst (v := 1) hx hb dX6_remember_9 (by decide) ?_
    refine lv_istore_n (lv' := [(2, .int (1 : Int32)), (0, .ref o), (1, .int z1)]) hx hb dX6_remember_10 rfl hl (by decide) rfl (fun ls hl => ?_)
    exact w_X6_remember_L11 X gN hr hI (lv_sub hl [1, 2, 0] rfl)
abbrev rm_X6_isCell : Room := { frames := 1, cells := 0, slots := 0, locals := 22 }
theorem hd_X6_isCell : yX6_isCell.cls = RX6 ∧ yX6_isCell.cls ≠ "java/lang/invoke/MethodHandle" ∧ yX6_isCell.cls ≠ "java/lang/invoke/VarHandle" ∧ (parseMethodDescriptor yX6_isCell.desc).map (fun d => d.parameters.length) = some 1 := by decide +kernel
set_option maxHeartbeats 2000000 in
theorem w_X6_isCell {l : Launch} {x : gV} {base : Nat} {z1 : Int32} {h : gH} {n : Nat} {o : Nat} {aM : (Nat → Int32)} {aS : (Nat → Int32)} {iU : Int32} {aB : (Nat → Int32)} {iL : Int32} {iE : Int32} {iP : Int32} {aR : (Nat → Int32)} {iW : Int32} {iT : Int32} {aT : (Nat → Int32)} {aC : (Nat → Int32)} {aH : (Nat → Int32)} {aE : (Nat → Int32)} {aQ : (Nat → Int32)} {iA : Int32} {iY : Int32} {iF : Int32} {iV : Int32} {aK : (Nat → Int32)} {res : Int32} (hr : f_X6_isCell z1 aM = some res) : gM l yX6_isCell (ws_ yX6_isCell cX6_isCell 2 (some .boolean)) rm_X6_isCell x base [.ref o, .int z1] (mH h o aM aS iU aB iL iE iP aR iW iT aT aC aH aE aQ iA iY iF iV aK) n (some (.int res)) (mH h o aM aS iU aB iL iE iP aR iW iT aT aC aH aE aQ iA iY iF iV aK) n 0 0 := by
  refine g_met (cc := cX6_isCell) (nL := 2) (ret := (some .boolean)) (by decide) (Nat.le_of_ble_eq_true rfl) (fun p e s m below meth c ls X hnm hl hI => ?_)
  have hl : lv_has ls 2 [(0, .ref o), (1, .int z1)] := hl
  have hx := X.1
  have hb := X.2.1
  unfold f_X6_isCell at hr
  refine lv_iload_n hx hb dX6_isCell_0 rfl (lv_at hl 1 rfl) ?_
  refine lv_iconst (v := 0) hx hb dX6_isCell_1 (by decide) ?_
  refine lv_aload_n hx hb dX6_isCell_2 rfl (lv_at hl 0 rfl) ?_
  refine m_get X hI mH_0 0 (by decide) q1652 rfl dX6_isCell_3 ?_
  refine lv_iconst (v := 0) hx hb dX6_isCell_6 (by decide) ?_
  refine m_iald X hI mH_aaM hr dX6_isCell_7 (fun v1 hr => ?_)
  refine lv_iconst (v := 1) hx hb dX6_isCell_8 (by decide) ?_
  refine lv_isub hx hb dX6_isCell_9 ?_
  obtain ⟨v3, hc2, hr⟩ := gB_i hr
  refine gRun_i (g_runS X hI (w_X6_in hc2) hl (lw_S q1628 q1629 q122 q1630) rfl rfl hd_X6_in ⟨Nat.le_of_ble_eq_true rfl, Nat.le_of_ble_eq_true rfl⟩ (as := [.int z1, .int (0 : Int32), .int (v1 - (1 : Int32))]) (rest := []) rfl rfl (Nat.le_of_ble_eq_true rfl) ⟨(Nat.le_refl _), (Nat.le_refl _)⟩ dX6_isCell_10) (fun H locs hI => ?_)
  obtain ⟨c9, hr⟩ := gIf_o hr
  have hr := gS_i hr
  subst hr
  exact g_iret X hI (g_narZ c9) (Nat.le_refl _) (Nat.le_refl _) dX6_isCell_13
abbrev rm_X6_isRange : Room := { frames := 2, cells := 0, slots := 0, locals := 43 }
theorem hd_X6_isRange : yX6_isRange.cls = RX6 ∧ yX6_isRange.cls ≠ "java/lang/invoke/MethodHandle" ∧ yX6_isRange.cls ≠ "java/lang/invoke/VarHandle" ∧ (parseMethodDescriptor yX6_isRange.desc).map (fun d => d.parameters.length) = some 2 := by decide +kernel
set_option maxHeartbeats 2000000 in
theorem w_X6_isRange {l : Launch} {x : gV} {base : Nat} {z1 : Int32} {z2 : Int32} {h : gH} {n : Nat} {o : Nat} {aM : (Nat → Int32)} {aS : (Nat → Int32)} {iU : Int32} {aB : (Nat → Int32)} {iL : Int32} {iE : Int32} {iP : Int32} {aR : (Nat → Int32)} {iW : Int32} {iT : Int32} {aT : (Nat → Int32)} {aC : (Nat → Int32)} {aH : (Nat → Int32)} {aE : (Nat → Int32)} {aQ : (Nat → Int32)} {iA : Int32} {iY : Int32} {iF : Int32} {iV : Int32} {aK : (Nat → Int32)} {res : Int32} (hr : f_X6_isRange z1 z2 aM = some res) : gM l yX6_isRange (ws_ yX6_isRange cX6_isRange 3 (some .boolean)) rm_X6_isRange x base [.ref o, .int z1, .int z2] (mH h o aM aS iU aB iL iE iP aR iW iT aT aC aH aE aQ iA iY iF iV aK) n (some (.int res)) (mH h o aM aS iU aB iL iE iP aR iW iT aT aC aH aE aQ iA iY iF iV aK) n 0 0 := by
  refine g_met (cc := cX6_isRange) (nL := 3) (ret := (some .boolean)) (by decide) (Nat.le_of_ble_eq_true rfl) (fun p e s m below meth c ls X hnm hl hI => ?_)
  have hl : lv_has ls 3 [(0, .ref o), (1, .int z1), (2, .int z2)] := hl
  have hx := X.1
  have hb := X.2.1
  unfold f_X6_isRange at hr
  refine lv_aload_n hx hb dX6_isRange_0 rfl (lv_at hl 0 rfl) ?_
  refine lv_iload_n hx hb dX6_isRange_1 rfl (lv_at hl 1 rfl) ?_
  obtain ⟨v2, hc1, hr⟩ := gB_i hr
  refine gRun_i (g_runV X hI (w_X6_isCell hc1) (g_obj_s mH_0) rfl hl (lw_V q1784 q1786 qs56 q122 q1787) rfl rfl hd_X6_isCell ⟨Nat.le_of_ble_eq_true rfl, Nat.le_of_ble_eq_true rfl⟩ (as := [.int z1]) (rest := []) rfl rfl (Nat.le_of_ble_eq_true rfl) ⟨(Nat.le_refl _), (Nat.le_refl _)⟩ dX6_isRange_2) (fun H locs hI => ?_)
  refine lv_if_eq (tgt := 25) hx hb dX6_isRange_5 (by decide) (fun c9 => ?_) (fun c9 => ?_)
  · replace hr := gIf_t c9 hr
    refine lv_iconst (v := 0) hx hb dX6_isRange_25 (by decide) ?_
    have hr := gS_i hr
    subst hr
    exact g_iret X hI (g_narZ (Or.inl rfl)) (Nat.le_refl _) (Nat.le_refl _) dX6_isRange_26
  · replace hr := gIf_f c9 hr
    refine lv_aload_n hx hb dX6_isRange_8 rfl (lv_at hl 0 rfl) ?_
    refine lv_iload_n hx hb dX6_isRange_9 rfl (lv_at hl 2 rfl) ?_
    obtain ⟨v4, hc3, hr⟩ := gB_i hr
    refine gRun_i (g_runV X hI (w_X6_isCell hc3) (g_obj_s mH_0) rfl hl (lw_V q1784 q1786 qs56 q122 q1787) rfl rfl hd_X6_isCell ⟨Nat.le_of_ble_eq_true rfl, Nat.le_of_ble_eq_true rfl⟩ (as := [.int z2]) (rest := []) rfl rfl (Nat.le_of_ble_eq_true rfl) ⟨(Nat.le_refl _), (Nat.le_refl _)⟩ dX6_isRange_10) (fun H locs hI => ?_)
    refine lv_if_eq (tgt := 25) hx hb dX6_isRange_13 (by decide) (fun c9 => ?_) (fun c9 => ?_)
    · replace hr := gIf_t c9 hr
      refine lv_iconst (v := 0) hx hb dX6_isRange_25 (by decide) ?_
      have hr := gS_i hr
      subst hr
      exact g_iret X hI (g_narZ (Or.inl rfl)) (Nat.le_refl _) (Nat.le_refl _) dX6_isRange_26
    · replace hr := gIf_f c9 hr
      refine lv_iload_n hx hb dX6_isRange_16 rfl (lv_at hl 1 rfl) ?_
      refine lv_iload_n hx hb dX6_isRange_17 rfl (lv_at hl 2 rfl) ?_
      refine lv_icmp_gt (tgt := 25) hx hb dX6_isRange_18 (by decide) (fun c9 => ?_) (fun c9 => ?_)
      · replace hr := gIf_t c9 hr
        refine lv_iconst (v := 0) hx hb dX6_isRange_25 (by decide) ?_
        have hr := gS_i hr
        subst hr
        exact g_iret X hI (g_narZ (Or.inl rfl)) (Nat.le_refl _) (Nat.le_refl _) dX6_isRange_26
      · replace hr := gIf_f c9 hr
        refine lv_iconst (v := 1) hx hb dX6_isRange_21 (by decide) ?_
        refine lv_goto (tgt := 26) hx hb dX6_isRange_22 (by decide) ?_
        have hr := gS_i hr
        subst hr
        exact g_iret X hI (g_narZ (Or.inr rfl)) (Nat.le_refl _) (Nat.le_refl _) dX6_isRange_26
abbrev rm_X6_ownerOf : Room := { frames := 0, cells := 0, slots := 0, locals := 0 }
theorem hd_X6_ownerOf : yX6_ownerOf.cls = RX6 ∧ yX6_ownerOf.cls ≠ "java/lang/invoke/MethodHandle" ∧ yX6_ownerOf.cls ≠ "java/lang/invoke/VarHandle" ∧ (parseMethodDescriptor yX6_ownerOf.desc).map (fun d => d.parameters.length) = some 1 := by decide +kernel
set_option maxHeartbeats 2000000 in
theorem w_X6_ownerOf {l : Launch} {x : gV} {base : Nat} {z1 : Int32} {h : gH} {n : Nat} {o : Nat} {aM : (Nat → Int32)} {aS : (Nat → Int32)} {iU : Int32} {aB : (Nat → Int32)} {iL : Int32} {iE : Int32} {iP : Int32} {aR : (Nat → Int32)} {iW : Int32} {iT : Int32} {aT : (Nat → Int32)} {aC : (Nat → Int32)} {aH : (Nat → Int32)} {aE : (Nat → Int32)} {aQ : (Nat → Int32)} {iA : Int32} {iY : Int32} {iF : Int32} {iV : Int32} {aK : (Nat → Int32)} {res : Int32} (hr : f_X6_ownerOf z1 aM = some res) : gM l yX6_ownerOf (ws_ yX6_ownerOf cX6_ownerOf 2 (some .int)) rm_X6_ownerOf x base [.ref o, .int z1] (mH h o aM aS iU aB iL iE iP aR iW iT aT aC aH aE aQ iA iY iF iV aK) n (some (.int res)) (mH h o aM aS iU aB iL iE iP aR iW iT aT aC aH aE aQ iA iY iF iV aK) n 0 0 := by
  refine g_met (cc := cX6_ownerOf) (nL := 2) (ret := (some .int)) (by decide) (Nat.le_of_ble_eq_true rfl) (fun p e s m below meth c ls X hnm hl hI => ?_)
  have hl : lv_has ls 2 [(0, .ref o), (1, .int z1)] := hl
  have hx := X.1
  have hb := X.2.1
  unfold f_X6_ownerOf at hr
  refine lv_aload_n hx hb dX6_ownerOf_0 rfl (lv_at hl 0 rfl) ?_
  refine m_get X hI mH_0 0 (by decide) q1652 rfl dX6_ownerOf_1 ?_
  refine lv_iconst (v := 2) hx hb dX6_ownerOf_4 (by decide) ?_
  refine lv_iload_n hx hb dX6_ownerOf_5 rfl (lv_at hl 1 rfl) ?_
  refine lv_iadd hx hb dX6_ownerOf_6 ?_
  refine m_iald X hI mH_aaM hr dX6_ownerOf_7 (fun v1 hr => ?_)
  have hr := gS_i hr
  subst hr
  exact g_iret X hI rfl (Nat.le_refl _) (Nat.le_refl _) dX6_ownerOf_8
abbrev rm_X6_valueOf : Room := { frames := 0, cells := 0, slots := 0, locals := 0 }
theorem hd_X6_valueOf : yX6_valueOf.cls = RX6 ∧ yX6_valueOf.cls ≠ "java/lang/invoke/MethodHandle" ∧ yX6_valueOf.cls ≠ "java/lang/invoke/VarHandle" ∧ (parseMethodDescriptor yX6_valueOf.desc).map (fun d => d.parameters.length) = some 2 := by decide +kernel
set_option maxHeartbeats 2000000 in
theorem w_X6_valueOf {l : Launch} {x : gV} {base : Nat} {z1 : Int32} {z2 : Int32} {h : gH} {n : Nat} {o : Nat} {aM : (Nat → Int32)} {aS : (Nat → Int32)} {iU : Int32} {aB : (Nat → Int32)} {iL : Int32} {iE : Int32} {iP : Int32} {aR : (Nat → Int32)} {iW : Int32} {iT : Int32} {aT : (Nat → Int32)} {aC : (Nat → Int32)} {aH : (Nat → Int32)} {aE : (Nat → Int32)} {aQ : (Nat → Int32)} {iA : Int32} {iY : Int32} {iF : Int32} {iV : Int32} {aK : (Nat → Int32)} {res : Int32} (hr : f_X6_valueOf z1 z2 aM = some res) : gM l yX6_valueOf (ws_ yX6_valueOf cX6_valueOf 3 (some .int)) rm_X6_valueOf x base [.ref o, .int z1, .int z2] (mH h o aM aS iU aB iL iE iP aR iW iT aT aC aH aE aQ iA iY iF iV aK) n (some (.int res)) (mH h o aM aS iU aB iL iE iP aR iW iT aT aC aH aE aQ iA iY iF iV aK) n 0 0 := by
  refine g_met (cc := cX6_valueOf) (nL := 3) (ret := (some .int)) (by decide) (Nat.le_of_ble_eq_true rfl) (fun p e s m below meth c ls X hnm hl hI => ?_)
  have hl : lv_has ls 3 [(0, .ref o), (1, .int z1), (2, .int z2)] := hl
  have hx := X.1
  have hb := X.2.1
  unfold f_X6_valueOf at hr
  refine lv_aload_n hx hb dX6_valueOf_0 rfl (lv_at hl 0 rfl) ?_
  refine m_get X hI mH_0 0 (by decide) q1652 rfl dX6_valueOf_1 ?_
  refine lv_bipush (v := 26) hx hb dX6_valueOf_4 (by decide) ?_
  refine lv_iload_n hx hb dX6_valueOf_6 rfl (lv_at hl 1 rfl) ?_
  refine lv_bipush (v := 31) hx hb dX6_valueOf_7 (by decide) ?_
  refine lv_imul hx hb dX6_valueOf_9 ?_
  refine lv_iadd hx hb dX6_valueOf_10 ?_
  refine lv_bipush (v := 7) hx hb dX6_valueOf_11 (by decide) ?_
  refine lv_iadd hx hb dX6_valueOf_13 ?_
  refine lv_iload_n hx hb dX6_valueOf_14 rfl (lv_at hl 2 rfl) ?_
  refine lv_iadd hx hb dX6_valueOf_15 ?_
  refine m_iald X hI mH_aaM hr dX6_valueOf_16 (fun v1 hr => ?_)
  have hr := gS_i hr
  subst hr
  exact g_iret X hI rfl (Nat.le_refl _) (Nat.le_refl _) dX6_valueOf_17
abbrev rm_X6_worthShare : Room := { frames := 1, cells := 0, slots := 0, locals := 22 }
theorem hd_X6_worthShare : yX6_worthShare.cls = RX6 ∧ yX6_worthShare.cls ≠ "java/lang/invoke/MethodHandle" ∧ yX6_worthShare.cls ≠ "java/lang/invoke/VarHandle" ∧ (parseMethodDescriptor yX6_worthShare.desc).map (fun d => d.parameters.length) = some 2 := by decide +kernel
set_option maxHeartbeats 2000000 in
theorem w_X6_worthShare_L5 {h : gH} {n : Nat} {o : Nat} {aM : (Nat → Int32)} {aS : (Nat → Int32)} {iU : Int32} {aB : (Nat → Int32)} {iL : Int32} {iE : Int32} {iP : Int32} {aR : (Nat → Int32)} {iW : Int32} {iT : Int32} {aT : (Nat → Int32)} {aC : (Nat → Int32)} {aH : (Nat → Int32)} {aE : (Nat → Int32)} {aQ : (Nat → Int32)} {iA : Int32} {iY : Int32} {iF : Int32} {iV : Int32} {aK : (Nat → Int32)} {z1 : Int32} {z2 : Int32} {res : Int32} (X : gXX x base RX6 cX6_worthShare 5 (some .int) p l s m args meth c) : ∀ (k : Nat) {z3 : Int32} {z4 : Int32} {H : Heap} {locs : List Loc} {ls : Array Slot}, gL2 (f_X6_worthShare_L5 z1 z2 aM) k z3 z4 = some res → gI x base s.heap (mH h o aM aS iU aB iL iE iP aR iW iT aT aC aH aE aQ iA iY iF iV aK) n H locs → lv_has ls 5 [(0, .ref o), (1, .int z1), (2, .int z2), (3, .int z3), (4, .int z4)] → W p l e rm_X6_worthShare s m args below meth c H locs 0 0 (MQ below (gQ x base (some (.int res)) (mH h o aM aS iU aB iL iE iP aR iW iT aT aC aH aE aQ iA iY iF iV aK) n) args s 0 0 (fun q => base ≤ q)) (F0 m 5 ls []) := by
  have hx := X.1
  have hb := X.2.1
  intro k
  induction k with
  | zero =>
    intros
    rename_i hr _ _
    exact nomatch (show (none : Option _) = some _ from hr)
  | succ k ih =>
    intro z3 z4 H locs ls hr hI hl
    replace hr : f_X6_worthShare_L5 z1 z2 aM (gL2 (f_X6_worthShare_L5 z1 z2 aM) k) z3 z4 = some res := hr
    unfold f_X6_worthShare_L5 at hr
    refine lv_iload hx hb dX6_worthShare_5 (lv_at hl 4 rfl) ?_
    refine lv_aload_n hx hb dX6_worthShare_7 rfl (lv_at hl 0 rfl) ?_
    refine m_get X hI mH_0 0 (by decide) q1652 rfl dX6_worthShare_8 ?_
    refine lv_iconst (v := 0) hx hb dX6_worthShare_11 (by decide) ?_
    refine m_iald X hI mH_aaM hr dX6_worthShare_12 (fun v1 hr => ?_)
    refine lv_icmp_ge (tgt := 46) hx hb dX6_worthShare_13 (by decide) (fun c9 => ?_) (fun c9 => ?_)
    · replace hr := gIf_t c9 hr
      refine lv_iload_n hx hb dX6_worthShare_46 rfl (lv_at hl 3 rfl) ?_
      have hr := gS_i hr
      subst hr
      exact g_iret X hI rfl (Nat.le_refl _) (Nat.le_refl _) dX6_worthShare_47
    · replace hr := gIf_f c9 hr
      refine lv_iload_n hx hb dX6_worthShare_16 rfl (lv_at hl 3 rfl) ?_
      refine lv_aload_n hx hb dX6_worthShare_17 rfl (lv_at hl 0 rfl) ?_
      refine lv_iload hx hb dX6_worthShare_18 (lv_at hl 4 rfl) ?_
      obtain ⟨v3, hc2, hr⟩ := gB_i hr
      refine gRun_i (g_runV X hI (w_X6_ownerOf hc2) (g_obj_s mH_0) rfl hl (lw_V q1804 q1806 qs61 q122 q1807) rfl rfl hd_X6_ownerOf ⟨Nat.le_of_ble_eq_true rfl, Nat.le_of_ble_eq_true rfl⟩ (as := [.int z4]) (rest := [.int z3]) rfl rfl (Nat.le_of_ble_eq_true rfl) ⟨(Nat.le_refl _), (Nat.le_refl _)⟩ dX6_worthShare_20) (fun H locs hI => ?_)
      refine lv_iload_n hx hb dX6_worthShare_23 rfl (lv_at hl 2 rfl) ?_
      refine lv_icmp_ne (tgt := 37) hx hb dX6_worthShare_24 (by decide) (fun c9 => ?_) (fun c9 => ?_)
      · replace hr := gIf_f c9 hr
        refine lv_iconst (v := 0) hx hb dX6_worthShare_37 (by decide) ?_
        refine lv_iadd hx hb dX6_worthShare_38 ?_
        refine lv_istore_n (lv' := [(3, .int (z3 + (0 : Int32))), (0, .ref o), (1, .int z1), (2, .int z2), (4, .int z4)]) hx hb dX6_worthShare_39 rfl hl (by decide) rfl (fun ls hl => ?_)
        refine lv_iinc (v := (z4 + (1 : Int32))) (lv' := [(4, .int (z4 + (1 : Int32))), (3, .int (z3 + (0 : Int32))), (0, .ref o), (1, .int z1), (2, .int z2)]) hx hb dX6_worthShare_40 hl (k := 4) rfl (g_inc (by decide)) (by decide) rfl (fun ls hl => ?_)
        refine lv_goto (tgt := 5) hx hb dX6_worthShare_43 (by decide) ?_
        exact ih hr hI (lv_sub hl [2, 3, 4, 1, 0] rfl)
      · replace hr := gIf_t c9 hr
        refine lv_aload_n hx hb dX6_worthShare_27 rfl (lv_at hl 0 rfl) ?_
        refine lv_iload_n hx hb dX6_worthShare_28 rfl (lv_at hl 1 rfl) ?_
        refine lv_iload hx hb dX6_worthShare_29 (lv_at hl 4 rfl) ?_
        obtain ⟨v5, hc4, hr⟩ := gB_i hr
        refine gRun_i (g_runV X hI (w_X6_valueOf hc4) (g_obj_s mH_0) rfl hl (lw_V q1808 q1810 qs62 q122 q1811) rfl rfl hd_X6_valueOf ⟨Nat.le_of_ble_eq_true rfl, Nat.le_of_ble_eq_true rfl⟩ (as := [.int z1, .int z4]) (rest := [.int z3]) rfl rfl (Nat.le_of_ble_eq_true rfl) ⟨(Nat.le_refl _), (Nat.le_refl _)⟩ dX6_worthShare_31) (fun H locs hI => ?_)
        refine lv_goto (tgt := 38) hx hb dX6_worthShare_34 (by decide) ?_
        refine lv_iadd hx hb dX6_worthShare_38 ?_
        refine lv_istore_n (lv' := [(3, .int (z3 + v5)), (0, .ref o), (1, .int z1), (2, .int z2), (4, .int z4)]) hx hb dX6_worthShare_39 rfl hl (by decide) rfl (fun ls hl => ?_)
        refine lv_iinc (v := (z4 + (1 : Int32))) (lv' := [(4, .int (z4 + (1 : Int32))), (3, .int (z3 + v5)), (0, .ref o), (1, .int z1), (2, .int z2)]) hx hb dX6_worthShare_40 hl (k := 4) rfl (g_inc (by decide)) (by decide) rfl (fun ls hl => ?_)
        refine lv_goto (tgt := 5) hx hb dX6_worthShare_43 (by decide) ?_
        exact ih hr hI (lv_sub hl [2, 3, 4, 1, 0] rfl)
set_option maxHeartbeats 2000000 in
theorem w_X6_worthShare {l : Launch} {x : gV} {base : Nat} {z1 : Int32} {z2 : Int32} {h : gH} {n : Nat} {o : Nat} {aM : (Nat → Int32)} {aS : (Nat → Int32)} {iU : Int32} {aB : (Nat → Int32)} {iL : Int32} {iE : Int32} {iP : Int32} {aR : (Nat → Int32)} {iW : Int32} {iT : Int32} {aT : (Nat → Int32)} {aC : (Nat → Int32)} {aH : (Nat → Int32)} {aE : (Nat → Int32)} {aQ : (Nat → Int32)} {iA : Int32} {iY : Int32} {iF : Int32} {iV : Int32} {aK : (Nat → Int32)} {res : Int32} (hr : f_X6_worthShare z1 z2 aM = some res) : gM l yX6_worthShare (ws_ yX6_worthShare cX6_worthShare 5 (some .int)) rm_X6_worthShare x base [.ref o, .int z1, .int z2] (mH h o aM aS iU aB iL iE iP aR iW iT aT aC aH aE aQ iA iY iF iV aK) n (some (.int res)) (mH h o aM aS iU aB iL iE iP aR iW iT aT aC aH aE aQ iA iY iF iV aK) n 0 0 := by
  refine g_met (cc := cX6_worthShare) (nL := 5) (ret := (some .int)) (by decide) (Nat.le_of_ble_eq_true rfl) (fun p e s m below meth c ls X hnm hl hI => ?_)
  have hl : lv_has ls 5 [(0, .ref o), (1, .int z1), (2, .int z2)] := hl
  have hx := X.1
  have hb := X.2.1
  unfold f_X6_worthShare at hr
  refine lv_iconst (v := 0) hx hb dX6_worthShare_0 (by decide) ?_
  refine lv_istore_n (lv' := [(3, .int (0 : Int32)), (0, .ref o), (1, .int z1), (2, .int z2)]) hx hb dX6_worthShare_1 rfl hl (by decide) rfl (fun ls hl => ?_)
  refine lv_iconst (v := 0) hx hb dX6_worthShare_2 (by decide) ?_
  refine lv_istore (lv' := [(4, .int (0 : Int32)), (3, .int (0 : Int32)), (0, .ref o), (1, .int z1), (2, .int z2)]) hx hb dX6_worthShare_3 hl (by decide) rfl (fun ls hl => ?_)
  exact w_X6_worthShare_L5 X gN hr hI (lv_sub hl [2, 3, 4, 1, 0] rfl)
abbrev rm_X6_welfareOf : Room := { frames := 2, cells := 0, slots := 0, locals := 46 }
theorem hd_X6_welfareOf : yX6_welfareOf.cls = RX6 ∧ yX6_welfareOf.cls ≠ "java/lang/invoke/MethodHandle" ∧ yX6_welfareOf.cls ≠ "java/lang/invoke/VarHandle" ∧ (parseMethodDescriptor yX6_welfareOf.desc).map (fun d => d.parameters.length) = some 1 := by decide +kernel
set_option maxHeartbeats 2000000 in
theorem w_X6_welfareOf {l : Launch} {x : gV} {base : Nat} {z1 : Int32} {h : gH} {n : Nat} {o : Nat} {aM : (Nat → Int32)} {aS : (Nat → Int32)} {iU : Int32} {aB : (Nat → Int32)} {iL : Int32} {iE : Int32} {iP : Int32} {aR : (Nat → Int32)} {iW : Int32} {iT : Int32} {aT : (Nat → Int32)} {aC : (Nat → Int32)} {aH : (Nat → Int32)} {aE : (Nat → Int32)} {aQ : (Nat → Int32)} {iA : Int32} {iY : Int32} {iF : Int32} {iV : Int32} {aK : (Nat → Int32)} {res : Int32} (hr : f_X6_welfareOf z1 aM = some res) : gM l yX6_welfareOf (ws_ yX6_welfareOf cX6_welfareOf 2 (some .int)) rm_X6_welfareOf x base [.ref o, .int z1] (mH h o aM aS iU aB iL iE iP aR iW iT aT aC aH aE aQ iA iY iF iV aK) n (some (.int res)) (mH h o aM aS iU aB iL iE iP aR iW iT aT aC aH aE aQ iA iY iF iV aK) n 0 0 := by
  refine g_met (cc := cX6_welfareOf) (nL := 2) (ret := (some .int)) (by decide) (Nat.le_of_ble_eq_true rfl) (fun p e s m below meth c ls X hnm hl hI => ?_)
  have hl : lv_has ls 2 [(0, .ref o), (1, .int z1)] := hl
  have hx := X.1
  have hb := X.2.1
  unfold f_X6_welfareOf at hr
  refine lv_aload_n hx hb dX6_welfareOf_0 rfl (lv_at hl 0 rfl) ?_
  refine lv_iload_n hx hb dX6_welfareOf_1 rfl (lv_at hl 1 rfl) ?_
  refine lv_iload_n hx hb dX6_welfareOf_2 rfl (lv_at hl 1 rfl) ?_
  obtain ⟨v2, hc1, hr⟩ := gB_i hr
  refine gRun_i (g_runV X hI (w_X6_worthShare hc1) (g_obj_s mH_0) rfl hl (lw_V q1800 q1802 qs60 q122 q1803) rfl rfl hd_X6_worthShare ⟨Nat.le_of_ble_eq_true rfl, Nat.le_of_ble_eq_true rfl⟩ (as := [.int z1, .int z1]) (rest := []) rfl rfl (Nat.le_of_ble_eq_true rfl) ⟨(Nat.le_refl _), (Nat.le_refl _)⟩ dX6_welfareOf_3) (fun H locs hI => ?_)
  have hr := gS_i hr
  subst hr
  exact g_iret X hI rfl (Nat.le_refl _) (Nat.le_refl _) dX6_welfareOf_6
abbrev rm_X6_hasEnvy : Room := { frames := 3, cells := 0, slots := 0, locals := 67 }
theorem hd_X6_hasEnvy : yX6_hasEnvy.cls = RX6 ∧ yX6_hasEnvy.cls ≠ "java/lang/invoke/MethodHandle" ∧ yX6_hasEnvy.cls ≠ "java/lang/invoke/VarHandle" ∧ (parseMethodDescriptor yX6_hasEnvy.desc).map (fun d => d.parameters.length) = some 2 := by decide +kernel
set_option maxHeartbeats 2000000 in
theorem w_X6_hasEnvy {l : Launch} {x : gV} {base : Nat} {z1 : Int32} {z2 : Int32} {h : gH} {n : Nat} {o : Nat} {aM : (Nat → Int32)} {aS : (Nat → Int32)} {iU : Int32} {aB : (Nat → Int32)} {iL : Int32} {iE : Int32} {iP : Int32} {aR : (Nat → Int32)} {iW : Int32} {iT : Int32} {aT : (Nat → Int32)} {aC : (Nat → Int32)} {aH : (Nat → Int32)} {aE : (Nat → Int32)} {aQ : (Nat → Int32)} {iA : Int32} {iY : Int32} {iF : Int32} {iV : Int32} {aK : (Nat → Int32)} {res : Int32} (hr : f_X6_hasEnvy z1 z2 aM = some res) : gM l yX6_hasEnvy (ws_ yX6_hasEnvy cX6_hasEnvy 3 (some .boolean)) rm_X6_hasEnvy x base [.ref o, .int z1, .int z2] (mH h o aM aS iU aB iL iE iP aR iW iT aT aC aH aE aQ iA iY iF iV aK) n (some (.int res)) (mH h o aM aS iU aB iL iE iP aR iW iT aT aC aH aE aQ iA iY iF iV aK) n 0 0 := by
  refine g_met (cc := cX6_hasEnvy) (nL := 3) (ret := (some .boolean)) (by decide) (Nat.le_of_ble_eq_true rfl) (fun p e s m below meth c ls X hnm hl hI => ?_)
  have hl : lv_has ls 3 [(0, .ref o), (1, .int z1), (2, .int z2)] := hl
  have hx := X.1
  have hb := X.2.1
  unfold f_X6_hasEnvy at hr
  refine lv_aload_n hx hb dX6_hasEnvy_0 rfl (lv_at hl 0 rfl) ?_
  refine lv_iload_n hx hb dX6_hasEnvy_1 rfl (lv_at hl 1 rfl) ?_
  refine lv_iload_n hx hb dX6_hasEnvy_2 rfl (lv_at hl 2 rfl) ?_
  obtain ⟨v2, hc1, hr⟩ := gB_i hr
  refine gRun_i (g_runV X hI (w_X6_worthShare hc1) (g_obj_s mH_0) rfl hl (lw_V q1800 q1802 qs60 q122 q1803) rfl rfl hd_X6_worthShare ⟨Nat.le_of_ble_eq_true rfl, Nat.le_of_ble_eq_true rfl⟩ (as := [.int z1, .int z2]) (rest := []) rfl rfl (Nat.le_of_ble_eq_true rfl) ⟨(Nat.le_refl _), (Nat.le_refl _)⟩ dX6_hasEnvy_3) (fun H locs hI => ?_)
  refine lv_aload_n hx hb dX6_hasEnvy_6 rfl (lv_at hl 0 rfl) ?_
  refine lv_iload_n hx hb dX6_hasEnvy_7 rfl (lv_at hl 1 rfl) ?_
  obtain ⟨v4, hc3, hr⟩ := gB_i hr
  refine gRun_i (g_runV X hI (w_X6_welfareOf hc3) (g_obj_s mH_0) rfl hl (lw_V q1812 q1814 qs63 q122 q1815) rfl rfl hd_X6_welfareOf ⟨Nat.le_of_ble_eq_true rfl, Nat.le_of_ble_eq_true rfl⟩ (as := [.int z1]) (rest := [.int v2]) rfl rfl (Nat.le_of_ble_eq_true rfl) ⟨(Nat.le_refl _), (Nat.le_refl _)⟩ dX6_hasEnvy_8) (fun H locs hI => ?_)
  refine lv_icmp_le (tgt := 18) hx hb dX6_hasEnvy_11 (by decide) (fun c9 => ?_) (fun c9 => ?_)
  · replace hr := gIf_t c9 hr
    refine lv_iconst (v := 0) hx hb dX6_hasEnvy_18 (by decide) ?_
    have hr := gS_i hr
    subst hr
    exact g_iret X hI (g_narZ (Or.inl rfl)) (Nat.le_refl _) (Nat.le_refl _) dX6_hasEnvy_19
  · replace hr := gIf_f c9 hr
    refine lv_iconst (v := 1) hx hb dX6_hasEnvy_14 (by decide) ?_
    refine lv_goto (tgt := 19) hx hb dX6_hasEnvy_15 (by decide) ?_
    have hr := gS_i hr
    subst hr
    exact g_iret X hI (g_narZ (Or.inr rfl)) (Nat.le_refl _) (Nat.le_refl _) dX6_hasEnvy_19
abbrev rm_X6_walkTo : Room := { frames := 4, cells := 0, slots := 0, locals := 89 }
theorem hd_X6_walkTo : yX6_walkTo.cls = RX6 ∧ yX6_walkTo.cls ≠ "java/lang/invoke/MethodHandle" ∧ yX6_walkTo.cls ≠ "java/lang/invoke/VarHandle" ∧ (parseMethodDescriptor yX6_walkTo.desc).map (fun d => d.parameters.length) = some 1 := by decide +kernel
set_option maxHeartbeats 2000000 in
theorem w_X6_walkTo_J112 {h : gH} {n : Nat} {o : Nat} {aM : (Nat → Int32)} {aS : (Nat → Int32)} {iU : Int32} {aB : (Nat → Int32)} {iL : Int32} {iE : Int32} {iP : Int32} {aR : (Nat → Int32)} {iW : Int32} {iT : Int32} {aT : (Nat → Int32)} {aC : (Nat → Int32)} {aH : (Nat → Int32)} {aE : (Nat → Int32)} {aQ : (Nat → Int32)} {iA : Int32} {iY : Int32} {iF : Int32} {iV : Int32} {aK : (Nat → Int32)} {r23 : Int32 → (Nat → Int32) → Option (Nat → Int32)} {z1 : Int32} {r35 : Int32 → (Nat → Int32) → Option (Nat → Int32)} {z2 : Int32} {r48 : Int32 → (Nat → Int32) → Option (Nat → Int32)} {z3 : Int32} {z4 : Int32} {s0 : Int32} {res : (Nat → Int32)} (X : gXX x base RX6 cX6_walkTo 6 none p l s m args meth c) (Hr23 : ∀ {z2 : Int32} {aT : (Nat → Int32)} {H : Heap} {locs : List Loc} {ls : Array Slot}, r23 z2 aT = some res → gI x base s.heap (mH h o aM aS iU aB iL iE iP aR iW iT aT aC aH aE aQ iA iY iF iV aK) n H locs → lv_has ls 6 [(0, .ref o), (1, .int z1), (2, .int z2)] → W p l e rm_X6_walkTo s m args below meth c H locs 0 0 (MQ below (gQ x base none (mH h o aM aS iU aB iL iE iP aR iW iT res aC aH aE aQ iA iY iF iV aK) n) args s 0 0 (fun q => base ≤ q)) (F0 m 23 ls [])) (Hr35 : ∀ {z3 : Int32} {aT : (Nat → Int32)} {H : Heap} {locs : List Loc} {ls : Array Slot}, r35 z3 aT = some res → gI x base s.heap (mH h o aM aS iU aB iL iE iP aR iW iT aT aC aH aE aQ iA iY iF iV aK) n H locs → lv_has ls 6 [(0, .ref o), (1, .int z1), (2, .int z2), (3, .int z3)] → W p l e rm_X6_walkTo s m args below meth c H locs 0 0 (MQ below (gQ x base none (mH h o aM aS iU aB iL iE iP aR iW iT res aC aH aE aQ iA iY iF iV aK) n) args s 0 0 (fun q => base ≤ q)) (F0 m 35 ls [])) (Hr48 : ∀ {z4 : Int32} {aT : (Nat → Int32)} {H : Heap} {locs : List Loc} {ls : Array Slot}, r48 z4 aT = some res → gI x base s.heap (mH h o aM aS iU aB iL iE iP aR iW iT aT aC aH aE aQ iA iY iF iV aK) n H locs → lv_has ls 6 [(0, .ref o), (1, .int z1), (2, .int z2), (3, .int z3), (4, .int z4)] → W p l e rm_X6_walkTo s m args below meth c H locs 0 0 (MQ below (gQ x base none (mH h o aM aS iU aB iL iE iP aR iW iT res aC aH aE aQ iA iY iF iV aK) n) args s 0 0 (fun q => base ≤ q)) (F0 m 48 ls [])) {H : Heap} {locs : List Loc} {ls : Array Slot} (hr : f_X6_walkTo_J112 r23 r35 r48 z1 z2 z3 z4 s0 aM aT = some res) (hI : gI x base s.heap (mH h o aM aS iU aB iL iE iP aR iW iT aT aC aH aE aQ iA iY iF iV aK) n H locs) (hl : lv_has ls 6 [(0, .ref o), (1, .int z1), (2, .int z2), (3, .int z3), (4, .int z4)]) : W p l e rm_X6_walkTo s m args below meth c H locs 0 0 (MQ below (gQ x base none (mH h o aM aS iU aB iL iE iP aR iW iT res aC aH aE aQ iA iY iF iV aK) n) args s 0 0 (fun q => base ≤ q)) (F0 m 112 ls [.int s0]) := by
  have hx := X.1
  have hb := X.2.1
  unfold f_X6_walkTo_J112 at hr
  refine lv_istore (lv' := [(5, .int s0), (0, .ref o), (1, .int z1), (2, .int z2), (3, .int z3), (4, .int z4)]) hx hb dX6_walkTo_112 hl (by decide) rfl (fun ls hl => ?_)
  refine lv_iload hx hb dX6_walkTo_114 (lv_at hl 0 rfl) ?_
  refine lv_if_eq (tgt := 136) hx hb dX6_walkTo_116 (by decide) (fun c9 => ?_) (fun c9 => ?_)
  · replace hr := gIf_t c9 hr
    refine lv_iinc (v := (z4 + (1 : Int32))) (lv' := [(4, .int (z4 + (1 : Int32))), (5, .int s0), (0, .ref o), (1, .int z1), (2, .int z2), (3, .int z3)]) hx hb dX6_walkTo_136 hl (k := 5) rfl (g_inc (by decide)) (by decide) rfl (fun ls hl => ?_)
    refine lv_goto (tgt := 48) hx hb dX6_walkTo_139 (by decide) ?_
    exact Hr48 hr hI (lv_sub hl [2, 3, 4, 5, 0] rfl)
  · replace hr := gIf_f c9 hr
    refine lv_aload_n hx hb dX6_walkTo_119 rfl (lv_at hl 1 rfl) ?_
    refine lv_iload_n hx hb dX6_walkTo_120 rfl (lv_at hl 4 rfl) ?_
    refine lv_iload hx hb dX6_walkTo_121 (lv_at hl 5 rfl) ?_
    obtain ⟨v6, hc5, hr⟩ := gB_i hr
    refine gRun_i (g_runV X hI (w_X6_hasEnvy hc5) (g_obj_s mH_0) rfl hl (lw_V q1796 q1798 qs59 q122 q1799) rfl rfl hd_X6_hasEnvy ⟨Nat.le_of_ble_eq_true rfl, Nat.le_of_ble_eq_true rfl⟩ (as := [.int z3, .int z4]) (rest := []) rfl rfl (Nat.le_of_ble_eq_true rfl) ⟨(Nat.le_refl _), (Nat.le_refl _)⟩ dX6_walkTo_123) (fun H locs hI => ?_)
    refine lv_if_eq (tgt := 136) hx hb dX6_walkTo_126 (by decide) (fun c9 => ?_) (fun c9 => ?_)
    · replace hr := gIf_t c9 hr
      refine lv_iinc (v := (z4 + (1 : Int32))) (lv' := [(4, .int (z4 + (1 : Int32))), (5, .int s0), (0, .ref o), (1, .int z1), (2, .int z2), (3, .int z3)]) hx hb dX6_walkTo_136 hl (k := 5) rfl (g_inc (by decide)) (by decide) rfl (fun ls hl => ?_)
      refine lv_goto (tgt := 48) hx hb dX6_walkTo_139 (by decide) ?_
      exact Hr48 hr hI (lv_sub hl [2, 3, 4, 5, 0] rfl)
    · replace hr := gIf_f c9 hr
      refine lv_aload_n hx hb dX6_walkTo_129 rfl (lv_at hl 1 rfl) ?_
      refine m_get X hI mH_0 10 (by decide) q1662 rfl dX6_walkTo_130 ?_
      refine lv_iload_n hx hb dX6_walkTo_133 rfl (lv_at hl 4 rfl) ?_
      refine lv_iload_n hx hb dX6_walkTo_134 rfl (lv_at hl 3 rfl) ?_
      refine m_iast X hI mH_aaT mH_saT hr dX6_walkTo_135 (fun aT_7 H locs hI hr => ?_)
      refine lv_iinc (v := (z4 + (1 : Int32))) (lv' := [(4, .int (z4 + (1 : Int32))), (5, .int s0), (0, .ref o), (1, .int z1), (2, .int z2), (3, .int z3)]) hx hb dX6_walkTo_136 hl (k := 5) rfl (g_inc (by decide)) (by decide) rfl (fun ls hl => ?_)
      refine lv_goto (tgt := 48) hx hb dX6_walkTo_139 (by decide) ?_
      exact Hr48 hr hI (lv_sub hl [2, 3, 4, 5, 0] rfl)
set_option maxHeartbeats 2000000 in
theorem w_X6_walkTo_J111 {h : gH} {n : Nat} {o : Nat} {aM : (Nat → Int32)} {aS : (Nat → Int32)} {iU : Int32} {aB : (Nat → Int32)} {iL : Int32} {iE : Int32} {iP : Int32} {aR : (Nat → Int32)} {iW : Int32} {iT : Int32} {aT : (Nat → Int32)} {aC : (Nat → Int32)} {aH : (Nat → Int32)} {aE : (Nat → Int32)} {aQ : (Nat → Int32)} {iA : Int32} {iY : Int32} {iF : Int32} {iV : Int32} {aK : (Nat → Int32)} {r23 : Int32 → (Nat → Int32) → Option (Nat → Int32)} {z1 : Int32} {r35 : Int32 → (Nat → Int32) → Option (Nat → Int32)} {z2 : Int32} {r48 : Int32 → (Nat → Int32) → Option (Nat → Int32)} {z3 : Int32} {z4 : Int32} {res : (Nat → Int32)} (X : gXX x base RX6 cX6_walkTo 6 none p l s m args meth c) (Hr23 : ∀ {z2 : Int32} {aT : (Nat → Int32)} {H : Heap} {locs : List Loc} {ls : Array Slot}, r23 z2 aT = some res → gI x base s.heap (mH h o aM aS iU aB iL iE iP aR iW iT aT aC aH aE aQ iA iY iF iV aK) n H locs → lv_has ls 6 [(0, .ref o), (1, .int z1), (2, .int z2)] → W p l e rm_X6_walkTo s m args below meth c H locs 0 0 (MQ below (gQ x base none (mH h o aM aS iU aB iL iE iP aR iW iT res aC aH aE aQ iA iY iF iV aK) n) args s 0 0 (fun q => base ≤ q)) (F0 m 23 ls [])) (Hr35 : ∀ {z3 : Int32} {aT : (Nat → Int32)} {H : Heap} {locs : List Loc} {ls : Array Slot}, r35 z3 aT = some res → gI x base s.heap (mH h o aM aS iU aB iL iE iP aR iW iT aT aC aH aE aQ iA iY iF iV aK) n H locs → lv_has ls 6 [(0, .ref o), (1, .int z1), (2, .int z2), (3, .int z3)] → W p l e rm_X6_walkTo s m args below meth c H locs 0 0 (MQ below (gQ x base none (mH h o aM aS iU aB iL iE iP aR iW iT res aC aH aE aQ iA iY iF iV aK) n) args s 0 0 (fun q => base ≤ q)) (F0 m 35 ls [])) (Hr48 : ∀ {z4 : Int32} {aT : (Nat → Int32)} {H : Heap} {locs : List Loc} {ls : Array Slot}, r48 z4 aT = some res → gI x base s.heap (mH h o aM aS iU aB iL iE iP aR iW iT aT aC aH aE aQ iA iY iF iV aK) n H locs → lv_has ls 6 [(0, .ref o), (1, .int z1), (2, .int z2), (3, .int z3), (4, .int z4)] → W p l e rm_X6_walkTo s m args below meth c H locs 0 0 (MQ below (gQ x base none (mH h o aM aS iU aB iL iE iP aR iW iT res aC aH aE aQ iA iY iF iV aK) n) args s 0 0 (fun q => base ≤ q)) (F0 m 48 ls [])) {H : Heap} {locs : List Loc} {ls : Array Slot} (hr : f_X6_walkTo_J111 r23 r35 r48 z1 z2 z3 z4 aM aT = some res) (hI : gI x base s.heap (mH h o aM aS iU aB iL iE iP aR iW iT aT aC aH aE aQ iA iY iF iV aK) n H locs) (hl : lv_has ls 6 [(0, .ref o), (1, .int z1), (2, .int z2), (3, .int z3), (4, .int z4)]) : W p l e rm_X6_walkTo s m args below meth c H locs 0 0 (MQ below (gQ x base none (mH h o aM aS iU aB iL iE iP aR iW iT res aC aH aE aQ iA iY iF iV aK) n) args s 0 0 (fun q => base ≤ q)) (F0 m 111 ls []) := by
  have hx := X.1
  have hb := X.2.1
  unfold f_X6_walkTo_J111 at hr
  refine lv_iconst (v := 0) hx hb dX6_walkTo_111 (by decide) ?_
  exact w_X6_walkTo_J112 X Hr23 Hr35 Hr48 hr hI (lv_sub hl [0, 1, 2, 3, 4] rfl)
set_option maxHeartbeats 2000000 in
theorem w_X6_walkTo_L48 {h : gH} {n : Nat} {o : Nat} {aM : (Nat → Int32)} {aS : (Nat → Int32)} {iU : Int32} {aB : (Nat → Int32)} {iL : Int32} {iE : Int32} {iP : Int32} {aR : (Nat → Int32)} {iW : Int32} {iT : Int32} {aC : (Nat → Int32)} {aH : (Nat → Int32)} {aE : (Nat → Int32)} {aQ : (Nat → Int32)} {iA : Int32} {iY : Int32} {iF : Int32} {iV : Int32} {aK : (Nat → Int32)} {r23 : Int32 → (Nat → Int32) → Option (Nat → Int32)} {z1 : Int32} {r35 : Int32 → (Nat → Int32) → Option (Nat → Int32)} {z2 : Int32} {z3 : Int32} {res : (Nat → Int32)} (X : gXX x base RX6 cX6_walkTo 6 none p l s m args meth c) (Hr23 : ∀ {z2 : Int32} {aT : (Nat → Int32)} {H : Heap} {locs : List Loc} {ls : Array Slot}, r23 z2 aT = some res → gI x base s.heap (mH h o aM aS iU aB iL iE iP aR iW iT aT aC aH aE aQ iA iY iF iV aK) n H locs → lv_has ls 6 [(0, .ref o), (1, .int z1), (2, .int z2)] → W p l e rm_X6_walkTo s m args below meth c H locs 0 0 (MQ below (gQ x base none (mH h o aM aS iU aB iL iE iP aR iW iT res aC aH aE aQ iA iY iF iV aK) n) args s 0 0 (fun q => base ≤ q)) (F0 m 23 ls [])) (Hr35 : ∀ {z3 : Int32} {aT : (Nat → Int32)} {H : Heap} {locs : List Loc} {ls : Array Slot}, r35 z3 aT = some res → gI x base s.heap (mH h o aM aS iU aB iL iE iP aR iW iT aT aC aH aE aQ iA iY iF iV aK) n H locs → lv_has ls 6 [(0, .ref o), (1, .int z1), (2, .int z2), (3, .int z3)] → W p l e rm_X6_walkTo s m args below meth c H locs 0 0 (MQ below (gQ x base none (mH h o aM aS iU aB iL iE iP aR iW iT res aC aH aE aQ iA iY iF iV aK) n) args s 0 0 (fun q => base ≤ q)) (F0 m 35 ls [])) : ∀ (k : Nat) {z4 : Int32} {aT : (Nat → Int32)} {H : Heap} {locs : List Loc} {ls : Array Slot}, gL2 (f_X6_walkTo_L48 r23 r35 z1 z2 z3 aM) k z4 aT = some res → gI x base s.heap (mH h o aM aS iU aB iL iE iP aR iW iT aT aC aH aE aQ iA iY iF iV aK) n H locs → lv_has ls 6 [(0, .ref o), (1, .int z1), (2, .int z2), (3, .int z3), (4, .int z4)] → W p l e rm_X6_walkTo s m args below meth c H locs 0 0 (MQ below (gQ x base none (mH h o aM aS iU aB iL iE iP aR iW iT res aC aH aE aQ iA iY iF iV aK) n) args s 0 0 (fun q => base ≤ q)) (F0 m 48 ls []) := by
  have hx := X.1
  have hb := X.2.1
  intro k
  induction k with
  | zero =>
    intros
    rename_i hr _ _
    exact nomatch (show (none : Option _) = some _ from hr)
  | succ k ih =>
    intro z4 aT H locs ls hr hI hl
    replace hr : f_X6_walkTo_L48 r23 r35 z1 z2 z3 aM (gL2 (f_X6_walkTo_L48 r23 r35 z1 z2 z3 aM) k) z4 aT = some res := hr
    unfold f_X6_walkTo_L48 at hr
    refine lv_aload_n hx hb dX6_walkTo_48 rfl (lv_at hl 0 rfl) ?_
    refine m_get X hI mH_0 10 (by decide) q1662 rfl dX6_walkTo_49 ?_
    refine lv_iload_n hx hb dX6_walkTo_52 rfl (lv_at hl 3 rfl) ?_
    refine m_iald X hI mH_aaT hr dX6_walkTo_53 (fun v3 hr => ?_)
    refine lv_iconst (v := (-1)) hx hb dX6_walkTo_54 (by decide) ?_
    refine lv_icmp_ne (tgt := 142) hx hb dX6_walkTo_55 (by decide) (fun c9 => ?_) (fun c9 => ?_)
    · replace hr := gIf_f c9 hr
      refine lv_iinc (v := (z3 + (1 : Int32))) (lv' := [(3, .int (z3 + (1 : Int32))), (0, .ref o), (1, .int z1), (2, .int z2), (4, .int z4)]) hx hb dX6_walkTo_142 hl (k := 3) rfl (g_inc (by decide)) (by decide) rfl (fun ls hl => ?_)
      refine lv_goto (tgt := 35) hx hb dX6_walkTo_145 (by decide) ?_
      exact Hr35 hr hI (lv_sub hl [1, 2, 3, 0] rfl)
    · replace hr := gIf_t c9 hr
      refine lv_iload hx hb dX6_walkTo_58 (lv_at hl 4 rfl) ?_
      refine lv_aload_n hx hb dX6_walkTo_60 rfl (lv_at hl 0 rfl) ?_
      refine m_get X hI mH_0 0 (by decide) q1652 rfl dX6_walkTo_61 ?_
      refine lv_iconst (v := 1) hx hb dX6_walkTo_64 (by decide) ?_
      refine m_iald X hI mH_aaM hr dX6_walkTo_65 (fun v4 hr => ?_)
      refine lv_icmp_ge (tgt := 142) hx hb dX6_walkTo_66 (by decide) (fun c9 => ?_) (fun c9 => ?_)
      · replace hr := gIf_t c9 hr
        refine lv_iinc (v := (z3 + (1 : Int32))) (lv' := [(3, .int (z3 + (1 : Int32))), (0, .ref o), (1, .int z1), (2, .int z2), (4, .int z4)]) hx hb dX6_walkTo_142 hl (k := 3) rfl (g_inc (by decide)) (by decide) rfl (fun ls hl => ?_)
        refine lv_goto (tgt := 35) hx hb dX6_walkTo_145 (by decide) ?_
        exact Hr35 hr hI (lv_sub hl [1, 2, 3, 0] rfl)
      · replace hr := gIf_f c9 hr
        refine lv_iload_n hx hb dX6_walkTo_69 rfl (lv_at hl 2 rfl) ?_
        refine lv_iconst (v := 1) hx hb dX6_walkTo_70 (by decide) ?_
        refine lv_icmp_ne (tgt := 88) hx hb dX6_walkTo_71 (by decide) (fun c9 => ?_) (fun c9 => ?_)
        · replace hr := gIf_f c9 hr
          refine lv_iload hx hb dX6_walkTo_88 (lv_at hl 4 rfl) ?_
          refine lv_iload_n hx hb dX6_walkTo_90 rfl (lv_at hl 1 rfl) ?_
          refine lv_icmp_eq (tgt := 111) hx hb dX6_walkTo_91 (by decide) (fun c9 => ?_) (fun c9 => ?_)
          · replace hr := gIf_t c9 hr
            exact w_X6_walkTo_J111 X Hr23 Hr35 ih hr hI (lv_sub hl [0, 1, 2, 3, 4] rfl)
          · replace hr := gIf_f c9 hr
            refine lv_aload_n hx hb dX6_walkTo_94 rfl (lv_at hl 0 rfl) ?_
            refine m_get X hI mH_0 10 (by decide) q1662 rfl dX6_walkTo_95 ?_
            refine lv_iload hx hb dX6_walkTo_98 (lv_at hl 4 rfl) ?_
            refine m_iald X hI mH_aaT hr dX6_walkTo_100 (fun v8 hr => ?_)
            refine lv_iload_n hx hb dX6_walkTo_101 rfl (lv_at hl 2 rfl) ?_
            refine lv_iconst (v := 1) hx hb dX6_walkTo_102 (by decide) ?_
            refine lv_isub hx hb dX6_walkTo_103 ?_
            refine lv_icmp_ne (tgt := 111) hx hb dX6_walkTo_104 (by decide) (fun c9 => ?_) (fun c9 => ?_)
            · replace hr := gIf_f c9 hr
              exact w_X6_walkTo_J111 X Hr23 Hr35 ih hr hI (lv_sub hl [0, 1, 2, 3, 4] rfl)
            · replace hr := gIf_t c9 hr
              refine lv_iconst (v := 1) hx hb dX6_walkTo_107 (by decide) ?_
              refine lv_goto (tgt := 112) hx hb dX6_walkTo_108 (by decide) ?_
              exact w_X6_walkTo_J112 X Hr23 Hr35 ih hr hI (lv_sub hl [0, 1, 2, 3, 4] rfl)
        · replace hr := gIf_t c9 hr
          refine lv_iload hx hb dX6_walkTo_74 (lv_at hl 4 rfl) ?_
          refine lv_iload_n hx hb dX6_walkTo_76 rfl (lv_at hl 1 rfl) ?_
          refine lv_icmp_ne (tgt := 84) hx hb dX6_walkTo_77 (by decide) (fun c9 => ?_) (fun c9 => ?_)
          · replace hr := gIf_f c9 hr
            refine lv_iconst (v := 0) hx hb dX6_walkTo_84 (by decide) ?_
            refine lv_goto (tgt := 112) hx hb dX6_walkTo_85 (by decide) ?_
            exact w_X6_walkTo_J112 X Hr23 Hr35 ih hr hI (lv_sub hl [0, 1, 2, 3, 4] rfl)
          · replace hr := gIf_t c9 hr
            refine lv_iconst (v := 1) hx hb dX6_walkTo_80 (by decide) ?_
            refine lv_goto (tgt := 112) hx hb dX6_walkTo_81 (by decide) ?_
            exact w_X6_walkTo_J112 X Hr23 Hr35 ih hr hI (lv_sub hl [0, 1, 2, 3, 4] rfl)
set_option maxHeartbeats 2000000 in
theorem w_X6_walkTo_L35 {h : gH} {n : Nat} {o : Nat} {aM : (Nat → Int32)} {aS : (Nat → Int32)} {iU : Int32} {aB : (Nat → Int32)} {iL : Int32} {iE : Int32} {iP : Int32} {aR : (Nat → Int32)} {iW : Int32} {iT : Int32} {aC : (Nat → Int32)} {aH : (Nat → Int32)} {aE : (Nat → Int32)} {aQ : (Nat → Int32)} {iA : Int32} {iY : Int32} {iF : Int32} {iV : Int32} {aK : (Nat → Int32)} {r23 : Int32 → (Nat → Int32) → Option (Nat → Int32)} {z1 : Int32} {z2 : Int32} {res : (Nat → Int32)} (X : gXX x base RX6 cX6_walkTo 6 none p l s m args meth c) (Hr23 : ∀ {z2 : Int32} {aT : (Nat → Int32)} {H : Heap} {locs : List Loc} {ls : Array Slot}, r23 z2 aT = some res → gI x base s.heap (mH h o aM aS iU aB iL iE iP aR iW iT aT aC aH aE aQ iA iY iF iV aK) n H locs → lv_has ls 6 [(0, .ref o), (1, .int z1), (2, .int z2)] → W p l e rm_X6_walkTo s m args below meth c H locs 0 0 (MQ below (gQ x base none (mH h o aM aS iU aB iL iE iP aR iW iT res aC aH aE aQ iA iY iF iV aK) n) args s 0 0 (fun q => base ≤ q)) (F0 m 23 ls [])) : ∀ (k : Nat) {z3 : Int32} {aT : (Nat → Int32)} {H : Heap} {locs : List Loc} {ls : Array Slot}, gL2 (f_X6_walkTo_L35 r23 z1 z2 aM) k z3 aT = some res → gI x base s.heap (mH h o aM aS iU aB iL iE iP aR iW iT aT aC aH aE aQ iA iY iF iV aK) n H locs → lv_has ls 6 [(0, .ref o), (1, .int z1), (2, .int z2), (3, .int z3)] → W p l e rm_X6_walkTo s m args below meth c H locs 0 0 (MQ below (gQ x base none (mH h o aM aS iU aB iL iE iP aR iW iT res aC aH aE aQ iA iY iF iV aK) n) args s 0 0 (fun q => base ≤ q)) (F0 m 35 ls []) := by
  have hx := X.1
  have hb := X.2.1
  intro k
  induction k with
  | zero =>
    intros
    rename_i hr _ _
    exact nomatch (show (none : Option _) = some _ from hr)
  | succ k ih =>
    intro z3 aT H locs ls hr hI hl
    replace hr : f_X6_walkTo_L35 r23 z1 z2 aM (gL2 (f_X6_walkTo_L35 r23 z1 z2 aM) k) z3 aT = some res := hr
    unfold f_X6_walkTo_L35 at hr
    refine lv_iload_n hx hb dX6_walkTo_35 rfl (lv_at hl 3 rfl) ?_
    refine lv_aload_n hx hb dX6_walkTo_36 rfl (lv_at hl 0 rfl) ?_
    refine m_get X hI mH_0 0 (by decide) q1652 rfl dX6_walkTo_37 ?_
    refine lv_iconst (v := 1) hx hb dX6_walkTo_40 (by decide) ?_
    refine m_iald X hI mH_aaM hr dX6_walkTo_41 (fun v2 hr => ?_)
    refine lv_icmp_ge (tgt := 148) hx hb dX6_walkTo_42 (by decide) (fun c9 => ?_) (fun c9 => ?_)
    · replace hr := gIf_t c9 hr
      refine lv_iinc (v := (z2 + (1 : Int32))) (lv' := [(2, .int (z2 + (1 : Int32))), (0, .ref o), (1, .int z1), (3, .int z3)]) hx hb dX6_walkTo_148 hl (k := 2) rfl (g_inc (by decide)) (by decide) rfl (fun ls hl => ?_)
      refine lv_goto (tgt := 23) hx hb dX6_walkTo_151 (by decide) ?_
      exact Hr23 hr hI (lv_sub hl [1, 2, 0] rfl)
    · replace hr := gIf_f c9 hr
      refine lv_iconst (v := 0) hx hb dX6_walkTo_45 (by decide) ?_
      refine lv_istore (lv' := [(4, .int (0 : Int32)), (0, .ref o), (1, .int z1), (2, .int z2), (3, .int z3)]) hx hb dX6_walkTo_46 hl (by decide) rfl (fun ls hl => ?_)
      exact w_X6_walkTo_L48 X Hr23 ih gN hr hI (lv_sub hl [1, 2, 3, 4, 0] rfl)
set_option maxHeartbeats 2000000 in
theorem w_X6_walkTo_L23 {h : gH} {n : Nat} {o : Nat} {aM : (Nat → Int32)} {aS : (Nat → Int32)} {iU : Int32} {aB : (Nat → Int32)} {iL : Int32} {iE : Int32} {iP : Int32} {aR : (Nat → Int32)} {iW : Int32} {iT : Int32} {aC : (Nat → Int32)} {aH : (Nat → Int32)} {aE : (Nat → Int32)} {aQ : (Nat → Int32)} {iA : Int32} {iY : Int32} {iF : Int32} {iV : Int32} {aK : (Nat → Int32)} {z1 : Int32} {res : (Nat → Int32)} (X : gXX x base RX6 cX6_walkTo 6 none p l s m args meth c) : ∀ (k : Nat) {z2 : Int32} {aT : (Nat → Int32)} {H : Heap} {locs : List Loc} {ls : Array Slot}, gL2 (f_X6_walkTo_L23 z1 aM) k z2 aT = some res → gI x base s.heap (mH h o aM aS iU aB iL iE iP aR iW iT aT aC aH aE aQ iA iY iF iV aK) n H locs → lv_has ls 6 [(0, .ref o), (1, .int z1), (2, .int z2)] → W p l e rm_X6_walkTo s m args below meth c H locs 0 0 (MQ below (gQ x base none (mH h o aM aS iU aB iL iE iP aR iW iT res aC aH aE aQ iA iY iF iV aK) n) args s 0 0 (fun q => base ≤ q)) (F0 m 23 ls []) := by
  have hx := X.1
  have hb := X.2.1
  intro k
  induction k with
  | zero =>
    intros
    rename_i hr _ _
    exact nomatch (show (none : Option _) = some _ from hr)
  | succ k ih =>
    intro z2 aT H locs ls hr hI hl
    replace hr : f_X6_walkTo_L23 z1 aM (gL2 (f_X6_walkTo_L23 z1 aM) k) z2 aT = some res := hr
    unfold f_X6_walkTo_L23 at hr
    refine lv_iload_n hx hb dX6_walkTo_23 rfl (lv_at hl 2 rfl) ?_
    refine lv_aload_n hx hb dX6_walkTo_24 rfl (lv_at hl 0 rfl) ?_
    refine m_get X hI mH_0 0 (by decide) q1652 rfl dX6_walkTo_25 ?_
    refine lv_iconst (v := 1) hx hb dX6_walkTo_28 (by decide) ?_
    refine m_iald X hI mH_aaM hr dX6_walkTo_29 (fun v1 hr => ?_)
    refine lv_icmp_gt (tgt := 154) hx hb dX6_walkTo_30 (by decide) (fun c9 => ?_) (fun c9 => ?_)
    · replace hr := gIf_t c9 hr
      have hr := gS_i hr
      subst hr
      exact g_vret X hI (Nat.le_refl _) (Nat.le_refl _) dX6_walkTo_154
    · replace hr := gIf_f c9 hr
      refine lv_iconst (v := 0) hx hb dX6_walkTo_33 (by decide) ?_
      refine lv_istore_n (lv' := [(3, .int (0 : Int32)), (0, .ref o), (1, .int z1), (2, .int z2)]) hx hb dX6_walkTo_34 rfl hl (by decide) rfl (fun ls hl => ?_)
      exact w_X6_walkTo_L35 X ih gN hr hI (lv_sub hl [1, 2, 3, 0] rfl)
set_option maxHeartbeats 2000000 in
theorem w_X6_walkTo_J21 {h : gH} {n : Nat} {o : Nat} {aM : (Nat → Int32)} {aS : (Nat → Int32)} {iU : Int32} {aB : (Nat → Int32)} {iL : Int32} {iE : Int32} {iP : Int32} {aR : (Nat → Int32)} {iW : Int32} {iT : Int32} {aT : (Nat → Int32)} {aC : (Nat → Int32)} {aH : (Nat → Int32)} {aE : (Nat → Int32)} {aQ : (Nat → Int32)} {iA : Int32} {iY : Int32} {iF : Int32} {iV : Int32} {aK : (Nat → Int32)} {z1 : Int32} {res : (Nat → Int32)} (X : gXX x base RX6 cX6_walkTo 6 none p l s m args meth c) {H : Heap} {locs : List Loc} {ls : Array Slot} (hr : f_X6_walkTo_J21 z1 aM aT = some res) (hI : gI x base s.heap (mH h o aM aS iU aB iL iE iP aR iW iT aT aC aH aE aQ iA iY iF iV aK) n H locs) (hl : lv_has ls 6 [(0, .ref o), (1, .int z1)]) : W p l e rm_X6_walkTo s m args below meth c H locs 0 0 (MQ below (gQ x base none (mH h o aM aS iU aB iL iE iP aR iW iT res aC aH aE aQ iA iY iF iV aK) n) args s 0 0 (fun q => base ≤ q)) (F0 m 21 ls []) := by
  have hx := X.1
  have hb := X.2.1
  unfold f_X6_walkTo_J21 at hr
  refine lv_iconst (v := 1) hx hb dX6_walkTo_21 (by decide) ?_
  refine lv_istore_n (lv' := [(2, .int (1 : Int32)), (0, .ref o), (1, .int z1)]) hx hb dX6_walkTo_22 rfl hl (by decide) rfl (fun ls hl => ?_)
  exact w_X6_walkTo_L23 X gN hr hI (lv_sub hl [1, 2, 0] rfl)
set_option maxHeartbeats 2000000 in
theorem w_X6_walkTo_L2 {h : gH} {n : Nat} {o : Nat} {aM : (Nat → Int32)} {aS : (Nat → Int32)} {iU : Int32} {aB : (Nat → Int32)} {iL : Int32} {iE : Int32} {iP : Int32} {aR : (Nat → Int32)} {iW : Int32} {iT : Int32} {aC : (Nat → Int32)} {aH : (Nat → Int32)} {aE : (Nat → Int32)} {aQ : (Nat → Int32)} {iA : Int32} {iY : Int32} {iF : Int32} {iV : Int32} {aK : (Nat → Int32)} {z1 : Int32} {res : (Nat → Int32)} (X : gXX x base RX6 cX6_walkTo 6 none p l s m args meth c) : ∀ (k : Nat) {z2 : Int32} {aT : (Nat → Int32)} {H : Heap} {locs : List Loc} {ls : Array Slot}, gL2 (f_X6_walkTo_L2 z1 aM) k z2 aT = some res → gI x base s.heap (mH h o aM aS iU aB iL iE iP aR iW iT aT aC aH aE aQ iA iY iF iV aK) n H locs → lv_has ls 6 [(0, .ref o), (1, .int z1), (2, .int z2)] → W p l e rm_X6_walkTo s m args below meth c H locs 0 0 (MQ below (gQ x base none (mH h o aM aS iU aB iL iE iP aR iW iT res aC aH aE aQ iA iY iF iV aK) n) args s 0 0 (fun q => base ≤ q)) (F0 m 2 ls []) := by
  have hx := X.1
  have hb := X.2.1
  intro k
  induction k with
  | zero =>
    intros
    rename_i hr _ _
    exact nomatch (show (none : Option _) = some _ from hr)
  | succ k ih =>
    intro z2 aT H locs ls hr hI hl
    replace hr : f_X6_walkTo_L2 z1 aM (gL2 (f_X6_walkTo_L2 z1 aM) k) z2 aT = some res := hr
    unfold f_X6_walkTo_L2 at hr
    refine lv_iload_n hx hb dX6_walkTo_2 rfl (lv_at hl 2 rfl) ?_
    refine lv_bipush (v := 6) hx hb dX6_walkTo_3 (by decide) ?_
    refine lv_icmp_ge (tgt := 21) hx hb dX6_walkTo_5 (by decide) (fun c9 => ?_) (fun c9 => ?_)
    · replace hr := gIf_t c9 hr
      exact w_X6_walkTo_J21 X hr hI (lv_sub hl [0, 1] rfl)
    · replace hr := gIf_f c9 hr
      refine lv_aload_n hx hb dX6_walkTo_8 rfl (lv_at hl 0 rfl) ?_
      refine m_get X hI mH_0 10 (by decide) q1662 rfl dX6_walkTo_9 ?_
      refine lv_iload_n hx hb dX6_walkTo_12 rfl (lv_at hl 2 rfl) ?_
      refine lv_iconst (v := (-1)) hx hb dX6_walkTo_13 (by decide) ?_
      refine m_iast X hI mH_aaT mH_saT hr dX6_walkTo_14 (fun aT_9 H locs hI hr => ?_)
      refine lv_iinc (v := (z2 + (1 : Int32))) (lv' := [(2, .int (z2 + (1 : Int32))), (0, .ref o), (1, .int z1)]) hx hb dX6_walkTo_15 hl (k := 2) rfl (g_inc (by decide)) (by decide) rfl (fun ls hl => ?_)
      refine lv_goto (tgt := 2) hx hb dX6_walkTo_18 (by decide) ?_
      exact ih hr hI (lv_sub hl [1, 2, 0] rfl)
set_option maxHeartbeats 2000000 in
theorem w_X6_walkTo {l : Launch} {x : gV} {base : Nat} {z1 : Int32} {h : gH} {n : Nat} {o : Nat} {aM : (Nat → Int32)} {aS : (Nat → Int32)} {iU : Int32} {aB : (Nat → Int32)} {iL : Int32} {iE : Int32} {iP : Int32} {aR : (Nat → Int32)} {iW : Int32} {iT : Int32} {aT : (Nat → Int32)} {aC : (Nat → Int32)} {aH : (Nat → Int32)} {aE : (Nat → Int32)} {aQ : (Nat → Int32)} {iA : Int32} {iY : Int32} {iF : Int32} {iV : Int32} {aK : (Nat → Int32)} {res : (Nat → Int32)} (hr : f_X6_walkTo z1 aM aT = some res) : gM l yX6_walkTo (ws_ yX6_walkTo cX6_walkTo 6 none) rm_X6_walkTo x base [.ref o, .int z1] (mH h o aM aS iU aB iL iE iP aR iW iT aT aC aH aE aQ iA iY iF iV aK) n none (mH h o aM aS iU aB iL iE iP aR iW iT res aC aH aE aQ iA iY iF iV aK) n 0 0 := by
  refine g_met (cc := cX6_walkTo) (nL := 6) (ret := none) (by decide) (Nat.le_of_ble_eq_true rfl) (fun p e s m below meth c ls X hnm hl hI => ?_)
  have hl : lv_has ls 6 [(0, .ref o), (1, .int z1)] := hl
  have hx := X.1
  have hb := X.2.1
  unfold f_X6_walkTo at hr
  refine lv_iconst (v := 0) hx hb dX6_walkTo_0 (by decide) ?_
  refine lv_istore_n (lv' := [(2, .int (0 : Int32)), (0, .ref o), (1, .int z1)]) hx hb dX6_walkTo_1 rfl hl (by decide) rfl (fun ls hl => ?_)
  exact w_X6_walkTo_L2 X gN hr hI (lv_sub hl [1, 2, 0] rfl)
abbrev rm_X6_findCycle : Room := { frames := 5, cells := 0, slots := 0, locals := 114 }
theorem hd_X6_findCycle : yX6_findCycle.cls = RX6 ∧ yX6_findCycle.cls ≠ "java/lang/invoke/MethodHandle" ∧ yX6_findCycle.cls ≠ "java/lang/invoke/VarHandle" ∧ (parseMethodDescriptor yX6_findCycle.desc).map (fun d => d.parameters.length) = some 1 := by decide +kernel
set_option maxHeartbeats 2000000 in
theorem w_X6_findCycle_L36 {h : gH} {n : Nat} {o : Nat} {aM : (Nat → Int32)} {aS : (Nat → Int32)} {iU : Int32} {aB : (Nat → Int32)} {iL : Int32} {iE : Int32} {iP : Int32} {aR : (Nat → Int32)} {iW : Int32} {iT : Int32} {aT : (Nat → Int32)} {aC : (Nat → Int32)} {aH : (Nat → Int32)} {aE : (Nat → Int32)} {aQ : (Nat → Int32)} {iA : Int32} {iY : Int32} {iF : Int32} {iV : Int32} {aK : (Nat → Int32)} {r28 : Int32 → (Nat → Int32) → Option (Int32 × (Nat → Int32) × (Nat → Int32))} {z1 : Int32} {z2 : Int32} {z3 : Int32} {res : Int32 × (Nat → Int32) × (Nat → Int32)} (X : gXX x base RX6 cX6_findCycle 5 (some .int) p l s m args meth c) (Hr28 : ∀ {z3 : Int32} {aC : (Nat → Int32)} {H : Heap} {locs : List Loc} {ls : Array Slot}, r28 z3 aC = some res → gI x base s.heap (mH h o aM aS iU aB iL iE iP aR iW iT aT aC aH aE aQ iA iY iF iV aK) n H locs → lv_has ls 5 [(0, .ref o), (1, .int z1), (2, .int z2), (3, .int z3)] → W p l e rm_X6_findCycle s m args below meth c H locs 0 0 (MQ below (gQ x base (some (.int res.1)) (mH h o aM aS iU aB iL iE iP aR iW iT res.2.1 res.2.2 aH aE aQ iA iY iF iV aK) n) args s 0 0 (fun q => base ≤ q)) (F0 m 28 ls [])) : ∀ (k : Nat) {z4 : Int32} {H : Heap} {locs : List Loc} {ls : Array Slot}, gL1 (f_X6_findCycle_L36 r28 z1 z2 z3 aM aT aC) k z4 = some res → gI x base s.heap (mH h o aM aS iU aB iL iE iP aR iW iT aT aC aH aE aQ iA iY iF iV aK) n H locs → lv_has ls 5 [(0, .ref o), (1, .int z1), (2, .int z2), (3, .int z3), (4, .int z4)] → W p l e rm_X6_findCycle s m args below meth c H locs 0 0 (MQ below (gQ x base (some (.int res.1)) (mH h o aM aS iU aB iL iE iP aR iW iT res.2.1 res.2.2 aH aE aQ iA iY iF iV aK) n) args s 0 0 (fun q => base ≤ q)) (F0 m 36 ls []) := by
  have hx := X.1
  have hb := X.2.1
  intro k
  induction k with
  | zero =>
    intros
    rename_i hr _ _
    exact nomatch (show (none : Option _) = some _ from hr)
  | succ k ih =>
    intro z4 H locs ls hr hI hl
    replace hr : f_X6_findCycle_L36 r28 z1 z2 z3 aM aT aC (gL1 (f_X6_findCycle_L36 r28 z1 z2 z3 aM aT aC) k) z4 = some res := hr
    unfold f_X6_findCycle_L36 at hr
    refine lv_iload hx hb dX6_findCycle_36 (lv_at hl 4 rfl) ?_
    refine lv_iload_n hx hb dX6_findCycle_38 rfl (lv_at hl 1 rfl) ?_
    refine lv_icmp_eq (tgt := 72) hx hb dX6_findCycle_39 (by decide) (fun c9 => ?_) (fun c9 => ?_)
    · replace hr := gIf_t c9 hr
      refine lv_iinc (v := (z4 + (1 : Int32))) (lv' := [(4, .int (z4 + (1 : Int32))), (0, .ref o), (1, .int z1), (2, .int z2), (3, .int z3)]) hx hb dX6_findCycle_72 hl (k := 4) rfl (g_inc (by decide)) (by decide) rfl (fun ls hl => ?_)
      refine lv_goto (tgt := 36) hx hb dX6_findCycle_75 (by decide) ?_
      exact ih hr hI (lv_sub hl [1, 2, 3, 4, 0] rfl)
    · replace hr := gIf_f c9 hr
      refine lv_aload_n hx hb dX6_findCycle_42 rfl (lv_at hl 0 rfl) ?_
      refine m_get X hI mH_0 10 (by decide) q1662 rfl dX6_findCycle_43 ?_
      refine lv_iload hx hb dX6_findCycle_46 (lv_at hl 4 rfl) ?_
      refine m_iald X hI mH_aaT hr dX6_findCycle_48 (fun v5 hr => ?_)
      refine lv_iload_n hx hb dX6_findCycle_49 rfl (lv_at hl 2 rfl) ?_
      refine lv_iload_n hx hb dX6_findCycle_50 rfl (lv_at hl 3 rfl) ?_
      refine lv_isub hx hb dX6_findCycle_51 ?_
      refine lv_icmp_ne (tgt := 72) hx hb dX6_findCycle_52 (by decide) (fun c9 => ?_) (fun c9 => ?_)
      · replace hr := gIf_f c9 hr
        refine lv_iinc (v := (z4 + (1 : Int32))) (lv' := [(4, .int (z4 + (1 : Int32))), (0, .ref o), (1, .int z1), (2, .int z2), (3, .int z3)]) hx hb dX6_findCycle_72 hl (k := 4) rfl (g_inc (by decide)) (by decide) rfl (fun ls hl => ?_)
        refine lv_goto (tgt := 36) hx hb dX6_findCycle_75 (by decide) ?_
        exact ih hr hI (lv_sub hl [1, 2, 3, 4, 0] rfl)
      · replace hr := gIf_t c9 hr
        refine lv_aload_n hx hb dX6_findCycle_55 rfl (lv_at hl 0 rfl) ?_
        refine lv_aload_n hx hb dX6_findCycle_56 rfl (lv_at hl 0 rfl) ?_
        refine m_get X hI mH_0 11 (by decide) q1663 rfl dX6_findCycle_57 ?_
        refine lv_iload_n hx hb dX6_findCycle_60 rfl (lv_at hl 3 rfl) ?_
        refine lv_iconst (v := 1) hx hb dX6_findCycle_61 (by decide) ?_
        refine lv_isub hx hb dX6_findCycle_62 ?_
        refine m_iald X hI mH_aaC hr dX6_findCycle_63 (fun v6 hr => ?_)
        refine lv_iload hx hb dX6_findCycle_64 (lv_at hl 4 rfl) ?_
        obtain ⟨v8, hc7, hr⟩ := gB_i hr
        refine gRun_i (g_runV X hI (w_X6_hasEnvy hc7) (g_obj_s mH_0) rfl hl (lw_V q1796 q1798 qs59 q122 q1799) rfl rfl hd_X6_hasEnvy ⟨Nat.le_of_ble_eq_true rfl, Nat.le_of_ble_eq_true rfl⟩ (as := [.int v6, .int z4]) (rest := []) rfl rfl (Nat.le_of_ble_eq_true rfl) ⟨(Nat.le_refl _), (Nat.le_refl _)⟩ dX6_findCycle_66) (fun H locs hI => ?_)
        refine lv_if_ne (tgt := 78) hx hb dX6_findCycle_69 (by decide) (fun c9 => ?_) (fun c9 => ?_)
        · replace hr := gIf_f c9 hr
          refine lv_aload_n hx hb dX6_findCycle_78 rfl (lv_at hl 0 rfl) ?_
          refine m_get X hI mH_0 11 (by decide) q1663 rfl dX6_findCycle_79 ?_
          refine lv_iload_n hx hb dX6_findCycle_82 rfl (lv_at hl 3 rfl) ?_
          refine lv_iload hx hb dX6_findCycle_83 (lv_at hl 4 rfl) ?_
          refine m_iast X hI mH_aaC mH_saC hr dX6_findCycle_85 (fun aC_9 H locs hI hr => ?_)
          refine lv_iinc (v := (z3 + (1 : Int32))) (lv' := [(3, .int (z3 + (1 : Int32))), (0, .ref o), (1, .int z1), (2, .int z2), (4, .int z4)]) hx hb dX6_findCycle_86 hl (k := 3) rfl (g_inc (by decide)) (by decide) rfl (fun ls hl => ?_)
          refine lv_goto (tgt := 28) hx hb dX6_findCycle_89 (by decide) ?_
          exact Hr28 hr hI (lv_sub hl [1, 2, 3, 0] rfl)
        · replace hr := gIf_t c9 hr
          refine lv_iinc (v := (z4 + (1 : Int32))) (lv' := [(4, .int (z4 + (1 : Int32))), (0, .ref o), (1, .int z1), (2, .int z2), (3, .int z3)]) hx hb dX6_findCycle_72 hl (k := 4) rfl (g_inc (by decide)) (by decide) rfl (fun ls hl => ?_)
          refine lv_goto (tgt := 36) hx hb dX6_findCycle_75 (by decide) ?_
          exact ih hr hI (lv_sub hl [1, 2, 3, 4, 0] rfl)
set_option maxHeartbeats 2000000 in
theorem w_X6_findCycle_L28 {h : gH} {n : Nat} {o : Nat} {aM : (Nat → Int32)} {aS : (Nat → Int32)} {iU : Int32} {aB : (Nat → Int32)} {iL : Int32} {iE : Int32} {iP : Int32} {aR : (Nat → Int32)} {iW : Int32} {iT : Int32} {aT : (Nat → Int32)} {aH : (Nat → Int32)} {aE : (Nat → Int32)} {aQ : (Nat → Int32)} {iA : Int32} {iY : Int32} {iF : Int32} {iV : Int32} {aK : (Nat → Int32)} {z1 : Int32} {z2 : Int32} {res : Int32 × (Nat → Int32) × (Nat → Int32)} (X : gXX x base RX6 cX6_findCycle 5 (some .int) p l s m args meth c) : ∀ (k : Nat) {z3 : Int32} {aC : (Nat → Int32)} {H : Heap} {locs : List Loc} {ls : Array Slot}, gL2 (f_X6_findCycle_L28 z1 z2 aM aT) k z3 aC = some res → gI x base s.heap (mH h o aM aS iU aB iL iE iP aR iW iT aT aC aH aE aQ iA iY iF iV aK) n H locs → lv_has ls 5 [(0, .ref o), (1, .int z1), (2, .int z2), (3, .int z3)] → W p l e rm_X6_findCycle s m args below meth c H locs 0 0 (MQ below (gQ x base (some (.int res.1)) (mH h o aM aS iU aB iL iE iP aR iW iT res.2.1 res.2.2 aH aE aQ iA iY iF iV aK) n) args s 0 0 (fun q => base ≤ q)) (F0 m 28 ls []) := by
  have hx := X.1
  have hb := X.2.1
  intro k
  induction k with
  | zero =>
    intros
    rename_i hr _ _
    exact nomatch (show (none : Option _) = some _ from hr)
  | succ k ih =>
    intro z3 aC H locs ls hr hI hl
    replace hr : f_X6_findCycle_L28 z1 z2 aM aT (gL2 (f_X6_findCycle_L28 z1 z2 aM aT) k) z3 aC = some res := hr
    unfold f_X6_findCycle_L28 at hr
    refine lv_iload_n hx hb dX6_findCycle_28 rfl (lv_at hl 3 rfl) ?_
    refine lv_iload_n hx hb dX6_findCycle_29 rfl (lv_at hl 2 rfl) ?_
    refine lv_icmp_ge (tgt := 92) hx hb dX6_findCycle_30 (by decide) (fun c9 => ?_) (fun c9 => ?_)
    · replace hr := gIf_t c9 hr
      refine lv_iload_n hx hb dX6_findCycle_92 rfl (lv_at hl 2 rfl) ?_
      have hr := gS_i hr
      subst hr
      exact g_iret X hI rfl (Nat.le_refl _) (Nat.le_refl _) dX6_findCycle_93
    · replace hr := gIf_f c9 hr
      refine lv_iconst (v := 0) hx hb dX6_findCycle_33 (by decide) ?_
      refine lv_istore (lv' := [(4, .int (0 : Int32)), (0, .ref o), (1, .int z1), (2, .int z2), (3, .int z3)]) hx hb dX6_findCycle_34 hl (by decide) rfl (fun ls hl => ?_)
      exact w_X6_findCycle_L36 X ih gN hr hI (lv_sub hl [1, 2, 3, 4, 0] rfl)
set_option maxHeartbeats 2000000 in
theorem w_X6_findCycle {l : Launch} {x : gV} {base : Nat} {z1 : Int32} {h : gH} {n : Nat} {o : Nat} {aM : (Nat → Int32)} {aS : (Nat → Int32)} {iU : Int32} {aB : (Nat → Int32)} {iL : Int32} {iE : Int32} {iP : Int32} {aR : (Nat → Int32)} {iW : Int32} {iT : Int32} {aT : (Nat → Int32)} {aC : (Nat → Int32)} {aH : (Nat → Int32)} {aE : (Nat → Int32)} {aQ : (Nat → Int32)} {iA : Int32} {iY : Int32} {iF : Int32} {iV : Int32} {aK : (Nat → Int32)} {res : Int32 × (Nat → Int32) × (Nat → Int32)} (hr : f_X6_findCycle z1 aM aT aC = some res) : gM l yX6_findCycle (ws_ yX6_findCycle cX6_findCycle 5 (some .int)) rm_X6_findCycle x base [.ref o, .int z1] (mH h o aM aS iU aB iL iE iP aR iW iT aT aC aH aE aQ iA iY iF iV aK) n (some (.int res.1)) (mH h o aM aS iU aB iL iE iP aR iW iT res.2.1 res.2.2 aH aE aQ iA iY iF iV aK) n 0 0 := by
  refine g_met (cc := cX6_findCycle) (nL := 5) (ret := (some .int)) (by decide) (Nat.le_of_ble_eq_true rfl) (fun p e s m below meth c ls X hnm hl hI => ?_)
  have hl : lv_has ls 5 [(0, .ref o), (1, .int z1)] := hl
  have hx := X.1
  have hb := X.2.1
  unfold f_X6_findCycle at hr
  refine lv_aload_n hx hb dX6_findCycle_0 rfl (lv_at hl 0 rfl) ?_
  refine lv_iload_n hx hb dX6_findCycle_1 rfl (lv_at hl 1 rfl) ?_
  obtain ⟨aT_2, hc1, hr⟩ := gB_i hr
  refine gRun_v (g_runV X hI (w_X6_walkTo hc1) (g_obj_s mH_0) rfl hl (lw_V q1792 q1794 qs58 q122 q1795) rfl rfl hd_X6_walkTo ⟨Nat.le_of_ble_eq_true rfl, Nat.le_of_ble_eq_true rfl⟩ (as := [.int z1]) (rest := []) rfl rfl (Nat.le_of_ble_eq_true rfl) ⟨(Nat.le_refl _), (Nat.le_refl _)⟩ dX6_findCycle_2) (fun H locs hI => ?_)
  refine lv_aload_n hx hb dX6_findCycle_5 rfl (lv_at hl 0 rfl) ?_
  refine m_get X hI mH_0 10 (by decide) q1662 rfl dX6_findCycle_6 ?_
  refine lv_iload_n hx hb dX6_findCycle_9 rfl (lv_at hl 1 rfl) ?_
  refine m_iald X hI mH_aaT hr dX6_findCycle_10 (fun v3 hr => ?_)
  refine lv_istore_n (lv' := [(2, .int v3), (0, .ref o), (1, .int z1)]) hx hb dX6_findCycle_11 rfl hl (by decide) rfl (fun ls hl => ?_)
  refine lv_iload_n hx hb dX6_findCycle_12 rfl (lv_at hl 0 rfl) ?_
  refine lv_iconst (v := (-1)) hx hb dX6_findCycle_13 (by decide) ?_
  refine lv_icmp_ne (tgt := 19) hx hb dX6_findCycle_14 (by decide) (fun c9 => ?_) (fun c9 => ?_)
  · replace hr := gIf_f c9 hr
    refine lv_aload_n hx hb dX6_findCycle_19 rfl (lv_at hl 1 rfl) ?_
    refine m_get X hI mH_0 11 (by decide) q1663 rfl dX6_findCycle_20 ?_
    refine lv_iconst (v := 0) hx hb dX6_findCycle_23 (by decide) ?_
    refine lv_iload_n hx hb dX6_findCycle_24 rfl (lv_at hl 2 rfl) ?_
    refine m_iast X hI mH_aaC mH_saC hr dX6_findCycle_25 (fun aC_4 H locs hI hr => ?_)
    refine lv_iconst (v := 1) hx hb dX6_findCycle_26 (by decide) ?_
    refine lv_istore_n (lv' := [(3, .int (1 : Int32)), (2, .int v3), (0, .ref o), (1, .int z1)]) hx hb dX6_findCycle_27 rfl hl (by decide) rfl (fun ls hl => ?_)
    exact w_X6_findCycle_L28 X gN hr hI (lv_sub hl [2, 3, 1, 0] rfl)
  · replace hr := gIf_t c9 hr
    refine lv_iconst (v := (-1)) hx hb dX6_findCycle_17 (by decide) ?_
    have hr := gS_i hr
    subst hr
    exact g_iret X hI rfl (Nat.le_refl _) (Nat.le_refl _) dX6_findCycle_18
abbrev rm_X6_canDo : Room := { frames := 6, cells := 0, slots := 0, locals := 138 }
theorem hd_X6_canDo : yX6_canDo.cls = RX6 ∧ yX6_canDo.cls ≠ "java/lang/invoke/MethodHandle" ∧ yX6_canDo.cls ≠ "java/lang/invoke/VarHandle" ∧ (parseMethodDescriptor yX6_canDo.desc).map (fun d => d.parameters.length) = some 4 := by decide +kernel
set_option maxHeartbeats 2000000 in
theorem w_X6_canDo {l : Launch} {x : gV} {base : Nat} {z1 : Int32} {z2 : Int32} {z3 : Int32} {z4 : Int32} {h : gH} {n : Nat} {o : Nat} {aM : (Nat → Int32)} {aS : (Nat → Int32)} {iU : Int32} {aB : (Nat → Int32)} {iL : Int32} {iE : Int32} {iP : Int32} {aR : (Nat → Int32)} {iW : Int32} {iT : Int32} {aT : (Nat → Int32)} {aC : (Nat → Int32)} {aH : (Nat → Int32)} {aE : (Nat → Int32)} {aQ : (Nat → Int32)} {iA : Int32} {iY : Int32} {iF : Int32} {iV : Int32} {aK : (Nat → Int32)} {res : Int32 × (Nat → Int32) × (Nat → Int32)} (hr : f_X6_canDo z1 z2 z3 z4 aM aT aC = some res) : gM l yX6_canDo (ws_ yX6_canDo cX6_canDo 5 (some .boolean)) rm_X6_canDo x base [.ref o, .int z1, .int z2, .int z3, .int z4] (mH h o aM aS iU aB iL iE iP aR iW iT aT aC aH aE aQ iA iY iF iV aK) n (some (.int res.1)) (mH h o aM aS iU aB iL iE iP aR iW iT res.2.1 res.2.2 aH aE aQ iA iY iF iV aK) n 0 0 := by
  refine g_met (cc := cX6_canDo) (nL := 5) (ret := (some .boolean)) (by decide) (Nat.le_of_ble_eq_true rfl) (fun p e s m below meth c ls X hnm hl hI => ?_)
  have hl : lv_has ls 5 [(0, .ref o), (1, .int z1), (2, .int z2), (3, .int z3), (4, .int z4)] := hl
  have hx := X.1
  have hb := X.2.1
  unfold f_X6_canDo at hr
  refine lv_iload_n hx hb dX6_canDo_0 rfl (lv_at hl 1 rfl) ?_
  by_cases c9 : z1 = 0
  · replace hr := gIf_t c9 hr
    refine lv_tableIn (off := 47) (tgt := 48) hx hb dX6_canDo_1 (by rw [c9]; decide) (by rw [c9]; decide) (by rw [c9]; rfl) (by decide) ?_
    refine lv_aload_n hx hb dX6_canDo_48 rfl (lv_at hl 0 rfl) ?_
    refine lv_iload_n hx hb dX6_canDo_49 rfl (lv_at hl 3 rfl) ?_
    refine lv_iload hx hb dX6_canDo_50 (lv_at hl 4 rfl) ?_
    obtain ⟨v2, hc1, hr⟩ := gB_i hr
    refine gRun_i (g_runV X hI (w_X6_isRange hc1) (g_obj_s mH_0) rfl hl (lw_V q1780 q1782 qs55 q122 q1783) rfl rfl hd_X6_isRange ⟨Nat.le_of_ble_eq_true rfl, Nat.le_of_ble_eq_true rfl⟩ (as := [.int z3, .int z4]) (rest := []) rfl rfl (Nat.le_of_ble_eq_true rfl) ⟨(Nat.le_refl _), (Nat.le_refl _)⟩ dX6_canDo_52) (fun H locs hI => ?_)
    obtain ⟨c9, hr⟩ := gIf_o hr
    have hr := gS_i hr
    subst hr
    exact g_iret X hI (g_narZ c9) (Nat.le_refl _) (Nat.le_refl _) dX6_canDo_55
  replace hr := gIf_f c9 hr
  have n0 := c9
  by_cases c9 : z1 = 1
  · replace hr := gIf_t c9 hr
    refine lv_tableIn (off := 47) (tgt := 48) hx hb dX6_canDo_1 (by rw [c9]; decide) (by rw [c9]; decide) (by rw [c9]; rfl) (by decide) ?_
    refine lv_aload_n hx hb dX6_canDo_48 rfl (lv_at hl 0 rfl) ?_
    refine lv_iload_n hx hb dX6_canDo_49 rfl (lv_at hl 3 rfl) ?_
    refine lv_iload hx hb dX6_canDo_50 (lv_at hl 4 rfl) ?_
    obtain ⟨v4, hc3, hr⟩ := gB_i hr
    refine gRun_i (g_runV X hI (w_X6_isRange hc3) (g_obj_s mH_0) rfl hl (lw_V q1780 q1782 qs55 q122 q1783) rfl rfl hd_X6_isRange ⟨Nat.le_of_ble_eq_true rfl, Nat.le_of_ble_eq_true rfl⟩ (as := [.int z3, .int z4]) (rest := []) rfl rfl (Nat.le_of_ble_eq_true rfl) ⟨(Nat.le_refl _), (Nat.le_refl _)⟩ dX6_canDo_52) (fun H locs hI => ?_)
    obtain ⟨c9, hr⟩ := gIf_o hr
    have hr := gS_i hr
    subst hr
    exact g_iret X hI (g_narZ c9) (Nat.le_refl _) (Nat.le_refl _) dX6_canDo_55
  replace hr := gIf_f c9 hr
  have n1 := c9
  by_cases c9 : z1 = 2
  · replace hr := gIf_t c9 hr
    refine lv_tableIn (off := 55) (tgt := 56) hx hb dX6_canDo_1 (by rw [c9]; decide) (by rw [c9]; decide) (by rw [c9]; rfl) (by decide) ?_
    refine lv_iload_n hx hb dX6_canDo_56 rfl (lv_at hl 2 rfl) ?_
    refine lv_iload_n hx hb dX6_canDo_57 rfl (lv_at hl 3 rfl) ?_
    refine lv_icmp_eq (tgt := 65) hx hb dX6_canDo_58 (by decide) (fun c9 => ?_) (fun c9 => ?_)
    · replace hr := gIf_t c9 hr
      refine lv_iconst (v := 0) hx hb dX6_canDo_65 (by decide) ?_
      have hr := gS_i hr
      subst hr
      exact g_iret X hI (g_narZ (Or.inl rfl)) (Nat.le_refl _) (Nat.le_refl _) dX6_canDo_66
    · replace hr := gIf_f c9 hr
      refine lv_iconst (v := 1) hx hb dX6_canDo_61 (by decide) ?_
      refine lv_goto (tgt := 66) hx hb dX6_canDo_62 (by decide) ?_
      have hr := gS_i hr
      subst hr
      exact g_iret X hI (g_narZ (Or.inr rfl)) (Nat.le_refl _) (Nat.le_refl _) dX6_canDo_66
  replace hr := gIf_f c9 hr
  have n2 := c9
  by_cases c9 : z1 = 3
  · replace hr := gIf_t c9 hr
    refine lv_tableIn (off := 66) (tgt := 67) hx hb dX6_canDo_1 (by rw [c9]; decide) (by rw [c9]; decide) (by rw [c9]; rfl) (by decide) ?_
    refine lv_aload_n hx hb dX6_canDo_67 rfl (lv_at hl 0 rfl) ?_
    refine lv_iload_n hx hb dX6_canDo_68 rfl (lv_at hl 3 rfl) ?_
    obtain ⟨v6, hc5, hr⟩ := gB_i hr
    refine gRun_i (g_runV X hI (w_X6_isCell hc5) (g_obj_s mH_0) rfl hl (lw_V q1784 q1786 qs56 q122 q1787) rfl rfl hd_X6_isCell ⟨Nat.le_of_ble_eq_true rfl, Nat.le_of_ble_eq_true rfl⟩ (as := [.int z3]) (rest := []) rfl rfl (Nat.le_of_ble_eq_true rfl) ⟨(Nat.le_refl _), (Nat.le_refl _)⟩ dX6_canDo_69) (fun H locs hI => ?_)
    refine lv_if_eq (tgt := 86) hx hb dX6_canDo_72 (by decide) (fun c9 => ?_) (fun c9 => ?_)
    · replace hr := gIf_t c9 hr
      refine lv_iconst (v := 0) hx hb dX6_canDo_86 (by decide) ?_
      have hr := gS_i hr
      subst hr
      exact g_iret X hI (g_narZ (Or.inl rfl)) (Nat.le_refl _) (Nat.le_refl _) dX6_canDo_87
    · replace hr := gIf_f c9 hr
      refine lv_iload hx hb dX6_canDo_75 (lv_at hl 4 rfl) ?_
      refine lv_bipush (v := 9) hx hb dX6_canDo_77 (by decide) ?_
      refine lv_icmp_gt (tgt := 86) hx hb dX6_canDo_79 (by decide) (fun c9 => ?_) (fun c9 => ?_)
      · replace hr := gIf_t c9 hr
        refine lv_iconst (v := 0) hx hb dX6_canDo_86 (by decide) ?_
        have hr := gS_i hr
        subst hr
        exact g_iret X hI (g_narZ (Or.inl rfl)) (Nat.le_refl _) (Nat.le_refl _) dX6_canDo_87
      · replace hr := gIf_f c9 hr
        refine lv_iconst (v := 1) hx hb dX6_canDo_82 (by decide) ?_
        refine lv_goto (tgt := 87) hx hb dX6_canDo_83 (by decide) ?_
        have hr := gS_i hr
        subst hr
        exact g_iret X hI (g_narZ (Or.inr rfl)) (Nat.le_refl _) (Nat.le_refl _) dX6_canDo_87
  replace hr := gIf_f c9 hr
  have n3 := c9
  by_cases c9 : z1 = 4
  · replace hr := gIf_t c9 hr
    refine lv_tableIn (off := 55) (tgt := 56) hx hb dX6_canDo_1 (by rw [c9]; decide) (by rw [c9]; decide) (by rw [c9]; rfl) (by decide) ?_
    refine lv_iload_n hx hb dX6_canDo_56 rfl (lv_at hl 2 rfl) ?_
    refine lv_iload_n hx hb dX6_canDo_57 rfl (lv_at hl 3 rfl) ?_
    refine lv_icmp_eq (tgt := 65) hx hb dX6_canDo_58 (by decide) (fun c9 => ?_) (fun c9 => ?_)
    · replace hr := gIf_t c9 hr
      refine lv_iconst (v := 0) hx hb dX6_canDo_65 (by decide) ?_
      have hr := gS_i hr
      subst hr
      exact g_iret X hI (g_narZ (Or.inl rfl)) (Nat.le_refl _) (Nat.le_refl _) dX6_canDo_66
    · replace hr := gIf_f c9 hr
      refine lv_iconst (v := 1) hx hb dX6_canDo_61 (by decide) ?_
      refine lv_goto (tgt := 66) hx hb dX6_canDo_62 (by decide) ?_
      have hr := gS_i hr
      subst hr
      exact g_iret X hI (g_narZ (Or.inr rfl)) (Nat.le_refl _) (Nat.le_refl _) dX6_canDo_66
  replace hr := gIf_f c9 hr
  have n4 := c9
  by_cases c9 : z1 = 5
  · replace hr := gIf_t c9 hr
    refine lv_tableIn (off := 102) (tgt := 103) hx hb dX6_canDo_1 (by rw [c9]; decide) (by rw [c9]; decide) (by rw [c9]; rfl) (by decide) ?_
    refine lv_iconst (v := 1) hx hb dX6_canDo_103 (by decide) ?_
    have hr := gS_i hr
    subst hr
    exact g_iret X hI (g_narZ (Or.inr rfl)) (Nat.le_refl _) (Nat.le_refl _) dX6_canDo_104
  replace hr := gIf_f c9 hr
  have n5 := c9
  by_cases c9 : z1 = 6
  · replace hr := gIf_t c9 hr
    refine lv_tableIn (off := 102) (tgt := 103) hx hb dX6_canDo_1 (by rw [c9]; decide) (by rw [c9]; decide) (by rw [c9]; rfl) (by decide) ?_
    refine lv_iconst (v := 1) hx hb dX6_canDo_103 (by decide) ?_
    have hr := gS_i hr
    subst hr
    exact g_iret X hI (g_narZ (Or.inr rfl)) (Nat.le_refl _) (Nat.le_refl _) dX6_canDo_104
  replace hr := gIf_f c9 hr
  have n6 := c9
  by_cases c9 : z1 = 7
  · replace hr := gIf_t c9 hr
    refine lv_tableIn (off := 87) (tgt := 88) hx hb dX6_canDo_1 (by rw [c9]; decide) (by rw [c9]; decide) (by rw [c9]; rfl) (by decide) ?_
    refine lv_aload_n hx hb dX6_canDo_88 rfl (lv_at hl 0 rfl) ?_
    refine lv_iload_n hx hb dX6_canDo_89 rfl (lv_at hl 2 rfl) ?_
    obtain ⟨v8, aT_9, aC_10, hc7, hr⟩ := gT3_i hr
    refine gRun_i (g_runV X hI (w_X6_findCycle hc7) (g_obj_s mH_0) rfl hl (lw_V q1788 q1790 qs57 q122 q1791) rfl rfl hd_X6_findCycle ⟨Nat.le_of_ble_eq_true rfl, Nat.le_of_ble_eq_true rfl⟩ (as := [.int z2]) (rest := []) rfl rfl (Nat.le_of_ble_eq_true rfl) ⟨(Nat.le_refl _), (Nat.le_refl _)⟩ dX6_canDo_90) (fun H locs hI => ?_)
    refine lv_iconst (v := (-1)) hx hb dX6_canDo_93 (by decide) ?_
    refine lv_icmp_eq (tgt := 101) hx hb dX6_canDo_94 (by decide) (fun c9 => ?_) (fun c9 => ?_)
    · replace hr := gIf_t c9 hr
      refine lv_iconst (v := 0) hx hb dX6_canDo_101 (by decide) ?_
      have hr := gS_i hr
      subst hr
      exact g_iret X hI (g_narZ (Or.inl rfl)) (Nat.le_refl _) (Nat.le_refl _) dX6_canDo_102
    · replace hr := gIf_f c9 hr
      refine lv_iconst (v := 1) hx hb dX6_canDo_97 (by decide) ?_
      refine lv_goto (tgt := 102) hx hb dX6_canDo_98 (by decide) ?_
      have hr := gS_i hr
      subst hr
      exact g_iret X hI (g_narZ (Or.inr rfl)) (Nat.le_refl _) (Nat.le_refl _) dX6_canDo_102
  replace hr := gIf_f c9 hr
  have n7 := c9
  refine lv_tableOut (tgt := 103) hx hb dX6_canDo_1 (by have m0 := lv_neT (a := 0) n0 (by decide); have m1 := lv_neT (a := 1) n1 (by decide); have m2 := lv_neT (a := 2) n2 (by decide); have m3 := lv_neT (a := 3) n3 (by decide); have m4 := lv_neT (a := 4) n4 (by decide); have m5 := lv_neT (a := 5) n5 (by decide); have m6 := lv_neT (a := 6) n6 (by decide); have m7 := lv_neT (a := 7) n7 (by decide); omega) (by decide) ?_
  refine lv_iconst (v := 1) hx hb dX6_canDo_103 (by decide) ?_
  have hr := gS_i hr
  subst hr
  exact g_iret X hI (g_narZ (Or.inr rfl)) (Nat.le_refl _) (Nat.le_refl _) dX6_canDo_104
abbrev rm_X6_own : Room := { frames := 0, cells := 0, slots := 0, locals := 0 }
theorem hd_X6_own : yX6_own.cls = RX6 ∧ yX6_own.cls ≠ "java/lang/invoke/MethodHandle" ∧ yX6_own.cls ≠ "java/lang/invoke/VarHandle" ∧ (parseMethodDescriptor yX6_own.desc).map (fun d => d.parameters.length) = some 3 := by decide +kernel
set_option maxHeartbeats 2000000 in
theorem w_X6_own_L3 {h : gH} {n : Nat} {o : Nat} {aS : (Nat → Int32)} {iU : Int32} {aB : (Nat → Int32)} {iL : Int32} {iE : Int32} {iP : Int32} {aR : (Nat → Int32)} {iW : Int32} {iT : Int32} {aT : (Nat → Int32)} {aC : (Nat → Int32)} {aH : (Nat → Int32)} {aE : (Nat → Int32)} {aQ : (Nat → Int32)} {iA : Int32} {iY : Int32} {iF : Int32} {iV : Int32} {aK : (Nat → Int32)} {z1 : Int32} {z3 : Int32} {res : (Nat → Int32)} (X : gXX x base RX6 cX6_own 5 none p l s m args meth c) : ∀ (k : Nat) {z4 : Int32} {aM : (Nat → Int32)} {H : Heap} {locs : List Loc} {ls : Array Slot}, gL2 (f_X6_own_L3 z1 z3) k z4 aM = some res → gI x base s.heap (mH h o aM aS iU aB iL iE iP aR iW iT aT aC aH aE aQ iA iY iF iV aK) n H locs → lv_has ls 5 [(0, .ref o), (1, .int z1), (3, .int z3), (4, .int z4)] → W p l e rm_X6_own s m args below meth c H locs 0 0 (MQ below (gQ x base none (mH h o res aS iU aB iL iE iP aR iW iT aT aC aH aE aQ iA iY iF iV aK) n) args s 0 0 (fun q => base ≤ q)) (F0 m 3 ls []) := by
  have hx := X.1
  have hb := X.2.1
  intro k
  induction k with
  | zero =>
    intros
    rename_i hr _ _
    exact nomatch (show (none : Option _) = some _ from hr)
  | succ k ih =>
    intro z4 aM H locs ls hr hI hl
    replace hr : f_X6_own_L3 z1 z3 (gL2 (f_X6_own_L3 z1 z3) k) z4 aM = some res := hr
    unfold f_X6_own_L3 at hr
    refine lv_iload hx hb dX6_own_3 (lv_at hl 3 rfl) ?_
    refine lv_iload_n hx hb dX6_own_5 rfl (lv_at hl 2 rfl) ?_
    refine lv_icmp_gt (tgt := 25) hx hb dX6_own_6 (by decide) (fun c9 => ?_) (fun c9 => ?_)
    · replace hr := gIf_t c9 hr
      have hr := gS_i hr
      subst hr
      exact g_vret X hI (Nat.le_refl _) (Nat.le_refl _) dX6_own_25
    · replace hr := gIf_f c9 hr
      refine lv_aload_n hx hb dX6_own_9 rfl (lv_at hl 0 rfl) ?_
      refine m_get X hI mH_0 0 (by decide) q1652 rfl dX6_own_10 ?_
      refine lv_iconst (v := 2) hx hb dX6_own_13 (by decide) ?_
      refine lv_iload hx hb dX6_own_14 (lv_at hl 3 rfl) ?_
      refine lv_iadd hx hb dX6_own_16 ?_
      refine lv_iload_n hx hb dX6_own_17 rfl (lv_at hl 1 rfl) ?_
      refine m_iast X hI mH_aaM mH_saM hr dX6_own_18 (fun aM_1 H locs hI hr => ?_)
      refine lv_iinc (v := (z4 + (1 : Int32))) (lv' := [(4, .int (z4 + (1 : Int32))), (0, .ref o), (1, .int z1), (3, .int z3)]) hx hb dX6_own_19 hl (k := 3) rfl (g_inc (by decide)) (by decide) rfl (fun ls hl => ?_)
      refine lv_goto (tgt := 3) hx hb dX6_own_22 (by decide) ?_
      exact ih hr hI (lv_sub hl [1, 2, 3, 0] rfl)
set_option maxHeartbeats 2000000 in
theorem w_X6_own {l : Launch} {x : gV} {base : Nat} {z1 : Int32} {z2 : Int32} {z3 : Int32} {h : gH} {n : Nat} {o : Nat} {aM : (Nat → Int32)} {aS : (Nat → Int32)} {iU : Int32} {aB : (Nat → Int32)} {iL : Int32} {iE : Int32} {iP : Int32} {aR : (Nat → Int32)} {iW : Int32} {iT : Int32} {aT : (Nat → Int32)} {aC : (Nat → Int32)} {aH : (Nat → Int32)} {aE : (Nat → Int32)} {aQ : (Nat → Int32)} {iA : Int32} {iY : Int32} {iF : Int32} {iV : Int32} {aK : (Nat → Int32)} {res : (Nat → Int32)} (hr : f_X6_own z1 z2 z3 aM = some res) : gM l yX6_own (ws_ yX6_own cX6_own 5 none) rm_X6_own x base [.ref o, .int z1, .int z2, .int z3] (mH h o aM aS iU aB iL iE iP aR iW iT aT aC aH aE aQ iA iY iF iV aK) n none (mH h o res aS iU aB iL iE iP aR iW iT aT aC aH aE aQ iA iY iF iV aK) n 0 0 := by
  refine g_met (cc := cX6_own) (nL := 5) (ret := none) (by decide) (Nat.le_of_ble_eq_true rfl) (fun p e s m below meth c ls X hnm hl hI => ?_)
  have hl : lv_has ls 5 [(0, .ref o), (1, .int z1), (2, .int z2), (3, .int z3)] := hl
  have hx := X.1
  have hb := X.2.1
  unfold f_X6_own at hr
  refine lv_iload_n hx hb dX6_own_0 rfl (lv_at hl 2 rfl) ?_
  refine lv_istore (lv' := [(4, .int z2), (0, .ref o), (1, .int z1), (2, .int z2), (3, .int z3)]) hx hb dX6_own_1 hl (by decide) rfl (fun ls hl => ?_)
  exact w_X6_own_L3 X gN hr hI (lv_sub hl [1, 2, 4, 0] rfl)
abbrev rm_X6_exchange : Room := { frames := 1, cells := 0, slots := 0, locals := 21 }
theorem hd_X6_exchange : yX6_exchange.cls = RX6 ∧ yX6_exchange.cls ≠ "java/lang/invoke/MethodHandle" ∧ yX6_exchange.cls ≠ "java/lang/invoke/VarHandle" ∧ (parseMethodDescriptor yX6_exchange.desc).map (fun d => d.parameters.length) = some 2 := by decide +kernel
set_option maxHeartbeats 2000000 in
theorem w_X6_exchange_J34 {h : gH} {n : Nat} {o : Nat} {aM : (Nat → Int32)} {aS : (Nat → Int32)} {iU : Int32} {aB : (Nat → Int32)} {iL : Int32} {iE : Int32} {iP : Int32} {aR : (Nat → Int32)} {iW : Int32} {iT : Int32} {aT : (Nat → Int32)} {aC : (Nat → Int32)} {aH : (Nat → Int32)} {aE : (Nat → Int32)} {aQ : (Nat → Int32)} {iA : Int32} {iY : Int32} {iF : Int32} {iV : Int32} {aK : (Nat → Int32)} {r2 : Int32 → (Nat → Int32) → Option (Nat → Int32)} {z1 : Int32} {z2 : Int32} {z3 : Int32} {z4 : Int32} {res : (Nat → Int32)} (X : gXX x base RX6 cX6_exchange 5 none p l s m args meth c) (Hr2 : ∀ {z3 : Int32} {aM : (Nat → Int32)} {H : Heap} {locs : List Loc} {ls : Array Slot}, r2 z3 aM = some res → gI x base s.heap (mH h o aM aS iU aB iL iE iP aR iW iT aT aC aH aE aQ iA iY iF iV aK) n H locs → lv_has ls 5 [(0, .ref o), (1, .int z1), (2, .int z2), (3, .int z3)] → W p l e rm_X6_exchange s m args below meth c H locs 0 0 (MQ below (gQ x base none (mH h o res aS iU aB iL iE iP aR iW iT aT aC aH aE aQ iA iY iF iV aK) n) args s 0 0 (fun q => base ≤ q)) (F0 m 2 ls [])) {H : Heap} {locs : List Loc} {ls : Array Slot} (hr : f_X6_exchange_J34 r2 z1 z2 z3 z4 aM = some res) (hI : gI x base s.heap (mH h o aM aS iU aB iL iE iP aR iW iT aT aC aH aE aQ iA iY iF iV aK) n H locs) (hl : lv_has ls 5 [(0, .ref o), (1, .int z1), (2, .int z2), (3, .int z3), (4, .int z4)]) : W p l e rm_X6_exchange s m args below meth c H locs 0 0 (MQ below (gQ x base none (mH h o res aS iU aB iL iE iP aR iW iT aT aC aH aE aQ iA iY iF iV aK) n) args s 0 0 (fun q => base ≤ q)) (F0 m 34 ls []) := by
  have hx := X.1
  have hb := X.2.1
  unfold f_X6_exchange_J34 at hr
  refine lv_iload hx hb dX6_exchange_34 (lv_at hl 4 rfl) ?_
  refine lv_iload_n hx hb dX6_exchange_36 rfl (lv_at hl 2 rfl) ?_
  refine lv_icmp_ne (tgt := 49) hx hb dX6_exchange_37 (by decide) (fun c9 => ?_) (fun c9 => ?_)
  · replace hr := gIf_f c9 hr
    refine lv_iinc (v := (z3 + (1 : Int32))) (lv' := [(3, .int (z3 + (1 : Int32))), (0, .ref o), (1, .int z1), (2, .int z2), (4, .int z4)]) hx hb dX6_exchange_49 hl (k := 3) rfl (g_inc (by decide)) (by decide) rfl (fun ls hl => ?_)
    refine lv_goto (tgt := 2) hx hb dX6_exchange_52 (by decide) ?_
    exact Hr2 hr hI (lv_sub hl [1, 2, 3, 0] rfl)
  · replace hr := gIf_t c9 hr
    refine lv_aload_n hx hb dX6_exchange_40 rfl (lv_at hl 0 rfl) ?_
    refine m_get X hI mH_0 0 (by decide) q1652 rfl dX6_exchange_41 ?_
    refine lv_iconst (v := 2) hx hb dX6_exchange_44 (by decide) ?_
    refine lv_iload_n hx hb dX6_exchange_45 rfl (lv_at hl 3 rfl) ?_
    refine lv_iadd hx hb dX6_exchange_46 ?_
    refine lv_iload_n hx hb dX6_exchange_47 rfl (lv_at hl 1 rfl) ?_
    refine m_iast X hI mH_aaM mH_saM hr dX6_exchange_48 (fun aM_4 H locs hI hr => ?_)
    refine lv_iinc (v := (z3 + (1 : Int32))) (lv' := [(3, .int (z3 + (1 : Int32))), (0, .ref o), (1, .int z1), (2, .int z2), (4, .int z4)]) hx hb dX6_exchange_49 hl (k := 3) rfl (g_inc (by decide)) (by decide) rfl (fun ls hl => ?_)
    refine lv_goto (tgt := 2) hx hb dX6_exchange_52 (by decide) ?_
    exact Hr2 hr hI (lv_sub hl [1, 2, 3, 0] rfl)
set_option maxHeartbeats 2000000 in
theorem w_X6_exchange_L2 {h : gH} {n : Nat} {o : Nat} {aS : (Nat → Int32)} {iU : Int32} {aB : (Nat → Int32)} {iL : Int32} {iE : Int32} {iP : Int32} {aR : (Nat → Int32)} {iW : Int32} {iT : Int32} {aT : (Nat → Int32)} {aC : (Nat → Int32)} {aH : (Nat → Int32)} {aE : (Nat → Int32)} {aQ : (Nat → Int32)} {iA : Int32} {iY : Int32} {iF : Int32} {iV : Int32} {aK : (Nat → Int32)} {z1 : Int32} {z2 : Int32} {res : (Nat → Int32)} (X : gXX x base RX6 cX6_exchange 5 none p l s m args meth c) : ∀ (k : Nat) {z3 : Int32} {aM : (Nat → Int32)} {H : Heap} {locs : List Loc} {ls : Array Slot}, gL2 (f_X6_exchange_L2 z1 z2) k z3 aM = some res → gI x base s.heap (mH h o aM aS iU aB iL iE iP aR iW iT aT aC aH aE aQ iA iY iF iV aK) n H locs → lv_has ls 5 [(0, .ref o), (1, .int z1), (2, .int z2), (3, .int z3)] → W p l e rm_X6_exchange s m args below meth c H locs 0 0 (MQ below (gQ x base none (mH h o res aS iU aB iL iE iP aR iW iT aT aC aH aE aQ iA iY iF iV aK) n) args s 0 0 (fun q => base ≤ q)) (F0 m 2 ls []) := by
  have hx := X.1
  have hb := X.2.1
  intro k
  induction k with
  | zero =>
    intros
    rename_i hr _ _
    exact nomatch (show (none : Option _) = some _ from hr)
  | succ k ih =>
    intro z3 aM H locs ls hr hI hl
    replace hr : f_X6_exchange_L2 z1 z2 (gL2 (f_X6_exchange_L2 z1 z2) k) z3 aM = some res := hr
    unfold f_X6_exchange_L2 at hr
    refine lv_iload_n hx hb dX6_exchange_2 rfl (lv_at hl 3 rfl) ?_
    refine lv_aload_n hx hb dX6_exchange_3 rfl (lv_at hl 0 rfl) ?_
    refine m_get X hI mH_0 0 (by decide) q1652 rfl dX6_exchange_4 ?_
    refine lv_iconst (v := 0) hx hb dX6_exchange_7 (by decide) ?_
    refine m_iald X hI mH_aaM hr dX6_exchange_8 (fun v1 hr => ?_)
    refine lv_icmp_ge (tgt := 55) hx hb dX6_exchange_9 (by decide) (fun c9 => ?_) (fun c9 => ?_)
    · replace hr := gIf_t c9 hr
      have hr := gS_i hr
      subst hr
      exact g_vret X hI (Nat.le_refl _) (Nat.le_refl _) dX6_exchange_55
    · replace hr := gIf_f c9 hr
      refine lv_aload_n hx hb dX6_exchange_12 rfl (lv_at hl 0 rfl) ?_
      refine lv_iload_n hx hb dX6_exchange_13 rfl (lv_at hl 3 rfl) ?_
      obtain ⟨v3, hc2, hr⟩ := gB_i hr
      refine gRun_i (g_runV X hI (w_X6_ownerOf hc2) (g_obj_s mH_0) rfl hl (lw_V q1804 q1806 qs61 q122 q1807) rfl rfl hd_X6_ownerOf ⟨Nat.le_of_ble_eq_true rfl, Nat.le_of_ble_eq_true rfl⟩ (as := [.int z3]) (rest := []) rfl rfl (Nat.le_of_ble_eq_true rfl) ⟨(Nat.le_refl _), (Nat.le_refl _)⟩ dX6_exchange_14) (fun H locs hI => ?_)
      refine lv_istore (lv' := [(4, .int v3), (0, .ref o), (1, .int z1), (2, .int z2), (3, .int z3)]) hx hb dX6_exchange_17 hl (by decide) rfl (fun ls hl => ?_)
      refine lv_iload hx hb dX6_exchange_19 (lv_at hl 0 rfl) ?_
      refine lv_iload_n hx hb dX6_exchange_21 rfl (lv_at hl 2 rfl) ?_
      refine lv_icmp_ne (tgt := 34) hx hb dX6_exchange_22 (by decide) (fun c9 => ?_) (fun c9 => ?_)
      · replace hr := gIf_f c9 hr
        exact w_X6_exchange_J34 X ih hr hI (lv_sub hl [1, 2, 3, 4, 0] rfl)
      · replace hr := gIf_t c9 hr
        refine lv_aload_n hx hb dX6_exchange_25 rfl (lv_at hl 1 rfl) ?_
        refine m_get X hI mH_0 0 (by decide) q1652 rfl dX6_exchange_26 ?_
        refine lv_iconst (v := 2) hx hb dX6_exchange_29 (by decide) ?_
        refine lv_iload_n hx hb dX6_exchange_30 rfl (lv_at hl 4 rfl) ?_
        refine lv_iadd hx hb dX6_exchange_31 ?_
        refine lv_iload_n hx hb dX6_exchange_32 rfl (lv_at hl 3 rfl) ?_
        refine m_iast X hI mH_aaM mH_saM hr dX6_exchange_33 (fun aM_5 H locs hI hr => ?_)
        exact w_X6_exchange_J34 X ih hr hI (lv_sub hl [1, 2, 3, 4, 0] rfl)
set_option maxHeartbeats 2000000 in
theorem w_X6_exchange {l : Launch} {x : gV} {base : Nat} {z1 : Int32} {z2 : Int32} {h : gH} {n : Nat} {o : Nat} {aM : (Nat → Int32)} {aS : (Nat → Int32)} {iU : Int32} {aB : (Nat → Int32)} {iL : Int32} {iE : Int32} {iP : Int32} {aR : (Nat → Int32)} {iW : Int32} {iT : Int32} {aT : (Nat → Int32)} {aC : (Nat → Int32)} {aH : (Nat → Int32)} {aE : (Nat → Int32)} {aQ : (Nat → Int32)} {iA : Int32} {iY : Int32} {iF : Int32} {iV : Int32} {aK : (Nat → Int32)} {res : (Nat → Int32)} (hr : f_X6_exchange z1 z2 aM = some res) : gM l yX6_exchange (ws_ yX6_exchange cX6_exchange 5 none) rm_X6_exchange x base [.ref o, .int z1, .int z2] (mH h o aM aS iU aB iL iE iP aR iW iT aT aC aH aE aQ iA iY iF iV aK) n none (mH h o res aS iU aB iL iE iP aR iW iT aT aC aH aE aQ iA iY iF iV aK) n 0 0 := by
  refine g_met (cc := cX6_exchange) (nL := 5) (ret := none) (by decide) (Nat.le_of_ble_eq_true rfl) (fun p e s m below meth c ls X hnm hl hI => ?_)
  have hl : lv_has ls 5 [(0, .ref o), (1, .int z1), (2, .int z2)] := hl
  have hx := X.1
  have hb := X.2.1
  unfold f_X6_exchange at hr
  refine lv_iconst (v := 0) hx hb dX6_exchange_0 (by decide) ?_
  refine lv_istore_n (lv' := [(3, .int (0 : Int32)), (0, .ref o), (1, .int z1), (2, .int z2)]) hx hb dX6_exchange_1 rfl hl (by decide) rfl (fun ls hl => ?_)
  exact w_X6_exchange_L2 X gN hr hI (lv_sub hl [1, 2, 3, 0] rfl)
abbrev rm_X6_worthOf : Room := { frames := 1, cells := 0, slots := 0, locals := 22 }
theorem hd_X6_worthOf : yX6_worthOf.cls = RX6 ∧ yX6_worthOf.cls ≠ "java/lang/invoke/MethodHandle" ∧ yX6_worthOf.cls ≠ "java/lang/invoke/VarHandle" ∧ (parseMethodDescriptor yX6_worthOf.desc).map (fun d => d.parameters.length) = some 3 := by decide +kernel
set_option maxHeartbeats 2000000 in
theorem w_X6_worthOf_L6 {h : gH} {n : Nat} {o : Nat} {aM : (Nat → Int32)} {aS : (Nat → Int32)} {iU : Int32} {aB : (Nat → Int32)} {iL : Int32} {iE : Int32} {iP : Int32} {aR : (Nat → Int32)} {iW : Int32} {iT : Int32} {aT : (Nat → Int32)} {aC : (Nat → Int32)} {aH : (Nat → Int32)} {aE : (Nat → Int32)} {aQ : (Nat → Int32)} {iA : Int32} {iY : Int32} {iF : Int32} {iV : Int32} {aK : (Nat → Int32)} {z1 : Int32} {z3 : Int32} {res : Int32} (X : gXX x base RX6 cX6_worthOf 6 (some .int) p l s m args meth c) : ∀ (k : Nat) {z4 : Int32} {z5 : Int32} {H : Heap} {locs : List Loc} {ls : Array Slot}, gL2 (f_X6_worthOf_L6 z1 z3 aM) k z4 z5 = some res → gI x base s.heap (mH h o aM aS iU aB iL iE iP aR iW iT aT aC aH aE aQ iA iY iF iV aK) n H locs → lv_has ls 6 [(0, .ref o), (1, .int z1), (3, .int z3), (4, .int z4), (5, .int z5)] → W p l e rm_X6_worthOf s m args below meth c H locs 0 0 (MQ below (gQ x base (some (.int res)) (mH h o aM aS iU aB iL iE iP aR iW iT aT aC aH aE aQ iA iY iF iV aK) n) args s 0 0 (fun q => base ≤ q)) (F0 m 6 ls []) := by
  have hx := X.1
  have hb := X.2.1
  intro k
  induction k with
  | zero =>
    intros
    rename_i hr _ _
    exact nomatch (show (none : Option _) = some _ from hr)
  | succ k ih =>
    intro z4 z5 H locs ls hr hI hl
    replace hr : f_X6_worthOf_L6 z1 z3 aM (gL2 (f_X6_worthOf_L6 z1 z3 aM) k) z4 z5 = some res := hr
    unfold f_X6_worthOf_L6 at hr
    refine lv_iload hx hb dX6_worthOf_6 (lv_at hl 4 rfl) ?_
    refine lv_iload_n hx hb dX6_worthOf_8 rfl (lv_at hl 2 rfl) ?_
    refine lv_icmp_gt (tgt := 30) hx hb dX6_worthOf_9 (by decide) (fun c9 => ?_) (fun c9 => ?_)
    · replace hr := gIf_t c9 hr
      refine lv_iload hx hb dX6_worthOf_30 (lv_at hl 3 rfl) ?_
      have hr := gS_i hr
      subst hr
      exact g_iret X hI rfl (Nat.le_refl _) (Nat.le_refl _) dX6_worthOf_32
    · replace hr := gIf_f c9 hr
      refine lv_iload hx hb dX6_worthOf_12 (lv_at hl 3 rfl) ?_
      refine lv_aload_n hx hb dX6_worthOf_14 rfl (lv_at hl 0 rfl) ?_
      refine lv_iload_n hx hb dX6_worthOf_15 rfl (lv_at hl 1 rfl) ?_
      refine lv_iload hx hb dX6_worthOf_16 (lv_at hl 4 rfl) ?_
      obtain ⟨v2, hc1, hr⟩ := gB_i hr
      refine gRun_i (g_runV X hI (w_X6_valueOf hc1) (g_obj_s mH_0) rfl hl (lw_V q1808 q1810 qs62 q122 q1811) rfl rfl hd_X6_valueOf ⟨Nat.le_of_ble_eq_true rfl, Nat.le_of_ble_eq_true rfl⟩ (as := [.int z1, .int z5]) (rest := [.int z4]) rfl rfl (Nat.le_of_ble_eq_true rfl) ⟨(Nat.le_refl _), (Nat.le_refl _)⟩ dX6_worthOf_18) (fun H locs hI => ?_)
      refine lv_iadd hx hb dX6_worthOf_21 ?_
      refine lv_istore (lv' := [(4, .int (z4 + v2)), (0, .ref o), (1, .int z1), (3, .int z3), (5, .int z5)]) hx hb dX6_worthOf_22 hl (by decide) rfl (fun ls hl => ?_)
      refine lv_iinc (v := (z5 + (1 : Int32))) (lv' := [(5, .int (z5 + (1 : Int32))), (4, .int (z4 + v2)), (0, .ref o), (1, .int z1), (3, .int z3)]) hx hb dX6_worthOf_24 hl (k := 4) rfl (g_inc (by decide)) (by decide) rfl (fun ls hl => ?_)
      refine lv_goto (tgt := 6) hx hb dX6_worthOf_27 (by decide) ?_
      exact ih hr hI (lv_sub hl [2, 3, 4, 1, 0] rfl)
set_option maxHeartbeats 2000000 in
theorem w_X6_worthOf {l : Launch} {x : gV} {base : Nat} {z1 : Int32} {z2 : Int32} {z3 : Int32} {h : gH} {n : Nat} {o : Nat} {aM : (Nat → Int32)} {aS : (Nat → Int32)} {iU : Int32} {aB : (Nat → Int32)} {iL : Int32} {iE : Int32} {iP : Int32} {aR : (Nat → Int32)} {iW : Int32} {iT : Int32} {aT : (Nat → Int32)} {aC : (Nat → Int32)} {aH : (Nat → Int32)} {aE : (Nat → Int32)} {aQ : (Nat → Int32)} {iA : Int32} {iY : Int32} {iF : Int32} {iV : Int32} {aK : (Nat → Int32)} {res : Int32} (hr : f_X6_worthOf z1 z2 z3 aM = some res) : gM l yX6_worthOf (ws_ yX6_worthOf cX6_worthOf 6 (some .int)) rm_X6_worthOf x base [.ref o, .int z1, .int z2, .int z3] (mH h o aM aS iU aB iL iE iP aR iW iT aT aC aH aE aQ iA iY iF iV aK) n (some (.int res)) (mH h o aM aS iU aB iL iE iP aR iW iT aT aC aH aE aQ iA iY iF iV aK) n 0 0 := by
  refine g_met (cc := cX6_worthOf) (nL := 6) (ret := (some .int)) (by decide) (Nat.le_of_ble_eq_true rfl) (fun p e s m below meth c ls X hnm hl hI => ?_)
  have hl : lv_has ls 6 [(0, .ref o), (1, .int z1), (2, .int z2), (3, .int z3)] := hl
  have hx := X.1
  have hb := X.2.1
  unfold f_X6_worthOf at hr
  refine lv_iconst (v := 0) hx hb dX6_worthOf_0 (by decide) ?_
  refine lv_istore (lv' := [(4, .int (0 : Int32)), (0, .ref o), (1, .int z1), (2, .int z2), (3, .int z3)]) hx hb dX6_worthOf_1 hl (by decide) rfl (fun ls hl => ?_)
  refine lv_iload_n hx hb dX6_worthOf_3 rfl (lv_at hl 3 rfl) ?_
  refine lv_istore (lv' := [(5, .int z2), (4, .int (0 : Int32)), (0, .ref o), (1, .int z1), (2, .int z2), (3, .int z3)]) hx hb dX6_worthOf_4 hl (by decide) rfl (fun ls hl => ?_)
  exact w_X6_worthOf_L6 X gN hr hI (lv_sub hl [2, 3, 5, 1, 0] rfl)
abbrev rm_X6_totalOf : Room := { frames := 2, cells := 0, slots := 0, locals := 47 }
theorem hd_X6_totalOf : yX6_totalOf.cls = RX6 ∧ yX6_totalOf.cls ≠ "java/lang/invoke/MethodHandle" ∧ yX6_totalOf.cls ≠ "java/lang/invoke/VarHandle" ∧ (parseMethodDescriptor yX6_totalOf.desc).map (fun d => d.parameters.length) = some 1 := by decide +kernel
set_option maxHeartbeats 2000000 in
theorem w_X6_totalOf {l : Launch} {x : gV} {base : Nat} {z1 : Int32} {h : gH} {n : Nat} {o : Nat} {aM : (Nat → Int32)} {aS : (Nat → Int32)} {iU : Int32} {aB : (Nat → Int32)} {iL : Int32} {iE : Int32} {iP : Int32} {aR : (Nat → Int32)} {iW : Int32} {iT : Int32} {aT : (Nat → Int32)} {aC : (Nat → Int32)} {aH : (Nat → Int32)} {aE : (Nat → Int32)} {aQ : (Nat → Int32)} {iA : Int32} {iY : Int32} {iF : Int32} {iV : Int32} {aK : (Nat → Int32)} {res : Int32} (hr : f_X6_totalOf z1 aM = some res) : gM l yX6_totalOf (ws_ yX6_totalOf cX6_totalOf 2 (some .int)) rm_X6_totalOf x base [.ref o, .int z1] (mH h o aM aS iU aB iL iE iP aR iW iT aT aC aH aE aQ iA iY iF iV aK) n (some (.int res)) (mH h o aM aS iU aB iL iE iP aR iW iT aT aC aH aE aQ iA iY iF iV aK) n 0 0 := by
  refine g_met (cc := cX6_totalOf) (nL := 2) (ret := (some .int)) (by decide) (Nat.le_of_ble_eq_true rfl) (fun p e s m below meth c ls X hnm hl hI => ?_)
  have hl : lv_has ls 2 [(0, .ref o), (1, .int z1)] := hl
  have hx := X.1
  have hb := X.2.1
  unfold f_X6_totalOf at hr
  refine lv_aload_n hx hb dX6_totalOf_0 rfl (lv_at hl 0 rfl) ?_
  refine lv_iload_n hx hb dX6_totalOf_1 rfl (lv_at hl 1 rfl) ?_
  refine lv_iconst (v := 0) hx hb dX6_totalOf_2 (by decide) ?_
  refine lv_aload_n hx hb dX6_totalOf_3 rfl (lv_at hl 0 rfl) ?_
  refine m_get X hI mH_0 0 (by decide) q1652 rfl dX6_totalOf_4 ?_
  refine lv_iconst (v := 0) hx hb dX6_totalOf_7 (by decide) ?_
  refine m_iald X hI mH_aaM hr dX6_totalOf_8 (fun v1 hr => ?_)
  refine lv_iconst (v := 1) hx hb dX6_totalOf_9 (by decide) ?_
  refine lv_isub hx hb dX6_totalOf_10 ?_
  obtain ⟨v3, hc2, hr⟩ := gB_i hr
  refine gRun_i (g_runV X hI (w_X6_worthOf hc2) (g_obj_s mH_0) rfl hl (lw_V q1840 q1842 qs70 q122 q1843) rfl rfl hd_X6_worthOf ⟨Nat.le_of_ble_eq_true rfl, Nat.le_of_ble_eq_true rfl⟩ (as := [.int z1, .int (0 : Int32), .int (v1 - (1 : Int32))]) (rest := []) rfl rfl (Nat.le_of_ble_eq_true rfl) ⟨(Nat.le_refl _), (Nat.le_refl _)⟩ dX6_totalOf_11) (fun H locs hI => ?_)
  have hr := gS_i hr
  subst hr
  exact g_iret X hI rfl (Nat.le_refl _) (Nat.le_refl _) dX6_totalOf_14
abbrev rm_X6_cutOf : Room := { frames := 3, cells := 0, slots := 0, locals := 68 }
theorem hd_X6_cutOf : yX6_cutOf.cls = RX6 ∧ yX6_cutOf.cls ≠ "java/lang/invoke/MethodHandle" ∧ yX6_cutOf.cls ≠ "java/lang/invoke/VarHandle" ∧ (parseMethodDescriptor yX6_cutOf.desc).map (fun d => d.parameters.length) = some 1 := by decide +kernel
set_option maxHeartbeats 2000000 in
theorem w_X6_cutOf_J52 {h : gH} {n : Nat} {o : Nat} {aM : (Nat → Int32)} {aS : (Nat → Int32)} {iU : Int32} {aB : (Nat → Int32)} {iL : Int32} {iE : Int32} {iP : Int32} {aR : (Nat → Int32)} {iW : Int32} {iT : Int32} {aT : (Nat → Int32)} {aC : (Nat → Int32)} {aH : (Nat → Int32)} {aE : (Nat → Int32)} {aQ : (Nat → Int32)} {iA : Int32} {iY : Int32} {iF : Int32} {iV : Int32} {aK : (Nat → Int32)} {r11 : Int32 → Int32 → Int32 → Option Int32} {z1 : Int32} {z2 : Int32} {z3 : Int32} {z4 : Int32} {z5 : Int32} {res : Int32} (X : gXX x base RX6 cX6_cutOf 6 (some .int) p l s m args meth c) (Hr11 : ∀ {z2 : Int32} {z3 : Int32} {z4 : Int32} {H : Heap} {locs : List Loc} {ls : Array Slot}, r11 z2 z3 z4 = some res → gI x base s.heap (mH h o aM aS iU aB iL iE iP aR iW iT aT aC aH aE aQ iA iY iF iV aK) n H locs → lv_has ls 6 [(0, .ref o), (1, .int z1), (2, .int z2), (3, .int z3), (4, .int z4)] → W p l e rm_X6_cutOf s m args below meth c H locs 0 0 (MQ below (gQ x base (some (.int res)) (mH h o aM aS iU aB iL iE iP aR iW iT aT aC aH aE aQ iA iY iF iV aK) n) args s 0 0 (fun q => base ≤ q)) (F0 m 11 ls [])) {H : Heap} {locs : List Loc} {ls : Array Slot} (hr : f_X6_cutOf_J52 r11 z1 z2 z3 z4 z5 aM = some res) (hI : gI x base s.heap (mH h o aM aS iU aB iL iE iP aR iW iT aT aC aH aE aQ iA iY iF iV aK) n H locs) (hl : lv_has ls 6 [(0, .ref o), (1, .int z1), (2, .int z2), (3, .int z3), (4, .int z4), (5, .int z5)]) : W p l e rm_X6_cutOf s m args below meth c H locs 0 0 (MQ below (gQ x base (some (.int res)) (mH h o aM aS iU aB iL iE iP aR iW iT aT aC aH aE aQ iA iY iF iV aK) n) args s 0 0 (fun q => base ≤ q)) (F0 m 52 ls []) := by
  have hx := X.1
  have hb := X.2.1
  unfold f_X6_cutOf_J52 at hr
  refine lv_iload hx hb dX6_cutOf_52 (lv_at hl 5 rfl) ?_
  refine lv_iload_n hx hb dX6_cutOf_54 rfl (lv_at hl 3 rfl) ?_
  refine lv_icmp_lt (tgt := 61) hx hb dX6_cutOf_55 (by decide) (fun c9 => ?_) (fun c9 => ?_)
  · replace hr := gIf_t c9 hr
    refine lv_iload hx hb dX6_cutOf_61 (lv_at hl 4 rfl) ?_
    refine lv_istore_n (lv' := [(2, .int z4), (0, .ref o), (1, .int z1), (3, .int z3), (4, .int z4), (5, .int z5)]) hx hb dX6_cutOf_63 rfl hl (by decide) rfl (fun ls hl => ?_)
    refine lv_iload hx hb dX6_cutOf_64 (lv_at hl 5 rfl) ?_
    refine lv_istore_n (lv' := [(3, .int z5), (2, .int z4), (0, .ref o), (1, .int z1), (4, .int z4), (5, .int z5)]) hx hb dX6_cutOf_66 rfl hl (by decide) rfl (fun ls hl => ?_)
    refine lv_iinc (v := (z4 + (1 : Int32))) (lv' := [(4, .int (z4 + (1 : Int32))), (3, .int z5), (2, .int z4), (0, .ref o), (1, .int z1), (5, .int z5)]) hx hb dX6_cutOf_67 hl (k := 4) rfl (g_inc (by decide)) (by decide) rfl (fun ls hl => ?_)
    refine lv_goto (tgt := 11) hx hb dX6_cutOf_70 (by decide) ?_
    exact Hr11 hr hI (lv_sub hl [3, 4, 2, 1, 0] rfl)
  · replace hr := gIf_f c9 hr
    refine lv_goto (tgt := 67) hx hb dX6_cutOf_58 (by decide) ?_
    refine lv_iinc (v := (z4 + (1 : Int32))) (lv' := [(4, .int (z4 + (1 : Int32))), (0, .ref o), (1, .int z1), (2, .int z2), (3, .int z3), (5, .int z5)]) hx hb dX6_cutOf_67 hl (k := 4) rfl (g_inc (by decide)) (by decide) rfl (fun ls hl => ?_)
    refine lv_goto (tgt := 11) hx hb dX6_cutOf_70 (by decide) ?_
    exact Hr11 hr hI (lv_sub hl [1, 2, 3, 4, 0] rfl)
set_option maxHeartbeats 2000000 in
theorem w_X6_cutOf_L11 {h : gH} {n : Nat} {o : Nat} {aM : (Nat → Int32)} {aS : (Nat → Int32)} {iU : Int32} {aB : (Nat → Int32)} {iL : Int32} {iE : Int32} {iP : Int32} {aR : (Nat → Int32)} {iW : Int32} {iT : Int32} {aT : (Nat → Int32)} {aC : (Nat → Int32)} {aH : (Nat → Int32)} {aE : (Nat → Int32)} {aQ : (Nat → Int32)} {iA : Int32} {iY : Int32} {iF : Int32} {iV : Int32} {aK : (Nat → Int32)} {z1 : Int32} {res : Int32} (X : gXX x base RX6 cX6_cutOf 6 (some .int) p l s m args meth c) : ∀ (k : Nat) {z2 : Int32} {z3 : Int32} {z4 : Int32} {H : Heap} {locs : List Loc} {ls : Array Slot}, gL3 (f_X6_cutOf_L11 z1 aM) k z2 z3 z4 = some res → gI x base s.heap (mH h o aM aS iU aB iL iE iP aR iW iT aT aC aH aE aQ iA iY iF iV aK) n H locs → lv_has ls 6 [(0, .ref o), (1, .int z1), (2, .int z2), (3, .int z3), (4, .int z4)] → W p l e rm_X6_cutOf s m args below meth c H locs 0 0 (MQ below (gQ x base (some (.int res)) (mH h o aM aS iU aB iL iE iP aR iW iT aT aC aH aE aQ iA iY iF iV aK) n) args s 0 0 (fun q => base ≤ q)) (F0 m 11 ls []) := by
  have hx := X.1
  have hb := X.2.1
  intro k
  induction k with
  | zero =>
    intros
    rename_i hr _ _
    exact nomatch (show (none : Option _) = some _ from hr)
  | succ k ih =>
    intro z2 z3 z4 H locs ls hr hI hl
    replace hr : f_X6_cutOf_L11 z1 aM (gL3 (f_X6_cutOf_L11 z1 aM) k) z2 z3 z4 = some res := hr
    unfold f_X6_cutOf_L11 at hr
    refine lv_iload hx hb dX6_cutOf_11 (lv_at hl 4 rfl) ?_
    refine lv_aload_n hx hb dX6_cutOf_13 rfl (lv_at hl 0 rfl) ?_
    refine m_get X hI mH_0 0 (by decide) q1652 rfl dX6_cutOf_14 ?_
    refine lv_iconst (v := 0) hx hb dX6_cutOf_17 (by decide) ?_
    refine m_iald X hI mH_aaM hr dX6_cutOf_18 (fun v3 hr => ?_)
    refine lv_icmp_gt (tgt := 73) hx hb dX6_cutOf_19 (by decide) (fun c9 => ?_) (fun c9 => ?_)
    · replace hr := gIf_t c9 hr
      refine lv_iload_n hx hb dX6_cutOf_73 rfl (lv_at hl 2 rfl) ?_
      have hr := gS_i hr
      subst hr
      exact g_iret X hI rfl (Nat.le_refl _) (Nat.le_refl _) dX6_cutOf_74
    · replace hr := gIf_f c9 hr
      refine lv_aload_n hx hb dX6_cutOf_22 rfl (lv_at hl 0 rfl) ?_
      refine lv_iload_n hx hb dX6_cutOf_23 rfl (lv_at hl 1 rfl) ?_
      obtain ⟨v5, hc4, hr⟩ := gB_i hr
      refine gRun_i (g_runV X hI (w_X6_totalOf hc4) (g_obj_s mH_0) rfl hl (lw_V q1836 q1838 qs69 q122 q1839) rfl rfl hd_X6_totalOf ⟨Nat.le_of_ble_eq_true rfl, Nat.le_of_ble_eq_true rfl⟩ (as := [.int z1]) (rest := []) rfl rfl (Nat.le_of_ble_eq_true rfl) ⟨(Nat.le_refl _), (Nat.le_refl _)⟩ dX6_cutOf_24) (fun H locs hI => ?_)
      refine lv_iconst (v := 2) hx hb dX6_cutOf_27 (by decide) ?_
      refine lv_aload_n hx hb dX6_cutOf_28 rfl (lv_at hl 0 rfl) ?_
      refine lv_iload_n hx hb dX6_cutOf_29 rfl (lv_at hl 1 rfl) ?_
      refine lv_iconst (v := 0) hx hb dX6_cutOf_30 (by decide) ?_
      refine lv_iload hx hb dX6_cutOf_31 (lv_at hl 4 rfl) ?_
      refine lv_iconst (v := 1) hx hb dX6_cutOf_33 (by decide) ?_
      refine lv_isub hx hb dX6_cutOf_34 ?_
      obtain ⟨v7, hc6, hr⟩ := gB_i hr
      refine gRun_i (g_runV X hI (w_X6_worthOf hc6) (g_obj_s mH_0) rfl hl (lw_V q1840 q1842 qs70 q122 q1843) rfl rfl hd_X6_worthOf ⟨Nat.le_of_ble_eq_true rfl, Nat.le_of_ble_eq_true rfl⟩ (as := [.int z1, .int (0 : Int32), .int (z4 - (1 : Int32))]) (rest := [.int (2 : Int32), .int v5]) rfl rfl (Nat.le_of_ble_eq_true rfl) ⟨(Nat.le_refl _), (Nat.le_refl _)⟩ dX6_cutOf_35) (fun H locs hI => ?_)
      refine lv_imul hx hb dX6_cutOf_38 ?_
      refine lv_isub hx hb dX6_cutOf_39 ?_
      refine lv_istore (lv' := [(5, .int (v5 - ((2 : Int32) * v7))), (0, .ref o), (1, .int z1), (2, .int z2), (3, .int z3), (4, .int z4)]) hx hb dX6_cutOf_40 hl (by decide) rfl (fun ls hl => ?_)
      refine lv_iload hx hb dX6_cutOf_42 (lv_at hl 0 rfl) ?_
      refine lv_if_ge (tgt := 52) hx hb dX6_cutOf_44 (by decide) (fun c9 => ?_) (fun c9 => ?_)
      · replace hr := gIf_t c9 hr
        exact w_X6_cutOf_J52 X ih hr hI (lv_sub hl [1, 2, 3, 4, 5, 0] rfl)
      · replace hr := gIf_f c9 hr
        refine lv_iload hx hb dX6_cutOf_47 (lv_at hl 0 rfl) ?_
        refine lv_ineg hx hb dX6_cutOf_49 ?_
        refine lv_istore (lv' := [(5, .int (-(v5 - ((2 : Int32) * v7)))), (0, .ref o), (1, .int z1), (2, .int z2), (3, .int z3), (4, .int z4)]) hx hb dX6_cutOf_50 hl (by decide) rfl (fun ls hl => ?_)
        exact w_X6_cutOf_J52 X ih hr hI (lv_sub hl [1, 2, 3, 4, 5, 0] rfl)
set_option maxHeartbeats 2000000 in
theorem w_X6_cutOf {l : Launch} {x : gV} {base : Nat} {z1 : Int32} {h : gH} {n : Nat} {o : Nat} {aM : (Nat → Int32)} {aS : (Nat → Int32)} {iU : Int32} {aB : (Nat → Int32)} {iL : Int32} {iE : Int32} {iP : Int32} {aR : (Nat → Int32)} {iW : Int32} {iT : Int32} {aT : (Nat → Int32)} {aC : (Nat → Int32)} {aH : (Nat → Int32)} {aE : (Nat → Int32)} {aQ : (Nat → Int32)} {iA : Int32} {iY : Int32} {iF : Int32} {iV : Int32} {aK : (Nat → Int32)} {res : Int32} (hr : f_X6_cutOf z1 aM = some res) : gM l yX6_cutOf (ws_ yX6_cutOf cX6_cutOf 6 (some .int)) rm_X6_cutOf x base [.ref o, .int z1] (mH h o aM aS iU aB iL iE iP aR iW iT aT aC aH aE aQ iA iY iF iV aK) n (some (.int res)) (mH h o aM aS iU aB iL iE iP aR iW iT aT aC aH aE aQ iA iY iF iV aK) n 0 0 := by
  refine g_met (cc := cX6_cutOf) (nL := 6) (ret := (some .int)) (by decide) (Nat.le_of_ble_eq_true rfl) (fun p e s m below meth c ls X hnm hl hI => ?_)
  have hl : lv_has ls 6 [(0, .ref o), (1, .int z1)] := hl
  have hx := X.1
  have hb := X.2.1
  unfold f_X6_cutOf at hr
  refine lv_iconst (v := 0) hx hb dX6_cutOf_0 (by decide) ?_
  refine lv_istore_n (lv' := [(2, .int (0 : Int32)), (0, .ref o), (1, .int z1)]) hx hb dX6_cutOf_1 rfl hl (by decide) rfl (fun ls hl => ?_)
  refine lv_aload_n hx hb dX6_cutOf_2 rfl (lv_at hl 1 rfl) ?_
  refine lv_iload_n hx hb dX6_cutOf_3 rfl (lv_at hl 2 rfl) ?_
  obtain ⟨v2, hc1, hr⟩ := gB_i hr
  refine gRun_i (g_runV X hI (w_X6_totalOf hc1) (g_obj_s mH_0) rfl hl (lw_V q1836 q1838 qs69 q122 q1839) rfl rfl hd_X6_totalOf ⟨Nat.le_of_ble_eq_true rfl, Nat.le_of_ble_eq_true rfl⟩ (as := [.int z1]) (rest := []) rfl rfl (Nat.le_of_ble_eq_true rfl) ⟨(Nat.le_refl _), (Nat.le_refl _)⟩ dX6_cutOf_4) (fun H locs hI => ?_)
  refine lv_istore_n (lv' := [(3, .int v2), (2, .int (0 : Int32)), (0, .ref o), (1, .int z1)]) hx hb dX6_cutOf_7 rfl hl (by decide) rfl (fun ls hl => ?_)
  refine lv_iconst (v := 1) hx hb dX6_cutOf_8 (by decide) ?_
  refine lv_istore (lv' := [(4, .int (1 : Int32)), (3, .int v2), (2, .int (0 : Int32)), (0, .ref o), (1, .int z1)]) hx hb dX6_cutOf_9 hl (by decide) rfl (fun ls hl => ?_)
  exact w_X6_cutOf_L11 X gN hr hI (lv_sub hl [3, 4, 2, 1, 0] rfl)
abbrev rm_X6_divide : Room := { frames := 4, cells := 0, slots := 0, locals := 93 }
theorem hd_X6_divide : yX6_divide.cls = RX6 ∧ yX6_divide.cls ≠ "java/lang/invoke/MethodHandle" ∧ yX6_divide.cls ≠ "java/lang/invoke/VarHandle" ∧ (parseMethodDescriptor yX6_divide.desc).map (fun d => d.parameters.length) = some 2 := by decide +kernel
set_option maxHeartbeats 2000000 in
theorem w_X6_divide_J61 {h : gH} {n : Nat} {o : Nat} {aM : (Nat → Int32)} {aS : (Nat → Int32)} {iU : Int32} {aB : (Nat → Int32)} {iL : Int32} {iE : Int32} {iP : Int32} {aR : (Nat → Int32)} {iW : Int32} {iT : Int32} {aT : (Nat → Int32)} {aC : (Nat → Int32)} {aH : (Nat → Int32)} {aE : (Nat → Int32)} {aQ : (Nat → Int32)} {iA : Int32} {iY : Int32} {iF : Int32} {iV : Int32} {aK : (Nat → Int32)} {z3 : Int32} {s1 : Int32} {res : Int32 × (Nat → Int32)} (X : gXX x base RX6 cX6_divide 5 (some .int) p l s m args meth c) {H : Heap} {locs : List Loc} {ls : Array Slot} (hr : f_X6_divide_J61 z3 s1 aM = some res) (hI : gI x base s.heap (mH h o aM aS iU aB iL iE iP aR iW iT aT aC aH aE aQ iA iY iF iV aK) n H locs) (hl : lv_has ls 5 [(0, .ref o), (3, .int z3)]) : W p l e rm_X6_divide s m args below meth c H locs 0 0 (MQ below (gQ x base (some (.int res.1)) (mH h o res.2 aS iU aB iL iE iP aR iW iT aT aC aH aE aQ iA iY iF iV aK) n) args s 0 0 (fun q => base ≤ q)) (F0 m 61 ls [.int s1, .ref o]) := by
  have hx := X.1
  have hb := X.2.1
  unfold f_X6_divide_J61 at hr
  refine lv_iload_n hx hb dX6_divide_61 rfl (lv_at hl 1 rfl) ?_
  refine lv_aload_n hx hb dX6_divide_62 rfl (lv_at hl 0 rfl) ?_
  refine m_get X hI mH_0 0 (by decide) q1652 rfl dX6_divide_63 ?_
  refine lv_iconst (v := 0) hx hb dX6_divide_66 (by decide) ?_
  refine m_iald X hI mH_aaM hr dX6_divide_67 (fun v9 hr => ?_)
  refine lv_iconst (v := 1) hx hb dX6_divide_68 (by decide) ?_
  refine lv_isub hx hb dX6_divide_69 ?_
  obtain ⟨aM_11, hc10, hr⟩ := gB_i hr
  refine gRun_v (g_runV X hI (w_X6_own hc10) (g_obj_s mH_0) rfl hl (lw_V q1820 q1822 qs65 q122 q1823) rfl rfl hd_X6_own ⟨Nat.le_of_ble_eq_true rfl, Nat.le_of_ble_eq_true rfl⟩ (as := [.int s1, .int z3, .int (v9 - (1 : Int32))]) (rest := []) rfl rfl (Nat.le_of_ble_eq_true rfl) ⟨(Nat.le_refl _), (Nat.le_refl _)⟩ dX6_divide_70) (fun H locs hI => ?_)
  refine lv_iload_n hx hb dX6_divide_73 rfl (lv_at hl 1 rfl) ?_
  have hr := gS_i hr
  subst hr
  exact g_iret X hI rfl (Nat.le_refl _) (Nat.le_refl _) dX6_divide_74
set_option maxHeartbeats 2000000 in
theorem w_X6_divide_J43 {h : gH} {n : Nat} {o : Nat} {aM : (Nat → Int32)} {aS : (Nat → Int32)} {iU : Int32} {aB : (Nat → Int32)} {iL : Int32} {iE : Int32} {iP : Int32} {aR : (Nat → Int32)} {iW : Int32} {iT : Int32} {aT : (Nat → Int32)} {aC : (Nat → Int32)} {aH : (Nat → Int32)} {aE : (Nat → Int32)} {aQ : (Nat → Int32)} {iA : Int32} {iY : Int32} {iF : Int32} {iV : Int32} {aK : (Nat → Int32)} {z1 : Int32} {z2 : Int32} {z3 : Int32} {z4 : Int32} {s1 : Int32} {res : Int32 × (Nat → Int32)} (X : gXX x base RX6 cX6_divide 5 (some .int) p l s m args meth c) {H : Heap} {locs : List Loc} {ls : Array Slot} (hr : f_X6_divide_J43 z1 z2 z3 z4 s1 aM = some res) (hI : gI x base s.heap (mH h o aM aS iU aB iL iE iP aR iW iT aT aC aH aE aQ iA iY iF iV aK) n H locs) (hl : lv_has ls 5 [(0, .ref o), (1, .int z1), (2, .int z2), (3, .int z3), (4, .int z4)]) : W p l e rm_X6_divide s m args below meth c H locs 0 0 (MQ below (gQ x base (some (.int res.1)) (mH h o res.2 aS iU aB iL iE iP aR iW iT aT aC aH aE aQ iA iY iF iV aK) n) args s 0 0 (fun q => base ≤ q)) (F0 m 43 ls [.int s1, .ref o]) := by
  have hx := X.1
  have hb := X.2.1
  unfold f_X6_divide_J43 at hr
  refine lv_iconst (v := 0) hx hb dX6_divide_43 (by decide) ?_
  refine lv_iload_n hx hb dX6_divide_44 rfl (lv_at hl 3 rfl) ?_
  refine lv_iconst (v := 1) hx hb dX6_divide_45 (by decide) ?_
  refine lv_isub hx hb dX6_divide_46 ?_
  obtain ⟨aM_8, hc7, hr⟩ := gB_i hr
  refine gRun_v (g_runV X hI (w_X6_own hc7) (g_obj_s mH_0) rfl hl (lw_V q1820 q1822 qs65 q122 q1823) rfl rfl hd_X6_own ⟨Nat.le_of_ble_eq_true rfl, Nat.le_of_ble_eq_true rfl⟩ (as := [.int s1, .int (0 : Int32), .int (z3 - (1 : Int32))]) (rest := []) rfl rfl (Nat.le_of_ble_eq_true rfl) ⟨(Nat.le_refl _), (Nat.le_refl _)⟩ dX6_divide_47) (fun H locs hI => ?_)
  refine lv_aload_n hx hb dX6_divide_50 rfl (lv_at hl 0 rfl) ?_
  refine lv_iload hx hb dX6_divide_51 (lv_at hl 4 rfl) ?_
  refine lv_if_eq (tgt := 60) hx hb dX6_divide_53 (by decide) (fun c9 => ?_) (fun c9 => ?_)
  · replace hr := gIf_t c9 hr
    refine lv_iload_n hx hb dX6_divide_60 rfl (lv_at hl 2 rfl) ?_
    exact w_X6_divide_J61 X hr hI (lv_sub hl [0, 3] rfl)
  · replace hr := gIf_f c9 hr
    refine lv_iload_n hx hb dX6_divide_56 rfl (lv_at hl 1 rfl) ?_
    refine lv_goto (tgt := 61) hx hb dX6_divide_57 (by decide) ?_
    exact w_X6_divide_J61 X hr hI (lv_sub hl [0, 3] rfl)
set_option maxHeartbeats 2000000 in
theorem w_X6_divide_J30 {h : gH} {n : Nat} {o : Nat} {aM : (Nat → Int32)} {aS : (Nat → Int32)} {iU : Int32} {aB : (Nat → Int32)} {iL : Int32} {iE : Int32} {iP : Int32} {aR : (Nat → Int32)} {iW : Int32} {iT : Int32} {aT : (Nat → Int32)} {aC : (Nat → Int32)} {aH : (Nat → Int32)} {aE : (Nat → Int32)} {aQ : (Nat → Int32)} {iA : Int32} {iY : Int32} {iF : Int32} {iV : Int32} {aK : (Nat → Int32)} {z1 : Int32} {z2 : Int32} {z3 : Int32} {s0 : Int32} {res : Int32 × (Nat → Int32)} (X : gXX x base RX6 cX6_divide 5 (some .int) p l s m args meth c) {H : Heap} {locs : List Loc} {ls : Array Slot} (hr : f_X6_divide_J30 z1 z2 z3 s0 aM = some res) (hI : gI x base s.heap (mH h o aM aS iU aB iL iE iP aR iW iT aT aC aH aE aQ iA iY iF iV aK) n H locs) (hl : lv_has ls 5 [(0, .ref o), (1, .int z1), (2, .int z2), (3, .int z3)]) : W p l e rm_X6_divide s m args below meth c H locs 0 0 (MQ below (gQ x base (some (.int res.1)) (mH h o res.2 aS iU aB iL iE iP aR iW iT aT aC aH aE aQ iA iY iF iV aK) n) args s 0 0 (fun q => base ≤ q)) (F0 m 30 ls [.int s0]) := by
  have hx := X.1
  have hb := X.2.1
  unfold f_X6_divide_J30 at hr
  refine lv_istore (lv' := [(4, .int s0), (0, .ref o), (1, .int z1), (2, .int z2), (3, .int z3)]) hx hb dX6_divide_30 hl (by decide) rfl (fun ls hl => ?_)
  refine lv_aload_n hx hb dX6_divide_32 rfl (lv_at hl 1 rfl) ?_
  refine lv_iload hx hb dX6_divide_33 (lv_at hl 0 rfl) ?_
  refine lv_if_eq (tgt := 42) hx hb dX6_divide_35 (by decide) (fun c9 => ?_) (fun c9 => ?_)
  · replace hr := gIf_t c9 hr
    refine lv_iload_n hx hb dX6_divide_42 rfl (lv_at hl 2 rfl) ?_
    exact w_X6_divide_J43 X hr hI (lv_sub hl [1, 2, 3, 4, 0] rfl)
  · replace hr := gIf_f c9 hr
    refine lv_iload_n hx hb dX6_divide_38 rfl (lv_at hl 3 rfl) ?_
    refine lv_goto (tgt := 43) hx hb dX6_divide_39 (by decide) ?_
    exact w_X6_divide_J43 X hr hI (lv_sub hl [1, 2, 3, 4, 0] rfl)
set_option maxHeartbeats 2000000 in
theorem w_X6_divide {l : Launch} {x : gV} {base : Nat} {z1 : Int32} {z2 : Int32} {h : gH} {n : Nat} {o : Nat} {aM : (Nat → Int32)} {aS : (Nat → Int32)} {iU : Int32} {aB : (Nat → Int32)} {iL : Int32} {iE : Int32} {iP : Int32} {aR : (Nat → Int32)} {iW : Int32} {iT : Int32} {aT : (Nat → Int32)} {aC : (Nat → Int32)} {aH : (Nat → Int32)} {aE : (Nat → Int32)} {aQ : (Nat → Int32)} {iA : Int32} {iY : Int32} {iF : Int32} {iV : Int32} {aK : (Nat → Int32)} {res : Int32 × (Nat → Int32)} (hr : f_X6_divide z1 z2 aM = some res) : gM l yX6_divide (ws_ yX6_divide cX6_divide 5 (some .int)) rm_X6_divide x base [.ref o, .int z1, .int z2] (mH h o aM aS iU aB iL iE iP aR iW iT aT aC aH aE aQ iA iY iF iV aK) n (some (.int res.1)) (mH h o res.2 aS iU aB iL iE iP aR iW iT aT aC aH aE aQ iA iY iF iV aK) n 0 0 := by
  refine g_met (cc := cX6_divide) (nL := 5) (ret := (some .int)) (by decide) (Nat.le_of_ble_eq_true rfl) (fun p e s m below meth c ls X hnm hl hI => ?_)
  have hl : lv_has ls 5 [(0, .ref o), (1, .int z1), (2, .int z2)] := hl
  have hx := X.1
  have hb := X.2.1
  unfold f_X6_divide at hr
  refine lv_aload_n hx hb dX6_divide_0 rfl (lv_at hl 0 rfl) ?_
  refine lv_iload_n hx hb dX6_divide_1 rfl (lv_at hl 1 rfl) ?_
  obtain ⟨v2, hc1, hr⟩ := gB_i hr
  refine gRun_i (g_runV X hI (w_X6_cutOf hc1) (g_obj_s mH_0) rfl hl (lw_V q1832 q1834 qs68 q122 q1835) rfl rfl hd_X6_cutOf ⟨Nat.le_of_ble_eq_true rfl, Nat.le_of_ble_eq_true rfl⟩ (as := [.int z1]) (rest := []) rfl rfl (Nat.le_of_ble_eq_true rfl) ⟨(Nat.le_refl _), (Nat.le_refl _)⟩ dX6_divide_2) (fun H locs hI => ?_)
  refine lv_istore_n (lv' := [(3, .int v2), (0, .ref o), (1, .int z1), (2, .int z2)]) hx hb dX6_divide_5 rfl hl (by decide) rfl (fun ls hl => ?_)
  refine lv_iconst (v := 2) hx hb dX6_divide_6 (by decide) ?_
  refine lv_aload_n hx hb dX6_divide_7 rfl (lv_at hl 1 rfl) ?_
  refine lv_iload_n hx hb dX6_divide_8 rfl (lv_at hl 3 rfl) ?_
  refine lv_iconst (v := 0) hx hb dX6_divide_9 (by decide) ?_
  refine lv_iload_n hx hb dX6_divide_10 rfl (lv_at hl 0 rfl) ?_
  refine lv_iconst (v := 1) hx hb dX6_divide_11 (by decide) ?_
  refine lv_isub hx hb dX6_divide_12 ?_
  obtain ⟨v4, hc3, hr⟩ := gB_i hr
  refine gRun_i (g_runV X hI (w_X6_worthOf hc3) (g_obj_s mH_0) rfl hl (lw_V q1840 q1842 qs70 q122 q1843) rfl rfl hd_X6_worthOf ⟨Nat.le_of_ble_eq_true rfl, Nat.le_of_ble_eq_true rfl⟩ (as := [.int z2, .int (0 : Int32), .int (v2 - (1 : Int32))]) (rest := [.int (2 : Int32)]) rfl rfl (Nat.le_of_ble_eq_true rfl) ⟨(Nat.le_refl _), (Nat.le_refl _)⟩ dX6_divide_13) (fun H locs hI => ?_)
  refine lv_imul hx hb dX6_divide_16 ?_
  refine lv_aload_n hx hb dX6_divide_17 rfl (lv_at hl 1 rfl) ?_
  refine lv_iload_n hx hb dX6_divide_18 rfl (lv_at hl 3 rfl) ?_
  obtain ⟨v6, hc5, hr⟩ := gB_i hr
  refine gRun_i (g_runV X hI (w_X6_totalOf hc5) (g_obj_s mH_0) rfl hl (lw_V q1836 q1838 qs69 q122 q1839) rfl rfl hd_X6_totalOf ⟨Nat.le_of_ble_eq_true rfl, Nat.le_of_ble_eq_true rfl⟩ (as := [.int z2]) (rest := [.int ((2 : Int32) * v4)]) rfl rfl (Nat.le_of_ble_eq_true rfl) ⟨(Nat.le_refl _), (Nat.le_refl _)⟩ dX6_divide_19) (fun H locs hI => ?_)
  refine lv_icmp_lt (tgt := 29) hx hb dX6_divide_22 (by decide) (fun c9 => ?_) (fun c9 => ?_)
  · replace hr := gIf_t c9 hr
    refine lv_iconst (v := 0) hx hb dX6_divide_29 (by decide) ?_
    exact w_X6_divide_J30 X hr hI (lv_sub hl [1, 2, 3, 0] rfl)
  · replace hr := gIf_f c9 hr
    refine lv_iconst (v := 1) hx hb dX6_divide_25 (by decide) ?_
    refine lv_goto (tgt := 30) hx hb dX6_divide_26 (by decide) ?_
    exact w_X6_divide_J30 X hr hI (lv_sub hl [1, 2, 3, 0] rfl)
abbrev rm_X6_markOf : Room := { frames := 2, cells := 0, slots := 0, locals := 47 }
theorem hd_X6_markOf : yX6_markOf.cls = RX6 ∧ yX6_markOf.cls ≠ "java/lang/invoke/MethodHandle" ∧ yX6_markOf.cls ≠ "java/lang/invoke/VarHandle" ∧ (parseMethodDescriptor yX6_markOf.desc).map (fun d => d.parameters.length) = some 3 := by decide +kernel
set_option maxHeartbeats 2000000 in
theorem w_X6_markOf_L27 {h : gH} {n : Nat} {o : Nat} {aM : (Nat → Int32)} {aS : (Nat → Int32)} {iU : Int32} {aB : (Nat → Int32)} {iL : Int32} {iE : Int32} {iP : Int32} {aR : (Nat → Int32)} {iW : Int32} {iT : Int32} {aT : (Nat → Int32)} {aC : (Nat → Int32)} {aH : (Nat → Int32)} {aE : (Nat → Int32)} {aQ : (Nat → Int32)} {iA : Int32} {iY : Int32} {iF : Int32} {iV : Int32} {aK : (Nat → Int32)} {z1 : Int32} {z3 : Int32} {z4 : Int32} {res : Int32} (X : gXX x base RX6 cX6_markOf 7 (some .int) p l s m args meth c) : ∀ (k : Nat) {z5 : Int32} {z6 : Int32} {H : Heap} {locs : List Loc} {ls : Array Slot}, gL2 (f_X6_markOf_L27 z1 z3 z4 aM) k z5 z6 = some res → gI x base s.heap (mH h o aM aS iU aB iL iE iP aR iW iT aT aC aH aE aQ iA iY iF iV aK) n H locs → lv_has ls 7 [(0, .ref o), (1, .int z1), (3, .int z3), (4, .int z4), (5, .int z5), (6, .int z6)] → W p l e rm_X6_markOf s m args below meth c H locs 0 0 (MQ below (gQ x base (some (.int res)) (mH h o aM aS iU aB iL iE iP aR iW iT aT aC aH aE aQ iA iY iF iV aK) n) args s 0 0 (fun q => base ≤ q)) (F0 m 27 ls []) := by
  have hx := X.1
  have hb := X.2.1
  intro k
  induction k with
  | zero =>
    intros
    rename_i hr _ _
    exact nomatch (show (none : Option _) = some _ from hr)
  | succ k ih =>
    intro z5 z6 H locs ls hr hI hl
    replace hr : f_X6_markOf_L27 z1 z3 z4 aM (gL2 (f_X6_markOf_L27 z1 z3 z4 aM) k) z5 z6 = some res := hr
    unfold f_X6_markOf_L27 at hr
    refine lv_iload hx hb dX6_markOf_27 (lv_at hl 5 rfl) ?_
    refine lv_iload_n hx hb dX6_markOf_29 rfl (lv_at hl 2 rfl) ?_
    refine lv_imul hx hb dX6_markOf_30 ?_
    refine lv_iload hx hb dX6_markOf_31 (lv_at hl 3 rfl) ?_
    refine lv_icmp_ge (tgt := 54) hx hb dX6_markOf_33 (by decide) (fun c9 => ?_) (fun c9 => ?_)
    · replace hr := gIf_t c9 hr
      refine lv_iload hx hb dX6_markOf_54 (lv_at hl 4 rfl) ?_
      have hr := gS_i hr
      subst hr
      exact g_iret X hI rfl (Nat.le_refl _) (Nat.le_refl _) dX6_markOf_56
    · replace hr := gIf_f c9 hr
      refine lv_iinc (v := (z5 + (1 : Int32))) (lv' := [(5, .int (z5 + (1 : Int32))), (0, .ref o), (1, .int z1), (3, .int z3), (4, .int z4), (6, .int z6)]) hx hb dX6_markOf_36 hl (k := 4) rfl (g_inc (by decide)) (by decide) rfl (fun ls hl => ?_)
      refine lv_iload hx hb dX6_markOf_39 (lv_at hl 5 rfl) ?_
      refine lv_aload_n hx hb dX6_markOf_41 rfl (lv_at hl 1 rfl) ?_
      refine lv_iload_n hx hb dX6_markOf_42 rfl (lv_at hl 2 rfl) ?_
      refine lv_iload hx hb dX6_markOf_43 (lv_at hl 0 rfl) ?_
      obtain ⟨v7, hc6, hr⟩ := gB_i hr
      refine gRun_i (g_runV X hI (w_X6_valueOf hc6) (g_obj_s mH_0) rfl hl (lw_V q1808 q1810 qs62 q122 q1811) rfl rfl hd_X6_valueOf ⟨Nat.le_of_ble_eq_true rfl, Nat.le_of_ble_eq_true rfl⟩ (as := [.int z1, .int (z5 + (1 : Int32))]) (rest := [.int z6]) rfl rfl (Nat.le_of_ble_eq_true rfl) ⟨(Nat.le_refl _), (Nat.le_refl _)⟩ dX6_markOf_45) (fun H locs hI => ?_)
      refine lv_iadd hx hb dX6_markOf_48 ?_
      refine lv_istore (lv' := [(6, .int (z6 + v7)), (5, .int (z5 + (1 : Int32))), (0, .ref o), (1, .int z1), (3, .int z3), (4, .int z4)]) hx hb dX6_markOf_49 hl (by decide) rfl (fun ls hl => ?_)
      refine lv_goto (tgt := 27) hx hb dX6_markOf_51 (by decide) ?_
      exact ih hr hI (lv_sub hl [2, 3, 4, 5, 1, 0] rfl)
set_option maxHeartbeats 2000000 in
theorem w_X6_markOf {l : Launch} {x : gV} {base : Nat} {z1 : Int32} {z2 : Int32} {z3 : Int32} {h : gH} {n : Nat} {o : Nat} {aM : (Nat → Int32)} {aS : (Nat → Int32)} {iU : Int32} {aB : (Nat → Int32)} {iL : Int32} {iE : Int32} {iP : Int32} {aR : (Nat → Int32)} {iW : Int32} {iT : Int32} {aT : (Nat → Int32)} {aC : (Nat → Int32)} {aH : (Nat → Int32)} {aE : (Nat → Int32)} {aQ : (Nat → Int32)} {iA : Int32} {iY : Int32} {iF : Int32} {iV : Int32} {aK : (Nat → Int32)} {res : Int32} (hr : f_X6_markOf z1 z2 z3 aM = some res) : gM l yX6_markOf (ws_ yX6_markOf cX6_markOf 7 (some .int)) rm_X6_markOf x base [.ref o, .int z1, .int z2, .int z3] (mH h o aM aS iU aB iL iE iP aR iW iT aT aC aH aE aQ iA iY iF iV aK) n (some (.int res)) (mH h o aM aS iU aB iL iE iP aR iW iT aT aC aH aE aQ iA iY iF iV aK) n 0 0 := by
  refine g_met (cc := cX6_markOf) (nL := 7) (ret := (some .int)) (by decide) (Nat.le_of_ble_eq_true rfl) (fun p e s m below meth c ls X hnm hl hI => ?_)
  have hl : lv_has ls 7 [(0, .ref o), (1, .int z1), (2, .int z2), (3, .int z3)] := hl
  have hx := X.1
  have hb := X.2.1
  unfold f_X6_markOf at hr
  refine lv_aload_n hx hb dX6_markOf_0 rfl (lv_at hl 0 rfl) ?_
  refine lv_iload_n hx hb dX6_markOf_1 rfl (lv_at hl 1 rfl) ?_
  refine lv_iload_n hx hb dX6_markOf_2 rfl (lv_at hl 2 rfl) ?_
  refine lv_aload_n hx hb dX6_markOf_3 rfl (lv_at hl 0 rfl) ?_
  refine m_get X hI mH_0 0 (by decide) q1652 rfl dX6_markOf_4 ?_
  refine lv_iconst (v := 0) hx hb dX6_markOf_7 (by decide) ?_
  refine m_iald X hI mH_aaM hr dX6_markOf_8 (fun v1 hr => ?_)
  refine lv_iconst (v := 1) hx hb dX6_markOf_9 (by decide) ?_
  refine lv_isub hx hb dX6_markOf_10 ?_
  obtain ⟨v3, hc2, hr⟩ := gB_i hr
  refine gRun_i (g_runV X hI (w_X6_worthOf hc2) (g_obj_s mH_0) rfl hl (lw_V q1840 q1842 qs70 q122 q1843) rfl rfl hd_X6_worthOf ⟨Nat.le_of_ble_eq_true rfl, Nat.le_of_ble_eq_true rfl⟩ (as := [.int z1, .int z2, .int (v1 - (1 : Int32))]) (rest := []) rfl rfl (Nat.le_of_ble_eq_true rfl) ⟨(Nat.le_refl _), (Nat.le_refl _)⟩ dX6_markOf_11) (fun H locs hI => ?_)
  refine lv_istore (lv' := [(4, .int v3), (0, .ref o), (1, .int z1), (2, .int z2), (3, .int z3)]) hx hb dX6_markOf_14 hl (by decide) rfl (fun ls hl => ?_)
  refine lv_iload_n hx hb dX6_markOf_16 rfl (lv_at hl 3 rfl) ?_
  refine lv_istore (lv' := [(5, .int z2), (4, .int v3), (0, .ref o), (1, .int z1), (2, .int z2), (3, .int z3)]) hx hb dX6_markOf_17 hl (by decide) rfl (fun ls hl => ?_)
  refine lv_aload_n hx hb dX6_markOf_19 rfl (lv_at hl 2 rfl) ?_
  refine lv_iload_n hx hb dX6_markOf_20 rfl (lv_at hl 3 rfl) ?_
  refine lv_iload_n hx hb dX6_markOf_21 rfl (lv_at hl 4 rfl) ?_
  obtain ⟨v5, hc4, hr⟩ := gB_i hr
  refine gRun_i (g_runV X hI (w_X6_valueOf hc4) (g_obj_s mH_0) rfl hl (lw_V q1808 q1810 qs62 q122 q1811) rfl rfl hd_X6_valueOf ⟨Nat.le_of_ble_eq_true rfl, Nat.le_of_ble_eq_true rfl⟩ (as := [.int z1, .int z2]) (rest := []) rfl rfl (Nat.le_of_ble_eq_true rfl) ⟨(Nat.le_refl _), (Nat.le_refl _)⟩ dX6_markOf_22) (fun H locs hI => ?_)
  refine lv_istore (lv' := [(6, .int v5), (5, .int z2), (4, .int v3), (0, .ref o), (1, .int z1), (2, .int z2), (3, .int z3)]) hx hb dX6_markOf_25 hl (by decide) rfl (fun ls hl => ?_)
  exact w_X6_markOf_L27 X gN hr hI (lv_sub hl [3, 4, 6, 2, 1, 0] rfl)
abbrev rm_X6_isContent : Room := { frames := 3, cells := 0, slots := 0, locals := 68 }
theorem hd_X6_isContent : yX6_isContent.cls = RX6 ∧ yX6_isContent.cls ≠ "java/lang/invoke/MethodHandle" ∧ yX6_isContent.cls ≠ "java/lang/invoke/VarHandle" ∧ (parseMethodDescriptor yX6_isContent.desc).map (fun d => d.parameters.length) = some 1 := by decide +kernel
set_option maxHeartbeats 2000000 in
theorem w_X6_isContent {l : Launch} {x : gV} {base : Nat} {z1 : Int32} {h : gH} {n : Nat} {o : Nat} {aM : (Nat → Int32)} {aS : (Nat → Int32)} {iU : Int32} {aB : (Nat → Int32)} {iL : Int32} {iE : Int32} {iP : Int32} {aR : (Nat → Int32)} {iW : Int32} {iT : Int32} {aT : (Nat → Int32)} {aC : (Nat → Int32)} {aH : (Nat → Int32)} {aE : (Nat → Int32)} {aQ : (Nat → Int32)} {iA : Int32} {iY : Int32} {iF : Int32} {iV : Int32} {aK : (Nat → Int32)} {res : Int32} (hr : f_X6_isContent z1 aM = some res) : gM l yX6_isContent (ws_ yX6_isContent cX6_isContent 2 (some .boolean)) rm_X6_isContent x base [.ref o, .int z1] (mH h o aM aS iU aB iL iE iP aR iW iT aT aC aH aE aQ iA iY iF iV aK) n (some (.int res)) (mH h o aM aS iU aB iL iE iP aR iW iT aT aC aH aE aQ iA iY iF iV aK) n 0 0 := by
  refine g_met (cc := cX6_isContent) (nL := 2) (ret := (some .boolean)) (by decide) (Nat.le_of_ble_eq_true rfl) (fun p e s m below meth c ls X hnm hl hI => ?_)
  have hl : lv_has ls 2 [(0, .ref o), (1, .int z1)] := hl
  have hx := X.1
  have hb := X.2.1
  unfold f_X6_isContent at hr
  refine lv_aload_n hx hb dX6_isContent_0 rfl (lv_at hl 0 rfl) ?_
  refine lv_iload_n hx hb dX6_isContent_1 rfl (lv_at hl 1 rfl) ?_
  obtain ⟨v2, hc1, hr⟩ := gB_i hr
  refine gRun_i (g_runV X hI (w_X6_welfareOf hc1) (g_obj_s mH_0) rfl hl (lw_V q1812 q1814 qs63 q122 q1815) rfl rfl hd_X6_welfareOf ⟨Nat.le_of_ble_eq_true rfl, Nat.le_of_ble_eq_true rfl⟩ (as := [.int z1]) (rest := []) rfl rfl (Nat.le_of_ble_eq_true rfl) ⟨(Nat.le_refl _), (Nat.le_refl _)⟩ dX6_isContent_2) (fun H locs hI => ?_)
  refine lv_aload_n hx hb dX6_isContent_5 rfl (lv_at hl 0 rfl) ?_
  refine m_get X hI mH_0 0 (by decide) q1652 rfl dX6_isContent_6 ?_
  refine lv_iconst (v := 1) hx hb dX6_isContent_9 (by decide) ?_
  refine m_iald X hI mH_aaM hr dX6_isContent_10 (fun v3 hr => ?_)
  refine lv_imul hx hb dX6_isContent_11 ?_
  refine lv_aload_n hx hb dX6_isContent_12 rfl (lv_at hl 0 rfl) ?_
  refine lv_iload_n hx hb dX6_isContent_13 rfl (lv_at hl 1 rfl) ?_
  obtain ⟨v5, hc4, hr⟩ := gB_i hr
  refine gRun_i (g_runV X hI (w_X6_totalOf hc4) (g_obj_s mH_0) rfl hl (lw_V q1836 q1838 qs69 q122 q1839) rfl rfl hd_X6_totalOf ⟨Nat.le_of_ble_eq_true rfl, Nat.le_of_ble_eq_true rfl⟩ (as := [.int z1]) (rest := [.int (v2 * v3)]) rfl rfl (Nat.le_of_ble_eq_true rfl) ⟨(Nat.le_refl _), (Nat.le_refl _)⟩ dX6_isContent_14) (fun H locs hI => ?_)
  refine lv_icmp_lt (tgt := 24) hx hb dX6_isContent_17 (by decide) (fun c9 => ?_) (fun c9 => ?_)
  · replace hr := gIf_t c9 hr
    refine lv_iconst (v := 0) hx hb dX6_isContent_24 (by decide) ?_
    have hr := gS_i hr
    subst hr
    exact g_iret X hI (g_narZ (Or.inl rfl)) (Nat.le_refl _) (Nat.le_refl _) dX6_isContent_25
  · replace hr := gIf_f c9 hr
    refine lv_iconst (v := 1) hx hb dX6_isContent_20 (by decide) ?_
    refine lv_goto (tgt := 25) hx hb dX6_isContent_21 (by decide) ?_
    have hr := gS_i hr
    subst hr
    exact g_iret X hI (g_narZ (Or.inr rfl)) (Nat.le_refl _) (Nat.le_refl _) dX6_isContent_25
abbrev rm_X6_contentCount : Room := { frames := 4, cells := 0, slots := 0, locals := 89 }
theorem hd_X6_contentCount : yX6_contentCount.cls = RX6 ∧ yX6_contentCount.cls ≠ "java/lang/invoke/MethodHandle" ∧ yX6_contentCount.cls ≠ "java/lang/invoke/VarHandle" ∧ (parseMethodDescriptor yX6_contentCount.desc).map (fun d => d.parameters.length) = some 0 := by decide +kernel
set_option maxHeartbeats 2000000 in
theorem w_X6_contentCount_L4 {h : gH} {n : Nat} {o : Nat} {aM : (Nat → Int32)} {aS : (Nat → Int32)} {iU : Int32} {aB : (Nat → Int32)} {iL : Int32} {iE : Int32} {iP : Int32} {aR : (Nat → Int32)} {iW : Int32} {iT : Int32} {aT : (Nat → Int32)} {aC : (Nat → Int32)} {aH : (Nat → Int32)} {aE : (Nat → Int32)} {aQ : (Nat → Int32)} {iA : Int32} {iY : Int32} {iF : Int32} {iV : Int32} {aK : (Nat → Int32)} {res : Int32} (X : gXX x base RX6 cX6_contentCount 3 (some .int) p l s m args meth c) : ∀ (k : Nat) {z1 : Int32} {z2 : Int32} {H : Heap} {locs : List Loc} {ls : Array Slot}, gL2 (f_X6_contentCount_L4 aM) k z1 z2 = some res → gI x base s.heap (mH h o aM aS iU aB iL iE iP aR iW iT aT aC aH aE aQ iA iY iF iV aK) n H locs → lv_has ls 3 [(0, .ref o), (1, .int z1), (2, .int z2)] → W p l e rm_X6_contentCount s m args below meth c H locs 0 0 (MQ below (gQ x base (some (.int res)) (mH h o aM aS iU aB iL iE iP aR iW iT aT aC aH aE aQ iA iY iF iV aK) n) args s 0 0 (fun q => base ≤ q)) (F0 m 4 ls []) := by
  have hx := X.1
  have hb := X.2.1
  intro k
  induction k with
  | zero =>
    intros
    rename_i hr _ _
    exact nomatch (show (none : Option _) = some _ from hr)
  | succ k ih =>
    intro z1 z2 H locs ls hr hI hl
    replace hr : f_X6_contentCount_L4 aM (gL2 (f_X6_contentCount_L4 aM) k) z1 z2 = some res := hr
    unfold f_X6_contentCount_L4 at hr
    refine lv_iload_n hx hb dX6_contentCount_4 rfl (lv_at hl 2 rfl) ?_
    refine lv_aload_n hx hb dX6_contentCount_5 rfl (lv_at hl 0 rfl) ?_
    refine m_get X hI mH_0 0 (by decide) q1652 rfl dX6_contentCount_6 ?_
    refine lv_iconst (v := 1) hx hb dX6_contentCount_9 (by decide) ?_
    refine m_iald X hI mH_aaM hr dX6_contentCount_10 (fun v1 hr => ?_)
    refine lv_icmp_ge (tgt := 36) hx hb dX6_contentCount_11 (by decide) (fun c9 => ?_) (fun c9 => ?_)
    · replace hr := gIf_t c9 hr
      refine lv_iload_n hx hb dX6_contentCount_36 rfl (lv_at hl 1 rfl) ?_
      have hr := gS_i hr
      subst hr
      exact g_iret X hI rfl (Nat.le_refl _) (Nat.le_refl _) dX6_contentCount_37
    · replace hr := gIf_f c9 hr
      refine lv_iload_n hx hb dX6_contentCount_14 rfl (lv_at hl 1 rfl) ?_
      refine lv_aload_n hx hb dX6_contentCount_15 rfl (lv_at hl 0 rfl) ?_
      refine lv_iload_n hx hb dX6_contentCount_16 rfl (lv_at hl 2 rfl) ?_
      obtain ⟨v3, hc2, hr⟩ := gB_i hr
      refine gRun_i (g_runV X hI (w_X6_isContent hc2) (g_obj_s mH_0) rfl hl (lw_V q1856 q1858 qs74 q122 q1859) rfl rfl hd_X6_isContent ⟨Nat.le_of_ble_eq_true rfl, Nat.le_of_ble_eq_true rfl⟩ (as := [.int z2]) (rest := [.int z1]) rfl rfl (Nat.le_of_ble_eq_true rfl) ⟨(Nat.le_refl _), (Nat.le_refl _)⟩ dX6_contentCount_17) (fun H locs hI => ?_)
      refine lv_if_eq (tgt := 27) hx hb dX6_contentCount_20 (by decide) (fun c9 => ?_) (fun c9 => ?_)
      · replace hr := gIf_t c9 hr
        refine lv_iconst (v := 0) hx hb dX6_contentCount_27 (by decide) ?_
        refine lv_iadd hx hb dX6_contentCount_28 ?_
        refine lv_istore_n (lv' := [(1, .int (z1 + (0 : Int32))), (0, .ref o), (2, .int z2)]) hx hb dX6_contentCount_29 rfl hl (by decide) rfl (fun ls hl => ?_)
        refine lv_iinc (v := (z2 + (1 : Int32))) (lv' := [(2, .int (z2 + (1 : Int32))), (1, .int (z1 + (0 : Int32))), (0, .ref o)]) hx hb dX6_contentCount_30 hl (k := 2) rfl (g_inc (by decide)) (by decide) rfl (fun ls hl => ?_)
        refine lv_goto (tgt := 4) hx hb dX6_contentCount_33 (by decide) ?_
        exact ih hr hI (lv_sub hl [2, 1, 0] rfl)
      · replace hr := gIf_f c9 hr
        refine lv_iconst (v := 1) hx hb dX6_contentCount_23 (by decide) ?_
        refine lv_goto (tgt := 28) hx hb dX6_contentCount_24 (by decide) ?_
        refine lv_iadd hx hb dX6_contentCount_28 ?_
        refine lv_istore_n (lv' := [(1, .int (z1 + (1 : Int32))), (0, .ref o), (2, .int z2)]) hx hb dX6_contentCount_29 rfl hl (by decide) rfl (fun ls hl => ?_)
        refine lv_iinc (v := (z2 + (1 : Int32))) (lv' := [(2, .int (z2 + (1 : Int32))), (1, .int (z1 + (1 : Int32))), (0, .ref o)]) hx hb dX6_contentCount_30 hl (k := 2) rfl (g_inc (by decide)) (by decide) rfl (fun ls hl => ?_)
        refine lv_goto (tgt := 4) hx hb dX6_contentCount_33 (by decide) ?_
        exact ih hr hI (lv_sub hl [2, 1, 0] rfl)
set_option maxHeartbeats 2000000 in
theorem w_X6_contentCount {l : Launch} {x : gV} {base : Nat} {h : gH} {n : Nat} {o : Nat} {aM : (Nat → Int32)} {aS : (Nat → Int32)} {iU : Int32} {aB : (Nat → Int32)} {iL : Int32} {iE : Int32} {iP : Int32} {aR : (Nat → Int32)} {iW : Int32} {iT : Int32} {aT : (Nat → Int32)} {aC : (Nat → Int32)} {aH : (Nat → Int32)} {aE : (Nat → Int32)} {aQ : (Nat → Int32)} {iA : Int32} {iY : Int32} {iF : Int32} {iV : Int32} {aK : (Nat → Int32)} {res : Int32} (hr : f_X6_contentCount aM = some res) : gM l yX6_contentCount (ws_ yX6_contentCount cX6_contentCount 3 (some .int)) rm_X6_contentCount x base [.ref o] (mH h o aM aS iU aB iL iE iP aR iW iT aT aC aH aE aQ iA iY iF iV aK) n (some (.int res)) (mH h o aM aS iU aB iL iE iP aR iW iT aT aC aH aE aQ iA iY iF iV aK) n 0 0 := by
  refine g_met (cc := cX6_contentCount) (nL := 3) (ret := (some .int)) (by decide) (Nat.le_of_ble_eq_true rfl) (fun p e s m below meth c ls X hnm hl hI => ?_)
  have hl : lv_has ls 3 [(0, .ref o)] := hl
  have hx := X.1
  have hb := X.2.1
  unfold f_X6_contentCount at hr
  refine lv_iconst (v := 0) hx hb dX6_contentCount_0 (by decide) ?_
  refine lv_istore_n (lv' := [(1, .int (0 : Int32)), (0, .ref o)]) hx hb dX6_contentCount_1 rfl hl (by decide) rfl (fun ls hl => ?_)
  refine lv_iconst (v := 0) hx hb dX6_contentCount_2 (by decide) ?_
  refine lv_istore_n (lv' := [(2, .int (0 : Int32)), (1, .int (0 : Int32)), (0, .ref o)]) hx hb dX6_contentCount_3 rfl hl (by decide) rfl (fun ls hl => ?_)
  exact w_X6_contentCount_L4 X gN hr hI (lv_sub hl [2, 1, 0] rfl)
abbrev rm_X6_knife : Room := { frames := 5, cells := 0, slots := 0, locals := 111 }
theorem hd_X6_knife : yX6_knife.cls = RX6 ∧ yX6_knife.cls ≠ "java/lang/invoke/MethodHandle" ∧ yX6_knife.cls ≠ "java/lang/invoke/VarHandle" ∧ (parseMethodDescriptor yX6_knife.desc).map (fun d => d.parameters.length) = some 0 := by decide +kernel
set_option maxHeartbeats 2000000 in
theorem w_X6_knife_J141 {h : gH} {n : Nat} {o : Nat} {aM : (Nat → Int32)} {aS : (Nat → Int32)} {iU : Int32} {aB : (Nat → Int32)} {iL : Int32} {iE : Int32} {iP : Int32} {aR : (Nat → Int32)} {iW : Int32} {iT : Int32} {aT : (Nat → Int32)} {aC : (Nat → Int32)} {aH : (Nat → Int32)} {aE : (Nat → Int32)} {aQ : (Nat → Int32)} {iA : Int32} {iY : Int32} {iF : Int32} {iV : Int32} {aK : (Nat → Int32)} {r34 : Int32 → Int32 → (Nat → Int32) → (Nat → Int32) → Option (Int32 × (Nat → Int32) × (Nat → Int32))} {z1 : Int32} {z2 : Int32} {z3 : Int32} {z4 : Int32} {res : Int32 × (Nat → Int32) × (Nat → Int32)} (X : gXX x base RX6 cX6_knife 7 (some .int) p l s m args meth c) (Hr34 : ∀ {z1 : Int32} {z2 : Int32} {aM : (Nat → Int32)} {aH : (Nat → Int32)} {H : Heap} {locs : List Loc} {ls : Array Slot}, r34 z1 z2 aM aH = some res → gI x base s.heap (mH h o aM aS iU aB iL iE iP aR iW iT aT aC aH aE aQ iA iY iF iV aK) n H locs → lv_has ls 7 [(0, .ref o), (1, .int z1), (2, .int z2)] → W p l e rm_X6_knife s m args below meth c H locs 0 0 (MQ below (gQ x base (some (.int res.1)) (mH h o res.2.1 aS iU aB iL iE iP aR iW iT aT aC res.2.2 aE aQ iA iY iF iV aK) n) args s 0 0 (fun q => base ≤ q)) (F0 m 34 ls [])) {H : Heap} {locs : List Loc} {ls : Array Slot} (hr : f_X6_knife_J141 r34 z1 z2 z3 z4 aM aH = some res) (hI : gI x base s.heap (mH h o aM aS iU aB iL iE iP aR iW iT aT aC aH aE aQ iA iY iF iV aK) n H locs) (hl : lv_has ls 7 [(0, .ref o), (1, .int z1), (2, .int z2), (3, .int z3), (4, .int z4)]) : W p l e rm_X6_knife s m args below meth c H locs 0 0 (MQ below (gQ x base (some (.int res.1)) (mH h o res.2.1 aS iU aB iL iE iP aR iW iT aT aC res.2.2 aE aQ iA iY iF iV aK) n) args s 0 0 (fun q => base ≤ q)) (F0 m 141 ls []) := by
  have hx := X.1
  have hb := X.2.1
  unfold f_X6_knife_J141 at hr
  refine lv_aload_n hx hb dX6_knife_141 rfl (lv_at hl 0 rfl) ?_
  refine lv_iload_n hx hb dX6_knife_142 rfl (lv_at hl 3 rfl) ?_
  refine lv_iload_n hx hb dX6_knife_143 rfl (lv_at hl 1 rfl) ?_
  refine lv_iload hx hb dX6_knife_144 (lv_at hl 4 rfl) ?_
  obtain ⟨aM_12, hc11, hr⟩ := gB_i hr
  refine gRun_v (g_runV X hI (w_X6_own hc11) (g_obj_s mH_0) rfl hl (lw_V q1820 q1822 qs65 q122 q1823) rfl rfl hd_X6_own ⟨Nat.le_of_ble_eq_true rfl, Nat.le_of_ble_eq_true rfl⟩ (as := [.int z3, .int z1, .int z4]) (rest := []) rfl rfl (Nat.le_of_ble_eq_true rfl) ⟨(Nat.le_refl _), (Nat.le_refl _)⟩ dX6_knife_146) (fun H locs hI => ?_)
  refine lv_aload_n hx hb dX6_knife_149 rfl (lv_at hl 0 rfl) ?_
  refine m_get X hI mH_0 12 (by decide) q1664 rfl dX6_knife_150 ?_
  refine lv_iload_n hx hb dX6_knife_153 rfl (lv_at hl 3 rfl) ?_
  refine lv_iconst (v := 1) hx hb dX6_knife_154 (by decide) ?_
  refine m_zast X hI mH_aaH mH_saH hr dX6_knife_155 (fun aH_13 H locs hI hr => ?_)
  refine lv_iload hx hb dX6_knife_156 (lv_at hl 4 rfl) ?_
  refine lv_iconst (v := 1) hx hb dX6_knife_158 (by decide) ?_
  refine lv_iadd hx hb dX6_knife_159 ?_
  refine lv_istore_n (lv' := [(1, .int (z4 + (1 : Int32))), (0, .ref o), (2, .int z2), (3, .int z3), (4, .int z4)]) hx hb dX6_knife_160 rfl hl (by decide) rfl (fun ls hl => ?_)
  refine lv_iinc (v := (z2 + (-1 : Int32))) (lv' := [(2, .int (z2 + (-1 : Int32))), (1, .int (z4 + (1 : Int32))), (0, .ref o), (3, .int z3), (4, .int z4)]) hx hb dX6_knife_161 hl (k := 2) rfl (g_inc (by decide)) (by decide) rfl (fun ls hl => ?_)
  refine lv_goto (tgt := 34) hx hb dX6_knife_164 (by decide) ?_
  exact Hr34 hr hI (lv_sub hl [2, 1, 0] rfl)
set_option maxHeartbeats 2000000 in
theorem w_X6_knife_J111 {h : gH} {n : Nat} {o : Nat} {aM : (Nat → Int32)} {aS : (Nat → Int32)} {iU : Int32} {aB : (Nat → Int32)} {iL : Int32} {iE : Int32} {iP : Int32} {aR : (Nat → Int32)} {iW : Int32} {iT : Int32} {aT : (Nat → Int32)} {aC : (Nat → Int32)} {aH : (Nat → Int32)} {aE : (Nat → Int32)} {aQ : (Nat → Int32)} {iA : Int32} {iY : Int32} {iF : Int32} {iV : Int32} {aK : (Nat → Int32)} {r34 : Int32 → Int32 → (Nat → Int32) → (Nat → Int32) → Option (Int32 × (Nat → Int32) × (Nat → Int32))} {r63 : Int32 → Int32 → Int32 → Option (Int32 × (Nat → Int32) × (Nat → Int32))} {z1 : Int32} {z2 : Int32} {z3 : Int32} {z4 : Int32} {z5 : Int32} {s0 : Int32} {res : Int32 × (Nat → Int32) × (Nat → Int32)} (X : gXX x base RX6 cX6_knife 7 (some .int) p l s m args meth c) (Hr34 : ∀ {z1 : Int32} {z2 : Int32} {aM : (Nat → Int32)} {aH : (Nat → Int32)} {H : Heap} {locs : List Loc} {ls : Array Slot}, r34 z1 z2 aM aH = some res → gI x base s.heap (mH h o aM aS iU aB iL iE iP aR iW iT aT aC aH aE aQ iA iY iF iV aK) n H locs → lv_has ls 7 [(0, .ref o), (1, .int z1), (2, .int z2)] → W p l e rm_X6_knife s m args below meth c H locs 0 0 (MQ below (gQ x base (some (.int res.1)) (mH h o res.2.1 aS iU aB iL iE iP aR iW iT aT aC res.2.2 aE aQ iA iY iF iV aK) n) args s 0 0 (fun q => base ≤ q)) (F0 m 34 ls [])) (Hr63 : ∀ {z3 : Int32} {z4 : Int32} {z5 : Int32} {H : Heap} {locs : List Loc} {ls : Array Slot}, r63 z3 z4 z5 = some res → gI x base s.heap (mH h o aM aS iU aB iL iE iP aR iW iT aT aC aH aE aQ iA iY iF iV aK) n H locs → lv_has ls 7 [(0, .ref o), (1, .int z1), (2, .int z2), (3, .int z3), (4, .int z4), (5, .int z5)] → W p l e rm_X6_knife s m args below meth c H locs 0 0 (MQ below (gQ x base (some (.int res.1)) (mH h o res.2.1 aS iU aB iL iE iP aR iW iT aT aC res.2.2 aE aQ iA iY iF iV aK) n) args s 0 0 (fun q => base ≤ q)) (F0 m 63 ls [])) {H : Heap} {locs : List Loc} {ls : Array Slot} (hr : f_X6_knife_J111 r34 r63 z1 z2 z3 z4 z5 s0 aM aH = some res) (hI : gI x base s.heap (mH h o aM aS iU aB iL iE iP aR iW iT aT aC aH aE aQ iA iY iF iV aK) n H locs) (hl : lv_has ls 7 [(0, .ref o), (1, .int z1), (2, .int z2), (3, .int z3), (4, .int z4), (5, .int z5)]) : W p l e rm_X6_knife s m args below meth c H locs 0 0 (MQ below (gQ x base (some (.int res.1)) (mH h o res.2.1 aS iU aB iL iE iP aR iW iT aT aC res.2.2 aE aQ iA iY iF iV aK) n) args s 0 0 (fun q => base ≤ q)) (F0 m 111 ls [.int s0]) := by
  have hx := X.1
  have hb := X.2.1
  unfold f_X6_knife_J111 at hr
  refine lv_istore (lv' := [(6, .int s0), (0, .ref o), (1, .int z1), (2, .int z2), (3, .int z3), (4, .int z4), (5, .int z5)]) hx hb dX6_knife_111 hl (by decide) rfl (fun ls hl => ?_)
  refine lv_iload_n hx hb dX6_knife_113 rfl (lv_at hl 4 rfl) ?_
  refine lv_iconst (v := (-1)) hx hb dX6_knife_114 (by decide) ?_
  refine lv_icmp_eq (tgt := 128) hx hb dX6_knife_115 (by decide) (fun c9 => ?_) (fun c9 => ?_)
  · replace hr := gIf_t c9 hr
    refine lv_iload hx hb dX6_knife_128 (lv_at hl 6 rfl) ?_
    refine lv_istore_n (lv' := [(3, .int z5), (6, .int s0), (0, .ref o), (1, .int z1), (2, .int z2), (4, .int z4), (5, .int z5)]) hx hb dX6_knife_130 rfl hl (by decide) rfl (fun ls hl => ?_)
    refine lv_iload hx hb dX6_knife_131 (lv_at hl 1 rfl) ?_
    refine lv_istore (lv' := [(4, .int s0), (3, .int z5), (6, .int s0), (0, .ref o), (1, .int z1), (2, .int z2), (5, .int z5)]) hx hb dX6_knife_133 hl (by decide) rfl (fun ls hl => ?_)
    refine lv_iinc (v := (z5 + (1 : Int32))) (lv' := [(5, .int (z5 + (1 : Int32))), (4, .int s0), (3, .int z5), (6, .int s0), (0, .ref o), (1, .int z1), (2, .int z2)]) hx hb dX6_knife_135 hl (k := 6) rfl (g_inc (by decide)) (by decide) rfl (fun ls hl => ?_)
    refine lv_goto (tgt := 63) hx hb dX6_knife_138 (by decide) ?_
    exact Hr63 hr hI (lv_sub hl [4, 5, 6, 2, 1, 0] rfl)
  · replace hr := gIf_f c9 hr
    refine lv_iload hx hb dX6_knife_118 (lv_at hl 0 rfl) ?_
    refine lv_iload hx hb dX6_knife_120 (lv_at hl 5 rfl) ?_
    refine lv_icmp_lt (tgt := 128) hx hb dX6_knife_122 (by decide) (fun c9 => ?_) (fun c9 => ?_)
    · replace hr := gIf_t c9 hr
      refine lv_iload hx hb dX6_knife_128 (lv_at hl 6 rfl) ?_
      refine lv_istore_n (lv' := [(3, .int z5), (6, .int s0), (0, .ref o), (1, .int z1), (2, .int z2), (4, .int z4), (5, .int z5)]) hx hb dX6_knife_130 rfl hl (by decide) rfl (fun ls hl => ?_)
      refine lv_iload hx hb dX6_knife_131 (lv_at hl 1 rfl) ?_
      refine lv_istore (lv' := [(4, .int s0), (3, .int z5), (6, .int s0), (0, .ref o), (1, .int z1), (2, .int z2), (5, .int z5)]) hx hb dX6_knife_133 hl (by decide) rfl (fun ls hl => ?_)
      refine lv_iinc (v := (z5 + (1 : Int32))) (lv' := [(5, .int (z5 + (1 : Int32))), (4, .int s0), (3, .int z5), (6, .int s0), (0, .ref o), (1, .int z1), (2, .int z2)]) hx hb dX6_knife_135 hl (k := 6) rfl (g_inc (by decide)) (by decide) rfl (fun ls hl => ?_)
      refine lv_goto (tgt := 63) hx hb dX6_knife_138 (by decide) ?_
      exact Hr63 hr hI (lv_sub hl [4, 5, 6, 2, 1, 0] rfl)
    · replace hr := gIf_f c9 hr
      refine lv_goto (tgt := 135) hx hb dX6_knife_125 (by decide) ?_
      refine lv_iinc (v := (z5 + (1 : Int32))) (lv' := [(5, .int (z5 + (1 : Int32))), (6, .int s0), (0, .ref o), (1, .int z1), (2, .int z2), (3, .int z3), (4, .int z4)]) hx hb dX6_knife_135 hl (k := 6) rfl (g_inc (by decide)) (by decide) rfl (fun ls hl => ?_)
      refine lv_goto (tgt := 63) hx hb dX6_knife_138 (by decide) ?_
      exact Hr63 hr hI (lv_sub hl [2, 3, 4, 5, 6, 0] rfl)
set_option maxHeartbeats 2000000 in
theorem w_X6_knife_L63 {h : gH} {n : Nat} {o : Nat} {aM : (Nat → Int32)} {aS : (Nat → Int32)} {iU : Int32} {aB : (Nat → Int32)} {iL : Int32} {iE : Int32} {iP : Int32} {aR : (Nat → Int32)} {iW : Int32} {iT : Int32} {aT : (Nat → Int32)} {aC : (Nat → Int32)} {aH : (Nat → Int32)} {aE : (Nat → Int32)} {aQ : (Nat → Int32)} {iA : Int32} {iY : Int32} {iF : Int32} {iV : Int32} {aK : (Nat → Int32)} {r34 : Int32 → Int32 → (Nat → Int32) → (Nat → Int32) → Option (Int32 × (Nat → Int32) × (Nat → Int32))} {z1 : Int32} {z2 : Int32} {res : Int32 × (Nat → Int32) × (Nat → Int32)} (X : gXX x base RX6 cX6_knife 7 (some .int) p l s m args meth c) (Hr34 : ∀ {z1 : Int32} {z2 : Int32} {aM : (Nat → Int32)} {aH : (Nat → Int32)} {H : Heap} {locs : List Loc} {ls : Array Slot}, r34 z1 z2 aM aH = some res → gI x base s.heap (mH h o aM aS iU aB iL iE iP aR iW iT aT aC aH aE aQ iA iY iF iV aK) n H locs → lv_has ls 7 [(0, .ref o), (1, .int z1), (2, .int z2)] → W p l e rm_X6_knife s m args below meth c H locs 0 0 (MQ below (gQ x base (some (.int res.1)) (mH h o res.2.1 aS iU aB iL iE iP aR iW iT aT aC res.2.2 aE aQ iA iY iF iV aK) n) args s 0 0 (fun q => base ≤ q)) (F0 m 34 ls [])) : ∀ (k : Nat) {z3 : Int32} {z4 : Int32} {z5 : Int32} {H : Heap} {locs : List Loc} {ls : Array Slot}, gL3 (f_X6_knife_L63 r34 z1 z2 aM aH) k z3 z4 z5 = some res → gI x base s.heap (mH h o aM aS iU aB iL iE iP aR iW iT aT aC aH aE aQ iA iY iF iV aK) n H locs → lv_has ls 7 [(0, .ref o), (1, .int z1), (2, .int z2), (3, .int z3), (4, .int z4), (5, .int z5)] → W p l e rm_X6_knife s m args below meth c H locs 0 0 (MQ below (gQ x base (some (.int res.1)) (mH h o res.2.1 aS iU aB iL iE iP aR iW iT aT aC res.2.2 aE aQ iA iY iF iV aK) n) args s 0 0 (fun q => base ≤ q)) (F0 m 63 ls []) := by
  have hx := X.1
  have hb := X.2.1
  intro k
  induction k with
  | zero =>
    intros
    rename_i hr _ _
    exact nomatch (show (none : Option _) = some _ from hr)
  | succ k ih =>
    intro z3 z4 z5 H locs ls hr hI hl
    replace hr : f_X6_knife_L63 r34 z1 z2 aM aH (gL3 (f_X6_knife_L63 r34 z1 z2 aM aH) k) z3 z4 z5 = some res := hr
    unfold f_X6_knife_L63 at hr
    refine lv_iload hx hb dX6_knife_63 (lv_at hl 5 rfl) ?_
    refine lv_aload_n hx hb dX6_knife_65 rfl (lv_at hl 0 rfl) ?_
    refine m_get X hI mH_0 0 (by decide) q1652 rfl dX6_knife_66 ?_
    refine lv_iconst (v := 1) hx hb dX6_knife_69 (by decide) ?_
    refine m_iald X hI mH_aaM hr dX6_knife_70 (fun v10 hr => ?_)
    refine lv_icmp_ge (tgt := 141) hx hb dX6_knife_71 (by decide) (fun c9 => ?_) (fun c9 => ?_)
    · replace hr := gIf_t c9 hr
      exact w_X6_knife_J141 X Hr34 hr hI (lv_sub hl [0, 1, 2, 3, 4] rfl)
    · replace hr := gIf_f c9 hr
      refine lv_aload_n hx hb dX6_knife_74 rfl (lv_at hl 0 rfl) ?_
      refine m_get X hI mH_0 12 (by decide) q1664 rfl dX6_knife_75 ?_
      refine lv_iload hx hb dX6_knife_78 (lv_at hl 5 rfl) ?_
      refine m_zald X hI mH_aaH hr dX6_knife_80 (fun v14 hr => ?_)
      refine lv_if_eq (tgt := 87) hx hb dX6_knife_81 (by decide) (fun c9 => ?_) (fun c9 => ?_)
      · replace hr := gIf_t c9 hr
        refine lv_iload_n hx hb dX6_knife_87 rfl (lv_at hl 2 rfl) ?_
        refine lv_iconst (v := 1) hx hb dX6_knife_88 (by decide) ?_
        refine lv_icmp_ne (tgt := 103) hx hb dX6_knife_89 (by decide) (fun c9 => ?_) (fun c9 => ?_)
        · replace hr := gIf_f c9 hr
          refine lv_aload_n hx hb dX6_knife_103 rfl (lv_at hl 0 rfl) ?_
          refine lv_iload hx hb dX6_knife_104 (lv_at hl 5 rfl) ?_
          refine lv_iload_n hx hb dX6_knife_106 rfl (lv_at hl 1 rfl) ?_
          refine lv_iload_n hx hb dX6_knife_107 rfl (lv_at hl 2 rfl) ?_
          obtain ⟨v16, hc15, hr⟩ := gB_i hr
          refine gRun_i (g_runV X hI (w_X6_markOf hc15) (g_obj_s mH_0) rfl hl (lw_V q1848 q1850 qs72 q122 q1851) rfl rfl hd_X6_markOf ⟨Nat.le_of_ble_eq_true rfl, Nat.le_of_ble_eq_true rfl⟩ (as := [.int z5, .int z1, .int z2]) (rest := []) rfl rfl (Nat.le_of_ble_eq_true rfl) ⟨(Nat.le_refl _), (Nat.le_refl _)⟩ dX6_knife_108) (fun H locs hI => ?_)
          exact w_X6_knife_J111 X Hr34 ih hr hI (lv_sub hl [0, 1, 2, 3, 4, 5] rfl)
        · replace hr := gIf_t c9 hr
          refine lv_aload_n hx hb dX6_knife_92 rfl (lv_at hl 0 rfl) ?_
          refine m_get X hI mH_0 0 (by decide) q1652 rfl dX6_knife_93 ?_
          refine lv_iconst (v := 0) hx hb dX6_knife_96 (by decide) ?_
          refine m_iald X hI mH_aaM hr dX6_knife_97 (fun v17 hr => ?_)
          refine lv_iconst (v := 1) hx hb dX6_knife_98 (by decide) ?_
          refine lv_isub hx hb dX6_knife_99 ?_
          refine lv_goto (tgt := 111) hx hb dX6_knife_100 (by decide) ?_
          exact w_X6_knife_J111 X Hr34 ih hr hI (lv_sub hl [0, 1, 2, 3, 4, 5] rfl)
      · replace hr := gIf_f c9 hr
        refine lv_goto (tgt := 135) hx hb dX6_knife_84 (by decide) ?_
        refine lv_iinc (v := (z5 + (1 : Int32))) (lv' := [(5, .int (z5 + (1 : Int32))), (0, .ref o), (1, .int z1), (2, .int z2), (3, .int z3), (4, .int z4)]) hx hb dX6_knife_135 hl (k := 5) rfl (g_inc (by decide)) (by decide) rfl (fun ls hl => ?_)
        refine lv_goto (tgt := 63) hx hb dX6_knife_138 (by decide) ?_
        exact ih hr hI (lv_sub hl [1, 2, 3, 4, 5, 0] rfl)
set_option maxHeartbeats 2000000 in
theorem w_X6_knife_L34 {h : gH} {n : Nat} {o : Nat} {aS : (Nat → Int32)} {iU : Int32} {aB : (Nat → Int32)} {iL : Int32} {iE : Int32} {iP : Int32} {aR : (Nat → Int32)} {iW : Int32} {iT : Int32} {aT : (Nat → Int32)} {aC : (Nat → Int32)} {aE : (Nat → Int32)} {aQ : (Nat → Int32)} {iA : Int32} {iY : Int32} {iF : Int32} {iV : Int32} {aK : (Nat → Int32)} {res : Int32 × (Nat → Int32) × (Nat → Int32)} (X : gXX x base RX6 cX6_knife 7 (some .int) p l s m args meth c) : ∀ (k : Nat) {z1 : Int32} {z2 : Int32} {aM : (Nat → Int32)} {aH : (Nat → Int32)} {H : Heap} {locs : List Loc} {ls : Array Slot}, gL4 f_X6_knife_L34 k z1 z2 aM aH = some res → gI x base s.heap (mH h o aM aS iU aB iL iE iP aR iW iT aT aC aH aE aQ iA iY iF iV aK) n H locs → lv_has ls 7 [(0, .ref o), (1, .int z1), (2, .int z2)] → W p l e rm_X6_knife s m args below meth c H locs 0 0 (MQ below (gQ x base (some (.int res.1)) (mH h o res.2.1 aS iU aB iL iE iP aR iW iT aT aC res.2.2 aE aQ iA iY iF iV aK) n) args s 0 0 (fun q => base ≤ q)) (F0 m 34 ls []) := by
  have hx := X.1
  have hb := X.2.1
  intro k
  induction k with
  | zero =>
    intros
    rename_i hr _ _
    exact nomatch (show (none : Option _) = some _ from hr)
  | succ k ih =>
    intro z1 z2 aM aH H locs ls hr hI hl
    replace hr : f_X6_knife_L34 (gL4 f_X6_knife_L34 k) z1 z2 aM aH = some res := hr
    unfold f_X6_knife_L34 at hr
    refine lv_iload_n hx hb dX6_knife_34 rfl (lv_at hl 2 rfl) ?_
    refine lv_if_le (tgt := 167) hx hb dX6_knife_35 (by decide) (fun c9 => ?_) (fun c9 => ?_)
    · replace hr := gIf_t c9 hr
      refine lv_aload_n hx hb dX6_knife_167 rfl (lv_at hl 0 rfl) ?_
      obtain ⟨v5, hc4, hr⟩ := gB_i hr
      refine gRun_i (g_runV X hI (w_X6_contentCount hc4) (g_obj_s mH_0) rfl hl (lw_V q1852 q1854 qs73 q122 q1855) rfl rfl hd_X6_contentCount ⟨Nat.le_of_ble_eq_true rfl, Nat.le_of_ble_eq_true rfl⟩ (as := []) (rest := []) rfl rfl (Nat.le_of_ble_eq_true rfl) ⟨(Nat.le_refl _), (Nat.le_refl _)⟩ dX6_knife_168) (fun H locs hI => ?_)
      have hr := gS_i hr
      subst hr
      exact g_iret X hI rfl (Nat.le_refl _) (Nat.le_refl _) dX6_knife_171
    · replace hr := gIf_f c9 hr
      refine lv_iload_n hx hb dX6_knife_38 rfl (lv_at hl 1 rfl) ?_
      refine lv_aload_n hx hb dX6_knife_39 rfl (lv_at hl 0 rfl) ?_
      refine m_get X hI mH_0 0 (by decide) q1652 rfl dX6_knife_40 ?_
      refine lv_iconst (v := 0) hx hb dX6_knife_43 (by decide) ?_
      refine m_iald X hI mH_aaM hr dX6_knife_44 (fun v6 hr => ?_)
      refine lv_icmp_ge (tgt := 167) hx hb dX6_knife_45 (by decide) (fun c9 => ?_) (fun c9 => ?_)
      · replace hr := gIf_t c9 hr
        refine lv_aload_n hx hb dX6_knife_167 rfl (lv_at hl 0 rfl) ?_
        obtain ⟨v8, hc7, hr⟩ := gB_i hr
        refine gRun_i (g_runV X hI (w_X6_contentCount hc7) (g_obj_s mH_0) rfl hl (lw_V q1852 q1854 qs73 q122 q1855) rfl rfl hd_X6_contentCount ⟨Nat.le_of_ble_eq_true rfl, Nat.le_of_ble_eq_true rfl⟩ (as := []) (rest := []) rfl rfl (Nat.le_of_ble_eq_true rfl) ⟨(Nat.le_refl _), (Nat.le_refl _)⟩ dX6_knife_168) (fun H locs hI => ?_)
        have hr := gS_i hr
        subst hr
        exact g_iret X hI rfl (Nat.le_refl _) (Nat.le_refl _) dX6_knife_171
      · replace hr := gIf_f c9 hr
        refine lv_iconst (v := (-1)) hx hb dX6_knife_48 (by decide) ?_
        refine lv_istore_n (lv' := [(3, .int (-1 : Int32)), (0, .ref o), (1, .int z1), (2, .int z2)]) hx hb dX6_knife_49 rfl hl (by decide) rfl (fun ls hl => ?_)
        refine lv_aload_n hx hb dX6_knife_50 rfl (lv_at hl 1 rfl) ?_
        refine m_get X hI mH_0 0 (by decide) q1652 rfl dX6_knife_51 ?_
        refine lv_iconst (v := 0) hx hb dX6_knife_54 (by decide) ?_
        refine m_iald X hI mH_aaM hr dX6_knife_55 (fun v9 hr => ?_)
        refine lv_iconst (v := 1) hx hb dX6_knife_56 (by decide) ?_
        refine lv_isub hx hb dX6_knife_57 ?_
        refine lv_istore (lv' := [(4, .int (v9 - (1 : Int32))), (3, .int (-1 : Int32)), (0, .ref o), (1, .int z1), (2, .int z2)]) hx hb dX6_knife_58 hl (by decide) rfl (fun ls hl => ?_)
        refine lv_iconst (v := 0) hx hb dX6_knife_60 (by decide) ?_
        refine lv_istore (lv' := [(5, .int (0 : Int32)), (4, .int (v9 - (1 : Int32))), (3, .int (-1 : Int32)), (0, .ref o), (1, .int z1), (2, .int z2)]) hx hb dX6_knife_61 hl (by decide) rfl (fun ls hl => ?_)
        exact w_X6_knife_L63 X ih gN hr hI (lv_sub hl [3, 4, 5, 2, 1, 0] rfl)
set_option maxHeartbeats 2000000 in
theorem w_X6_knife_J25 {h : gH} {n : Nat} {o : Nat} {aM : (Nat → Int32)} {aS : (Nat → Int32)} {iU : Int32} {aB : (Nat → Int32)} {iL : Int32} {iE : Int32} {iP : Int32} {aR : (Nat → Int32)} {iW : Int32} {iT : Int32} {aT : (Nat → Int32)} {aC : (Nat → Int32)} {aH : (Nat → Int32)} {aE : (Nat → Int32)} {aQ : (Nat → Int32)} {iA : Int32} {iY : Int32} {iF : Int32} {iV : Int32} {aK : (Nat → Int32)} {res : Int32 × (Nat → Int32) × (Nat → Int32)} (X : gXX x base RX6 cX6_knife 7 (some .int) p l s m args meth c) {H : Heap} {locs : List Loc} {ls : Array Slot} (hr : f_X6_knife_J25 aM aH = some res) (hI : gI x base s.heap (mH h o aM aS iU aB iL iE iP aR iW iT aT aC aH aE aQ iA iY iF iV aK) n H locs) (hl : lv_has ls 7 [(0, .ref o)]) : W p l e rm_X6_knife s m args below meth c H locs 0 0 (MQ below (gQ x base (some (.int res.1)) (mH h o res.2.1 aS iU aB iL iE iP aR iW iT aT aC res.2.2 aE aQ iA iY iF iV aK) n) args s 0 0 (fun q => base ≤ q)) (F0 m 25 ls []) := by
  have hx := X.1
  have hb := X.2.1
  unfold f_X6_knife_J25 at hr
  refine lv_iconst (v := 0) hx hb dX6_knife_25 (by decide) ?_
  refine lv_istore_n (lv' := [(1, .int (0 : Int32)), (0, .ref o)]) hx hb dX6_knife_26 rfl hl (by decide) rfl (fun ls hl => ?_)
  refine lv_aload_n hx hb dX6_knife_27 rfl (lv_at hl 1 rfl) ?_
  refine m_get X hI mH_0 0 (by decide) q1652 rfl dX6_knife_28 ?_
  refine lv_iconst (v := 1) hx hb dX6_knife_31 (by decide) ?_
  refine m_iald X hI mH_aaM hr dX6_knife_32 (fun v3 hr => ?_)
  refine lv_istore_n (lv' := [(2, .int v3), (1, .int (0 : Int32)), (0, .ref o)]) hx hb dX6_knife_33 rfl hl (by decide) rfl (fun ls hl => ?_)
  exact w_X6_knife_L34 X gN hr hI (lv_sub hl [2, 1, 0] rfl)
set_option maxHeartbeats 2000000 in
theorem w_X6_knife_L6 {h : gH} {n : Nat} {o : Nat} {aM : (Nat → Int32)} {aS : (Nat → Int32)} {iU : Int32} {aB : (Nat → Int32)} {iL : Int32} {iE : Int32} {iP : Int32} {aR : (Nat → Int32)} {iW : Int32} {iT : Int32} {aT : (Nat → Int32)} {aC : (Nat → Int32)} {aE : (Nat → Int32)} {aQ : (Nat → Int32)} {iA : Int32} {iY : Int32} {iF : Int32} {iV : Int32} {aK : (Nat → Int32)} {res : Int32 × (Nat → Int32) × (Nat → Int32)} (X : gXX x base RX6 cX6_knife 7 (some .int) p l s m args meth c) : ∀ (k : Nat) {z1 : Int32} {aH : (Nat → Int32)} {H : Heap} {locs : List Loc} {ls : Array Slot}, gL2 (f_X6_knife_L6 aM) k z1 aH = some res → gI x base s.heap (mH h o aM aS iU aB iL iE iP aR iW iT aT aC aH aE aQ iA iY iF iV aK) n H locs → lv_has ls 7 [(0, .ref o), (1, .int z1)] → W p l e rm_X6_knife s m args below meth c H locs 0 0 (MQ below (gQ x base (some (.int res.1)) (mH h o res.2.1 aS iU aB iL iE iP aR iW iT aT aC res.2.2 aE aQ iA iY iF iV aK) n) args s 0 0 (fun q => base ≤ q)) (F0 m 6 ls []) := by
  have hx := X.1
  have hb := X.2.1
  intro k
  induction k with
  | zero =>
    intros
    rename_i hr _ _
    exact nomatch (show (none : Option _) = some _ from hr)
  | succ k ih =>
    intro z1 aH H locs ls hr hI hl
    replace hr : f_X6_knife_L6 aM (gL2 (f_X6_knife_L6 aM) k) z1 aH = some res := hr
    unfold f_X6_knife_L6 at hr
    refine lv_iload_n hx hb dX6_knife_6 rfl (lv_at hl 1 rfl) ?_
    refine lv_bipush (v := 6) hx hb dX6_knife_7 (by decide) ?_
    refine lv_icmp_ge (tgt := 25) hx hb dX6_knife_9 (by decide) (fun c9 => ?_) (fun c9 => ?_)
    · replace hr := gIf_t c9 hr
      exact w_X6_knife_J25 X hr hI (lv_sub hl [0] rfl)
    · replace hr := gIf_f c9 hr
      refine lv_aload_n hx hb dX6_knife_12 rfl (lv_at hl 0 rfl) ?_
      refine m_get X hI mH_0 12 (by decide) q1664 rfl dX6_knife_13 ?_
      refine lv_iload_n hx hb dX6_knife_16 rfl (lv_at hl 1 rfl) ?_
      refine lv_iconst (v := 0) hx hb dX6_knife_17 (by decide) ?_
      refine m_zast X hI mH_aaH mH_saH hr dX6_knife_18 (fun aH_18 H locs hI hr => ?_)
      refine lv_iinc (v := (z1 + (1 : Int32))) (lv' := [(1, .int (z1 + (1 : Int32))), (0, .ref o)]) hx hb dX6_knife_19 hl (k := 1) rfl (g_inc (by decide)) (by decide) rfl (fun ls hl => ?_)
      refine lv_goto (tgt := 6) hx hb dX6_knife_22 (by decide) ?_
      exact ih hr hI (lv_sub hl [1, 0] rfl)
set_option maxHeartbeats 2000000 in
theorem w_X6_knife {l : Launch} {x : gV} {base : Nat} {h : gH} {n : Nat} {o : Nat} {aM : (Nat → Int32)} {aS : (Nat → Int32)} {iU : Int32} {aB : (Nat → Int32)} {iL : Int32} {iE : Int32} {iP : Int32} {aR : (Nat → Int32)} {iW : Int32} {iT : Int32} {aT : (Nat → Int32)} {aC : (Nat → Int32)} {aH : (Nat → Int32)} {aE : (Nat → Int32)} {aQ : (Nat → Int32)} {iA : Int32} {iY : Int32} {iF : Int32} {iV : Int32} {aK : (Nat → Int32)} {res : Int32 × (Nat → Int32) × (Nat → Int32)} (hr : f_X6_knife aM aH = some res) : gM l yX6_knife (ws_ yX6_knife cX6_knife 7 (some .int)) rm_X6_knife x base [.ref o] (mH h o aM aS iU aB iL iE iP aR iW iT aT aC aH aE aQ iA iY iF iV aK) n (some (.int res.1)) (mH h o res.2.1 aS iU aB iL iE iP aR iW iT aT aC res.2.2 aE aQ iA iY iF iV aK) n 0 0 := by
  refine g_met (cc := cX6_knife) (nL := 7) (ret := (some .int)) (by decide) (Nat.le_of_ble_eq_true rfl) (fun p e s m below meth c ls X hnm hl hI => ?_)
  have hl : lv_has ls 7 [(0, .ref o)] := hl
  have hx := X.1
  have hb := X.2.1
  unfold f_X6_knife at hr
  refine lv_aload_n hx hb dX6_knife_0 rfl (lv_at hl 0 rfl) ?_
  obtain ⟨aM_2, hc1, hr⟩ := gB_i hr
  refine gRun_v (g_runV X hI (w_X6_clear hc1) (g_obj_s mH_0) rfl hl (lw_V q1635 q1637 qs41 q122 q1638) rfl rfl hd_X6_clear ⟨Nat.le_of_ble_eq_true rfl, Nat.le_of_ble_eq_true rfl⟩ (as := []) (rest := []) rfl rfl (Nat.le_of_ble_eq_true rfl) ⟨(Nat.le_refl _), (Nat.le_refl _)⟩ dX6_knife_1) (fun H locs hI => ?_)
  refine lv_iconst (v := 0) hx hb dX6_knife_4 (by decide) ?_
  refine lv_istore_n (lv' := [(1, .int (0 : Int32)), (0, .ref o)]) hx hb dX6_knife_5 rfl hl (by decide) rfl (fun ls hl => ?_)
  exact w_X6_knife_L6 X gN hr hI (lv_sub hl [1, 0] rfl)
abbrev rm_X6_favourite : Room := { frames := 1, cells := 0, slots := 0, locals := 22 }
theorem hd_X6_favourite : yX6_favourite.cls = RX6 ∧ yX6_favourite.cls ≠ "java/lang/invoke/MethodHandle" ∧ yX6_favourite.cls ≠ "java/lang/invoke/VarHandle" ∧ (parseMethodDescriptor yX6_favourite.desc).map (fun d => d.parameters.length) = some 1 := by decide +kernel
set_option maxHeartbeats 2000000 in
theorem w_X6_favourite_L4 {h : gH} {n : Nat} {o : Nat} {aM : (Nat → Int32)} {aS : (Nat → Int32)} {iU : Int32} {aB : (Nat → Int32)} {iL : Int32} {iE : Int32} {iP : Int32} {aR : (Nat → Int32)} {iW : Int32} {iT : Int32} {aT : (Nat → Int32)} {aC : (Nat → Int32)} {aH : (Nat → Int32)} {aE : (Nat → Int32)} {aQ : (Nat → Int32)} {iA : Int32} {iY : Int32} {iF : Int32} {iV : Int32} {aK : (Nat → Int32)} {z1 : Int32} {res : Int32} (X : gXX x base RX6 cX6_favourite 4 (some .int) p l s m args meth c) : ∀ (k : Nat) {z2 : Int32} {z3 : Int32} {H : Heap} {locs : List Loc} {ls : Array Slot}, gL2 (f_X6_favourite_L4 z1 aM) k z2 z3 = some res → gI x base s.heap (mH h o aM aS iU aB iL iE iP aR iW iT aT aC aH aE aQ iA iY iF iV aK) n H locs → lv_has ls 4 [(0, .ref o), (1, .int z1), (2, .int z2), (3, .int z3)] → W p l e rm_X6_favourite s m args below meth c H locs 0 0 (MQ below (gQ x base (some (.int res)) (mH h o aM aS iU aB iL iE iP aR iW iT aT aC aH aE aQ iA iY iF iV aK) n) args s 0 0 (fun q => base ≤ q)) (F0 m 4 ls []) := by
  have hx := X.1
  have hb := X.2.1
  intro k
  induction k with
  | zero =>
    intros
    rename_i hr _ _
    exact nomatch (show (none : Option _) = some _ from hr)
  | succ k ih =>
    intro z2 z3 H locs ls hr hI hl
    replace hr : f_X6_favourite_L4 z1 aM (gL2 (f_X6_favourite_L4 z1 aM) k) z2 z3 = some res := hr
    unfold f_X6_favourite_L4 at hr
    refine lv_iload_n hx hb dX6_favourite_4 rfl (lv_at hl 3 rfl) ?_
    refine lv_aload_n hx hb dX6_favourite_5 rfl (lv_at hl 0 rfl) ?_
    refine m_get X hI mH_0 0 (by decide) q1652 rfl dX6_favourite_6 ?_
    refine lv_iconst (v := 0) hx hb dX6_favourite_9 (by decide) ?_
    refine m_iald X hI mH_aaM hr dX6_favourite_10 (fun v1 hr => ?_)
    refine lv_icmp_ge (tgt := 51) hx hb dX6_favourite_11 (by decide) (fun c9 => ?_) (fun c9 => ?_)
    · replace hr := gIf_t c9 hr
      refine lv_iload_n hx hb dX6_favourite_51 rfl (lv_at hl 2 rfl) ?_
      have hr := gS_i hr
      subst hr
      exact g_iret X hI rfl (Nat.le_refl _) (Nat.le_refl _) dX6_favourite_52
    · replace hr := gIf_f c9 hr
      refine lv_aload_n hx hb dX6_favourite_14 rfl (lv_at hl 0 rfl) ?_
      refine lv_iload_n hx hb dX6_favourite_15 rfl (lv_at hl 3 rfl) ?_
      obtain ⟨v3, hc2, hr⟩ := gB_i hr
      refine gRun_i (g_runV X hI (w_X6_ownerOf hc2) (g_obj_s mH_0) rfl hl (lw_V q1804 q1806 qs61 q122 q1807) rfl rfl hd_X6_ownerOf ⟨Nat.le_of_ble_eq_true rfl, Nat.le_of_ble_eq_true rfl⟩ (as := [.int z3]) (rest := []) rfl rfl (Nat.le_of_ble_eq_true rfl) ⟨(Nat.le_refl _), (Nat.le_refl _)⟩ dX6_favourite_16) (fun H locs hI => ?_)
      refine lv_iconst (v := (-1)) hx hb dX6_favourite_19 (by decide) ?_
      refine lv_icmp_ne (tgt := 45) hx hb dX6_favourite_20 (by decide) (fun c9 => ?_) (fun c9 => ?_)
      · replace hr := gIf_f c9 hr
        refine lv_iinc (v := (z3 + (1 : Int32))) (lv' := [(3, .int (z3 + (1 : Int32))), (0, .ref o), (1, .int z1), (2, .int z2)]) hx hb dX6_favourite_45 hl (k := 3) rfl (g_inc (by decide)) (by decide) rfl (fun ls hl => ?_)
        refine lv_goto (tgt := 4) hx hb dX6_favourite_48 (by decide) ?_
        exact ih hr hI (lv_sub hl [1, 2, 3, 0] rfl)
      · replace hr := gIf_t c9 hr
        refine lv_iload_n hx hb dX6_favourite_23 rfl (lv_at hl 2 rfl) ?_
        refine lv_iconst (v := (-1)) hx hb dX6_favourite_24 (by decide) ?_
        refine lv_icmp_eq (tgt := 43) hx hb dX6_favourite_25 (by decide) (fun c9 => ?_) (fun c9 => ?_)
        · replace hr := gIf_t c9 hr
          refine lv_iload_n hx hb dX6_favourite_43 rfl (lv_at hl 3 rfl) ?_
          refine lv_istore_n (lv' := [(2, .int z3), (0, .ref o), (1, .int z1), (3, .int z3)]) hx hb dX6_favourite_44 rfl hl (by decide) rfl (fun ls hl => ?_)
          refine lv_iinc (v := (z3 + (1 : Int32))) (lv' := [(3, .int (z3 + (1 : Int32))), (2, .int z3), (0, .ref o), (1, .int z1)]) hx hb dX6_favourite_45 hl (k := 3) rfl (g_inc (by decide)) (by decide) rfl (fun ls hl => ?_)
          refine lv_goto (tgt := 4) hx hb dX6_favourite_48 (by decide) ?_
          exact ih hr hI (lv_sub hl [2, 3, 1, 0] rfl)
        · replace hr := gIf_f c9 hr
          refine lv_aload_n hx hb dX6_favourite_28 rfl (lv_at hl 0 rfl) ?_
          refine lv_iload_n hx hb dX6_favourite_29 rfl (lv_at hl 1 rfl) ?_
          refine lv_iload_n hx hb dX6_favourite_30 rfl (lv_at hl 3 rfl) ?_
          obtain ⟨v5, hc4, hr⟩ := gB_i hr
          refine gRun_i (g_runV X hI (w_X6_valueOf hc4) (g_obj_s mH_0) rfl hl (lw_V q1808 q1810 qs62 q122 q1811) rfl rfl hd_X6_valueOf ⟨Nat.le_of_ble_eq_true rfl, Nat.le_of_ble_eq_true rfl⟩ (as := [.int z1, .int z3]) (rest := []) rfl rfl (Nat.le_of_ble_eq_true rfl) ⟨(Nat.le_refl _), (Nat.le_refl _)⟩ dX6_favourite_31) (fun H locs hI => ?_)
          refine lv_aload_n hx hb dX6_favourite_34 rfl (lv_at hl 0 rfl) ?_
          refine lv_iload_n hx hb dX6_favourite_35 rfl (lv_at hl 1 rfl) ?_
          refine lv_iload_n hx hb dX6_favourite_36 rfl (lv_at hl 2 rfl) ?_
          obtain ⟨v7, hc6, hr⟩ := gB_i hr
          refine gRun_i (g_runV X hI (w_X6_valueOf hc6) (g_obj_s mH_0) rfl hl (lw_V q1808 q1810 qs62 q122 q1811) rfl rfl hd_X6_valueOf ⟨Nat.le_of_ble_eq_true rfl, Nat.le_of_ble_eq_true rfl⟩ (as := [.int z1, .int z2]) (rest := [.int v5]) rfl rfl (Nat.le_of_ble_eq_true rfl) ⟨(Nat.le_refl _), (Nat.le_refl _)⟩ dX6_favourite_37) (fun H locs hI => ?_)
          refine lv_icmp_le (tgt := 45) hx hb dX6_favourite_40 (by decide) (fun c9 => ?_) (fun c9 => ?_)
          · replace hr := gIf_t c9 hr
            refine lv_iinc (v := (z3 + (1 : Int32))) (lv' := [(3, .int (z3 + (1 : Int32))), (0, .ref o), (1, .int z1), (2, .int z2)]) hx hb dX6_favourite_45 hl (k := 3) rfl (g_inc (by decide)) (by decide) rfl (fun ls hl => ?_)
            refine lv_goto (tgt := 4) hx hb dX6_favourite_48 (by decide) ?_
            exact ih hr hI (lv_sub hl [1, 2, 3, 0] rfl)
          · replace hr := gIf_f c9 hr
            refine lv_iload_n hx hb dX6_favourite_43 rfl (lv_at hl 3 rfl) ?_
            refine lv_istore_n (lv' := [(2, .int z3), (0, .ref o), (1, .int z1), (3, .int z3)]) hx hb dX6_favourite_44 rfl hl (by decide) rfl (fun ls hl => ?_)
            refine lv_iinc (v := (z3 + (1 : Int32))) (lv' := [(3, .int (z3 + (1 : Int32))), (2, .int z3), (0, .ref o), (1, .int z1)]) hx hb dX6_favourite_45 hl (k := 3) rfl (g_inc (by decide)) (by decide) rfl (fun ls hl => ?_)
            refine lv_goto (tgt := 4) hx hb dX6_favourite_48 (by decide) ?_
            exact ih hr hI (lv_sub hl [2, 3, 1, 0] rfl)
set_option maxHeartbeats 2000000 in
theorem w_X6_favourite {l : Launch} {x : gV} {base : Nat} {z1 : Int32} {h : gH} {n : Nat} {o : Nat} {aM : (Nat → Int32)} {aS : (Nat → Int32)} {iU : Int32} {aB : (Nat → Int32)} {iL : Int32} {iE : Int32} {iP : Int32} {aR : (Nat → Int32)} {iW : Int32} {iT : Int32} {aT : (Nat → Int32)} {aC : (Nat → Int32)} {aH : (Nat → Int32)} {aE : (Nat → Int32)} {aQ : (Nat → Int32)} {iA : Int32} {iY : Int32} {iF : Int32} {iV : Int32} {aK : (Nat → Int32)} {res : Int32} (hr : f_X6_favourite z1 aM = some res) : gM l yX6_favourite (ws_ yX6_favourite cX6_favourite 4 (some .int)) rm_X6_favourite x base [.ref o, .int z1] (mH h o aM aS iU aB iL iE iP aR iW iT aT aC aH aE aQ iA iY iF iV aK) n (some (.int res)) (mH h o aM aS iU aB iL iE iP aR iW iT aT aC aH aE aQ iA iY iF iV aK) n 0 0 := by
  refine g_met (cc := cX6_favourite) (nL := 4) (ret := (some .int)) (by decide) (Nat.le_of_ble_eq_true rfl) (fun p e s m below meth c ls X hnm hl hI => ?_)
  have hl : lv_has ls 4 [(0, .ref o), (1, .int z1)] := hl
  have hx := X.1
  have hb := X.2.1
  unfold f_X6_favourite at hr
  refine lv_iconst (v := (-1)) hx hb dX6_favourite_0 (by decide) ?_
  refine lv_istore_n (lv' := [(2, .int (-1 : Int32)), (0, .ref o), (1, .int z1)]) hx hb dX6_favourite_1 rfl hl (by decide) rfl (fun ls hl => ?_)
  refine lv_iconst (v := 0) hx hb dX6_favourite_2 (by decide) ?_
  refine lv_istore_n (lv' := [(3, .int (0 : Int32)), (2, .int (-1 : Int32)), (0, .ref o), (1, .int z1)]) hx hb dX6_favourite_3 rfl hl (by decide) rfl (fun ls hl => ?_)
  exact w_X6_favourite_L4 X gN hr hI (lv_sub hl [2, 3, 1, 0] rfl)
abbrev rm_X6_robin : Room := { frames := 2, cells := 0, slots := 0, locals := 45 }
theorem hd_X6_robin : yX6_robin.cls = RX6 ∧ yX6_robin.cls ≠ "java/lang/invoke/MethodHandle" ∧ yX6_robin.cls ≠ "java/lang/invoke/VarHandle" ∧ (parseMethodDescriptor yX6_robin.desc).map (fun d => d.parameters.length) = some 1 := by decide +kernel
set_option maxHeartbeats 2000000 in
theorem w_X6_robin_L11 {h : gH} {n : Nat} {o : Nat} {aS : (Nat → Int32)} {iU : Int32} {aB : (Nat → Int32)} {iL : Int32} {iE : Int32} {iP : Int32} {aR : (Nat → Int32)} {iW : Int32} {iT : Int32} {aT : (Nat → Int32)} {aC : (Nat → Int32)} {aH : (Nat → Int32)} {aE : (Nat → Int32)} {aQ : (Nat → Int32)} {iA : Int32} {iY : Int32} {iF : Int32} {iV : Int32} {aK : (Nat → Int32)} {res : Int32 × (Nat → Int32)} (X : gXX x base RX6 cX6_robin 5 (some .int) p l s m args meth c) : ∀ (k : Nat) {z2 : Int32} {z3 : Int32} {z4 : Int32} {aM : (Nat → Int32)} {H : Heap} {locs : List Loc} {ls : Array Slot}, gL4 f_X6_robin_L11 k z2 z3 z4 aM = some res → gI x base s.heap (mH h o aM aS iU aB iL iE iP aR iW iT aT aC aH aE aQ iA iY iF iV aK) n H locs → lv_has ls 5 [(0, .ref o), (2, .int z2), (3, .int z3), (4, .int z4)] → W p l e rm_X6_robin s m args below meth c H locs 0 0 (MQ below (gQ x base (some (.int res.1)) (mH h o res.2 aS iU aB iL iE iP aR iW iT aT aC aH aE aQ iA iY iF iV aK) n) args s 0 0 (fun q => base ≤ q)) (F0 m 11 ls []) := by
  have hx := X.1
  have hb := X.2.1
  intro k
  induction k with
  | zero =>
    intros
    rename_i hr _ _
    exact nomatch (show (none : Option _) = some _ from hr)
  | succ k ih =>
    intro z2 z3 z4 aM H locs ls hr hI hl
    replace hr : f_X6_robin_L11 (gL4 f_X6_robin_L11 k) z2 z3 z4 aM = some res := hr
    unfold f_X6_robin_L11 at hr
    refine lv_iload hx hb dX6_robin_11 (lv_at hl 3 rfl) ?_
    refine lv_iconst (v := (-1)) hx hb dX6_robin_13 (by decide) ?_
    refine lv_icmp_eq (tgt := 51) hx hb dX6_robin_14 (by decide) (fun c9 => ?_) (fun c9 => ?_)
    · replace hr := gIf_t c9 hr
      refine lv_iload_n hx hb dX6_robin_51 rfl (lv_at hl 1 rfl) ?_
      have hr := gS_i hr
      subst hr
      exact g_iret X hI rfl (Nat.le_refl _) (Nat.le_refl _) dX6_robin_52
    · replace hr := gIf_f c9 hr
      refine lv_aload_n hx hb dX6_robin_17 rfl (lv_at hl 0 rfl) ?_
      refine m_get X hI mH_0 0 (by decide) q1652 rfl dX6_robin_18 ?_
      refine lv_iconst (v := 2) hx hb dX6_robin_21 (by decide) ?_
      refine lv_iload hx hb dX6_robin_22 (lv_at hl 3 rfl) ?_
      refine lv_iadd hx hb dX6_robin_24 ?_
      refine lv_iload_n hx hb dX6_robin_25 rfl (lv_at hl 2 rfl) ?_
      refine m_iast X hI mH_aaM mH_saM hr dX6_robin_26 (fun aM_3 H locs hI hr => ?_)
      refine lv_iinc (v := (z2 + (1 : Int32))) (lv' := [(2, .int (z2 + (1 : Int32))), (0, .ref o), (3, .int z3), (4, .int z4)]) hx hb dX6_robin_27 hl (k := 1) rfl (g_inc (by decide)) (by decide) rfl (fun ls hl => ?_)
      refine lv_iload_n hx hb dX6_robin_30 rfl (lv_at hl 2 rfl) ?_
      refine lv_iconst (v := 1) hx hb dX6_robin_31 (by decide) ?_
      refine lv_iadd hx hb dX6_robin_32 ?_
      refine lv_aload_n hx hb dX6_robin_33 rfl (lv_at hl 1 rfl) ?_
      refine m_get X hI mH_0 0 (by decide) q1652 rfl dX6_robin_34 ?_
      refine lv_iconst (v := 1) hx hb dX6_robin_37 (by decide) ?_
      refine m_iald X hI mH_aaM hr dX6_robin_38 (fun v4 hr => ?_)
      obtain ⟨c9, hr⟩ := gIf_o hr
      refine lv_irem hx hb dX6_robin_39 c9 ?_
      refine lv_istore_n (lv' := [(3, .int ((z3 + (1 : Int32)) - (z3 + (1 : Int32)) / v4 * v4)), (2, .int (z2 + (1 : Int32))), (0, .ref o), (4, .int z4)]) hx hb dX6_robin_40 rfl hl (by decide) rfl (fun ls hl => ?_)
      refine lv_aload_n hx hb dX6_robin_41 rfl (lv_at hl 2 rfl) ?_
      refine lv_iload_n hx hb dX6_robin_42 rfl (lv_at hl 0 rfl) ?_
      obtain ⟨v6, hc5, hr⟩ := gB_i hr
      refine gRun_i (g_runV X hI (w_X6_favourite hc5) (g_obj_s mH_0) rfl hl (lw_V q1864 q1866 qs76 q122 q1867) rfl rfl hd_X6_favourite ⟨Nat.le_of_ble_eq_true rfl, Nat.le_of_ble_eq_true rfl⟩ (as := [.int ((z3 + (1 : Int32)) - (z3 + (1 : Int32)) / v4 * v4)]) (rest := []) rfl rfl (Nat.le_of_ble_eq_true rfl) ⟨(Nat.le_refl _), (Nat.le_refl _)⟩ dX6_robin_43) (fun H locs hI => ?_)
      refine lv_istore (lv' := [(4, .int v6), (3, .int ((z3 + (1 : Int32)) - (z3 + (1 : Int32)) / v4 * v4)), (2, .int (z2 + (1 : Int32))), (0, .ref o)]) hx hb dX6_robin_46 hl (by decide) rfl (fun ls hl => ?_)
      refine lv_goto (tgt := 11) hx hb dX6_robin_48 (by decide) ?_
      exact ih hr hI (lv_sub hl [3, 2, 1, 0] rfl)
set_option maxHeartbeats 2000000 in
theorem w_X6_robin {l : Launch} {x : gV} {base : Nat} {z1 : Int32} {h : gH} {n : Nat} {o : Nat} {aM : (Nat → Int32)} {aS : (Nat → Int32)} {iU : Int32} {aB : (Nat → Int32)} {iL : Int32} {iE : Int32} {iP : Int32} {aR : (Nat → Int32)} {iW : Int32} {iT : Int32} {aT : (Nat → Int32)} {aC : (Nat → Int32)} {aH : (Nat → Int32)} {aE : (Nat → Int32)} {aQ : (Nat → Int32)} {iA : Int32} {iY : Int32} {iF : Int32} {iV : Int32} {aK : (Nat → Int32)} {res : Int32 × (Nat → Int32)} (hr : f_X6_robin z1 aM = some res) : gM l yX6_robin (ws_ yX6_robin cX6_robin 5 (some .int)) rm_X6_robin x base [.ref o, .int z1] (mH h o aM aS iU aB iL iE iP aR iW iT aT aC aH aE aQ iA iY iF iV aK) n (some (.int res.1)) (mH h o res.2 aS iU aB iL iE iP aR iW iT aT aC aH aE aQ iA iY iF iV aK) n 0 0 := by
  refine g_met (cc := cX6_robin) (nL := 5) (ret := (some .int)) (by decide) (Nat.le_of_ble_eq_true rfl) (fun p e s m below meth c ls X hnm hl hI => ?_)
  have hl : lv_has ls 5 [(0, .ref o), (1, .int z1)] := hl
  have hx := X.1
  have hb := X.2.1
  unfold f_X6_robin at hr
  refine lv_iconst (v := 0) hx hb dX6_robin_0 (by decide) ?_
  refine lv_istore_n (lv' := [(2, .int (0 : Int32)), (0, .ref o), (1, .int z1)]) hx hb dX6_robin_1 rfl hl (by decide) rfl (fun ls hl => ?_)
  refine lv_iload_n hx hb dX6_robin_2 rfl (lv_at hl 2 rfl) ?_
  refine lv_istore_n (lv' := [(3, .int z1), (2, .int (0 : Int32)), (0, .ref o), (1, .int z1)]) hx hb dX6_robin_3 rfl hl (by decide) rfl (fun ls hl => ?_)
  refine lv_aload_n hx hb dX6_robin_4 rfl (lv_at hl 2 rfl) ?_
  refine lv_iload_n hx hb dX6_robin_5 rfl (lv_at hl 0 rfl) ?_
  obtain ⟨v2, hc1, hr⟩ := gB_i hr
  refine gRun_i (g_runV X hI (w_X6_favourite hc1) (g_obj_s mH_0) rfl hl (lw_V q1864 q1866 qs76 q122 q1867) rfl rfl hd_X6_favourite ⟨Nat.le_of_ble_eq_true rfl, Nat.le_of_ble_eq_true rfl⟩ (as := [.int z1]) (rest := []) rfl rfl (Nat.le_of_ble_eq_true rfl) ⟨(Nat.le_refl _), (Nat.le_refl _)⟩ dX6_robin_6) (fun H locs hI => ?_)
  refine lv_istore (lv' := [(4, .int v2), (3, .int z1), (2, .int (0 : Int32)), (0, .ref o), (1, .int z1)]) hx hb dX6_robin_9 hl (by decide) rfl (fun ls hl => ?_)
  exact w_X6_robin_L11 X gN hr hI (lv_sub hl [3, 2, 1, 0] rfl)
abbrev rm_X6_turnCycle : Room := { frames := 6, cells := 0, slots := 0, locals := 138 }
theorem hd_X6_turnCycle : yX6_turnCycle.cls = RX6 ∧ yX6_turnCycle.cls ≠ "java/lang/invoke/MethodHandle" ∧ yX6_turnCycle.cls ≠ "java/lang/invoke/VarHandle" ∧ (parseMethodDescriptor yX6_turnCycle.desc).map (fun d => d.parameters.length) = some 1 := by decide +kernel
set_option maxHeartbeats 2000000 in
theorem w_X6_turnCycle_L28 {h : gH} {n : Nat} {o : Nat} {aS : (Nat → Int32)} {iU : Int32} {aB : (Nat → Int32)} {iL : Int32} {iE : Int32} {iP : Int32} {aR : (Nat → Int32)} {iW : Int32} {iT : Int32} {aT : (Nat → Int32)} {aC : (Nat → Int32)} {aH : (Nat → Int32)} {aE : (Nat → Int32)} {aQ : (Nat → Int32)} {iA : Int32} {iY : Int32} {iF : Int32} {iV : Int32} {aK : (Nat → Int32)} {r8 : Int32 → (Nat → Int32) → Option (Int32 × (Nat → Int32) × (Nat → Int32) × (Nat → Int32))} {z2 : Int32} {z3 : Int32} {z4 : Int32} {res : Int32 × (Nat → Int32) × (Nat → Int32) × (Nat → Int32)} (X : gXX x base RX6 cX6_turnCycle 6 (some .int) p l s m args meth c) (Hr8 : ∀ {z3 : Int32} {aM : (Nat → Int32)} {H : Heap} {locs : List Loc} {ls : Array Slot}, r8 z3 aM = some res → gI x base s.heap (mH h o aM aS iU aB iL iE iP aR iW iT aT aC aH aE aQ iA iY iF iV aK) n H locs → lv_has ls 6 [(0, .ref o), (2, .int z2), (3, .int z3)] → W p l e rm_X6_turnCycle s m args below meth c H locs 0 0 (MQ below (gQ x base (some (.int res.1)) (mH h o res.2.1 aS iU aB iL iE iP aR iW iT res.2.2.1 res.2.2.2 aH aE aQ iA iY iF iV aK) n) args s 0 0 (fun q => base ≤ q)) (F0 m 8 ls [])) : ∀ (k : Nat) {z5 : Int32} {aM : (Nat → Int32)} {H : Heap} {locs : List Loc} {ls : Array Slot}, gL2 (f_X6_turnCycle_L28 r8 z2 z3 z4 aT aC) k z5 aM = some res → gI x base s.heap (mH h o aM aS iU aB iL iE iP aR iW iT aT aC aH aE aQ iA iY iF iV aK) n H locs → lv_has ls 6 [(0, .ref o), (2, .int z2), (3, .int z3), (4, .int z4), (5, .int z5)] → W p l e rm_X6_turnCycle s m args below meth c H locs 0 0 (MQ below (gQ x base (some (.int res.1)) (mH h o res.2.1 aS iU aB iL iE iP aR iW iT res.2.2.1 res.2.2.2 aH aE aQ iA iY iF iV aK) n) args s 0 0 (fun q => base ≤ q)) (F0 m 28 ls []) := by
  have hx := X.1
  have hb := X.2.1
  intro k
  induction k with
  | zero =>
    intros
    rename_i hr _ _
    exact nomatch (show (none : Option _) = some _ from hr)
  | succ k ih =>
    intro z5 aM H locs ls hr hI hl
    replace hr : f_X6_turnCycle_L28 r8 z2 z3 z4 aT aC (gL2 (f_X6_turnCycle_L28 r8 z2 z3 z4 aT aC) k) z5 aM = some res := hr
    unfold f_X6_turnCycle_L28 at hr
    refine lv_iload hx hb dX6_turnCycle_28 (lv_at hl 4 rfl) ?_
    refine lv_iload_n hx hb dX6_turnCycle_30 rfl (lv_at hl 1 rfl) ?_
    refine lv_icmp_ge (tgt := 73) hx hb dX6_turnCycle_31 (by decide) (fun c9 => ?_) (fun c9 => ?_)
    · replace hr := gIf_t c9 hr
      refine lv_iinc (v := (z3 + (1 : Int32))) (lv' := [(3, .int (z3 + (1 : Int32))), (0, .ref o), (2, .int z2), (4, .int z4), (5, .int z5)]) hx hb dX6_turnCycle_73 hl (k := 2) rfl (g_inc (by decide)) (by decide) rfl (fun ls hl => ?_)
      refine lv_goto (tgt := 8) hx hb dX6_turnCycle_76 (by decide) ?_
      exact Hr8 hr hI (lv_sub hl [1, 2, 0] rfl)
    · replace hr := gIf_f c9 hr
      refine lv_aload_n hx hb dX6_turnCycle_34 rfl (lv_at hl 0 rfl) ?_
      refine m_get X hI mH_0 11 (by decide) q1663 rfl dX6_turnCycle_35 ?_
      refine lv_iload hx hb dX6_turnCycle_38 (lv_at hl 4 rfl) ?_
      refine m_iald X hI mH_aaC hr dX6_turnCycle_40 (fun v8 hr => ?_)
      refine lv_iload hx hb dX6_turnCycle_41 (lv_at hl 3 rfl) ?_
      refine lv_icmp_ne (tgt := 67) hx hb dX6_turnCycle_43 (by decide) (fun c9 => ?_) (fun c9 => ?_)
      · replace hr := gIf_f c9 hr
        refine lv_iinc (v := (z5 + (1 : Int32))) (lv' := [(5, .int (z5 + (1 : Int32))), (0, .ref o), (2, .int z2), (3, .int z3), (4, .int z4)]) hx hb dX6_turnCycle_67 hl (k := 4) rfl (g_inc (by decide)) (by decide) rfl (fun ls hl => ?_)
        refine lv_goto (tgt := 28) hx hb dX6_turnCycle_70 (by decide) ?_
        exact ih hr hI (lv_sub hl [1, 2, 3, 4, 0] rfl)
      · replace hr := gIf_t c9 hr
        refine lv_aload_n hx hb dX6_turnCycle_46 rfl (lv_at hl 0 rfl) ?_
        refine m_get X hI mH_0 0 (by decide) q1652 rfl dX6_turnCycle_47 ?_
        refine lv_iconst (v := 2) hx hb dX6_turnCycle_50 (by decide) ?_
        refine lv_iload_n hx hb dX6_turnCycle_51 rfl (lv_at hl 2 rfl) ?_
        refine lv_iadd hx hb dX6_turnCycle_52 ?_
        refine lv_aload_n hx hb dX6_turnCycle_53 rfl (lv_at hl 0 rfl) ?_
        refine m_get X hI mH_0 11 (by decide) q1663 rfl dX6_turnCycle_54 ?_
        refine lv_iload hx hb dX6_turnCycle_57 (lv_at hl 4 rfl) ?_
        refine lv_iload_n hx hb dX6_turnCycle_59 rfl (lv_at hl 1 rfl) ?_
        refine lv_iadd hx hb dX6_turnCycle_60 ?_
        refine lv_iconst (v := 1) hx hb dX6_turnCycle_61 (by decide) ?_
        refine lv_isub hx hb dX6_turnCycle_62 ?_
        refine lv_iload_n hx hb dX6_turnCycle_63 rfl (lv_at hl 1 rfl) ?_
        obtain ⟨c9, hr⟩ := gIf_o hr
        refine lv_irem hx hb dX6_turnCycle_64 c9 ?_
        refine m_iald X hI mH_aaC hr dX6_turnCycle_65 (fun v9 hr => ?_)
        refine m_iast X hI mH_aaM mH_saM hr dX6_turnCycle_66 (fun aM_10 H locs hI hr => ?_)
        refine lv_iinc (v := (z5 + (1 : Int32))) (lv' := [(5, .int (z5 + (1 : Int32))), (0, .ref o), (2, .int z2), (3, .int z3), (4, .int z4)]) hx hb dX6_turnCycle_67 hl (k := 4) rfl (g_inc (by decide)) (by decide) rfl (fun ls hl => ?_)
        refine lv_goto (tgt := 28) hx hb dX6_turnCycle_70 (by decide) ?_
        exact ih hr hI (lv_sub hl [1, 2, 3, 4, 0] rfl)
set_option maxHeartbeats 2000000 in
theorem w_X6_turnCycle_L8 {h : gH} {n : Nat} {o : Nat} {aS : (Nat → Int32)} {iU : Int32} {aB : (Nat → Int32)} {iL : Int32} {iE : Int32} {iP : Int32} {aR : (Nat → Int32)} {iW : Int32} {iT : Int32} {aT : (Nat → Int32)} {aC : (Nat → Int32)} {aH : (Nat → Int32)} {aE : (Nat → Int32)} {aQ : (Nat → Int32)} {iA : Int32} {iY : Int32} {iF : Int32} {iV : Int32} {aK : (Nat → Int32)} {z2 : Int32} {res : Int32 × (Nat → Int32) × (Nat → Int32) × (Nat → Int32)} (X : gXX x base RX6 cX6_turnCycle 6 (some .int) p l s m args meth c) : ∀ (k : Nat) {z3 : Int32} {aM : (Nat → Int32)} {H : Heap} {locs : List Loc} {ls : Array Slot}, gL2 (f_X6_turnCycle_L8 z2 aT aC) k z3 aM = some res → gI x base s.heap (mH h o aM aS iU aB iL iE iP aR iW iT aT aC aH aE aQ iA iY iF iV aK) n H locs → lv_has ls 6 [(0, .ref o), (2, .int z2), (3, .int z3)] → W p l e rm_X6_turnCycle s m args below meth c H locs 0 0 (MQ below (gQ x base (some (.int res.1)) (mH h o res.2.1 aS iU aB iL iE iP aR iW iT res.2.2.1 res.2.2.2 aH aE aQ iA iY iF iV aK) n) args s 0 0 (fun q => base ≤ q)) (F0 m 8 ls []) := by
  have hx := X.1
  have hb := X.2.1
  intro k
  induction k with
  | zero =>
    intros
    rename_i hr _ _
    exact nomatch (show (none : Option _) = some _ from hr)
  | succ k ih =>
    intro z3 aM H locs ls hr hI hl
    replace hr : f_X6_turnCycle_L8 z2 aT aC (gL2 (f_X6_turnCycle_L8 z2 aT aC) k) z3 aM = some res := hr
    unfold f_X6_turnCycle_L8 at hr
    refine lv_iload_n hx hb dX6_turnCycle_8 rfl (lv_at hl 2 rfl) ?_
    refine lv_aload_n hx hb dX6_turnCycle_9 rfl (lv_at hl 0 rfl) ?_
    refine m_get X hI mH_0 0 (by decide) q1652 rfl dX6_turnCycle_10 ?_
    refine lv_iconst (v := 0) hx hb dX6_turnCycle_13 (by decide) ?_
    refine m_iald X hI mH_aaM hr dX6_turnCycle_14 (fun v5 hr => ?_)
    refine lv_icmp_ge (tgt := 79) hx hb dX6_turnCycle_15 (by decide) (fun c9 => ?_) (fun c9 => ?_)
    · replace hr := gIf_t c9 hr
      refine lv_iload_n hx hb dX6_turnCycle_79 rfl (lv_at hl 1 rfl) ?_
      have hr := gS_i hr
      subst hr
      exact g_iret X hI rfl (Nat.le_refl _) (Nat.le_refl _) dX6_turnCycle_80
    · replace hr := gIf_f c9 hr
      refine lv_aload_n hx hb dX6_turnCycle_18 rfl (lv_at hl 0 rfl) ?_
      refine lv_iload_n hx hb dX6_turnCycle_19 rfl (lv_at hl 2 rfl) ?_
      obtain ⟨v7, hc6, hr⟩ := gB_i hr
      refine gRun_i (g_runV X hI (w_X6_ownerOf hc6) (g_obj_s mH_0) rfl hl (lw_V q1804 q1806 qs61 q122 q1807) rfl rfl hd_X6_ownerOf ⟨Nat.le_of_ble_eq_true rfl, Nat.le_of_ble_eq_true rfl⟩ (as := [.int z3]) (rest := []) rfl rfl (Nat.le_of_ble_eq_true rfl) ⟨(Nat.le_refl _), (Nat.le_refl _)⟩ dX6_turnCycle_20) (fun H locs hI => ?_)
      refine lv_istore (lv' := [(4, .int v7), (0, .ref o), (2, .int z2), (3, .int z3)]) hx hb dX6_turnCycle_23 hl (by decide) rfl (fun ls hl => ?_)
      refine lv_iconst (v := 0) hx hb dX6_turnCycle_25 (by decide) ?_
      refine lv_istore (lv' := [(5, .int (0 : Int32)), (4, .int v7), (0, .ref o), (2, .int z2), (3, .int z3)]) hx hb dX6_turnCycle_26 hl (by decide) rfl (fun ls hl => ?_)
      exact w_X6_turnCycle_L28 X ih gN hr hI (lv_sub hl [2, 3, 4, 1, 0] rfl)
set_option maxHeartbeats 2000000 in
theorem w_X6_turnCycle {l : Launch} {x : gV} {base : Nat} {z1 : Int32} {h : gH} {n : Nat} {o : Nat} {aM : (Nat → Int32)} {aS : (Nat → Int32)} {iU : Int32} {aB : (Nat → Int32)} {iL : Int32} {iE : Int32} {iP : Int32} {aR : (Nat → Int32)} {iW : Int32} {iT : Int32} {aT : (Nat → Int32)} {aC : (Nat → Int32)} {aH : (Nat → Int32)} {aE : (Nat → Int32)} {aQ : (Nat → Int32)} {iA : Int32} {iY : Int32} {iF : Int32} {iV : Int32} {aK : (Nat → Int32)} {res : Int32 × (Nat → Int32) × (Nat → Int32) × (Nat → Int32)} (hr : f_X6_turnCycle z1 aM aT aC = some res) : gM l yX6_turnCycle (ws_ yX6_turnCycle cX6_turnCycle 6 (some .int)) rm_X6_turnCycle x base [.ref o, .int z1] (mH h o aM aS iU aB iL iE iP aR iW iT aT aC aH aE aQ iA iY iF iV aK) n (some (.int res.1)) (mH h o res.2.1 aS iU aB iL iE iP aR iW iT res.2.2.1 res.2.2.2 aH aE aQ iA iY iF iV aK) n 0 0 := by
  refine g_met (cc := cX6_turnCycle) (nL := 6) (ret := (some .int)) (by decide) (Nat.le_of_ble_eq_true rfl) (fun p e s m below meth c ls X hnm hl hI => ?_)
  have hl : lv_has ls 6 [(0, .ref o), (1, .int z1)] := hl
  have hx := X.1
  have hb := X.2.1
  unfold f_X6_turnCycle at hr
  refine lv_aload_n hx hb dX6_turnCycle_0 rfl (lv_at hl 0 rfl) ?_
  refine lv_iload_n hx hb dX6_turnCycle_1 rfl (lv_at hl 1 rfl) ?_
  obtain ⟨v2, aT_3, aC_4, hc1, hr⟩ := gT3_i hr
  refine gRun_i (g_runV X hI (w_X6_findCycle hc1) (g_obj_s mH_0) rfl hl (lw_V q1788 q1790 qs57 q122 q1791) rfl rfl hd_X6_findCycle ⟨Nat.le_of_ble_eq_true rfl, Nat.le_of_ble_eq_true rfl⟩ (as := [.int z1]) (rest := []) rfl rfl (Nat.le_of_ble_eq_true rfl) ⟨(Nat.le_refl _), (Nat.le_refl _)⟩ dX6_turnCycle_2) (fun H locs hI => ?_)
  refine lv_istore_n (lv' := [(2, .int v2), (0, .ref o), (1, .int z1)]) hx hb dX6_turnCycle_5 rfl hl (by decide) rfl (fun ls hl => ?_)
  refine lv_iconst (v := 0) hx hb dX6_turnCycle_6 (by decide) ?_
  refine lv_istore_n (lv' := [(3, .int (0 : Int32)), (2, .int v2), (0, .ref o), (1, .int z1)]) hx hb dX6_turnCycle_7 rfl hl (by decide) rfl (fun ls hl => ?_)
  exact w_X6_turnCycle_L8 X gN hr hI (lv_sub hl [2, 1, 0] rfl)
abbrev rm_X6_doIt : Room := { frames := 7, cells := 0, slots := 0, locals := 163 }
theorem hd_X6_doIt : yX6_doIt.cls = RX6 ∧ yX6_doIt.cls ≠ "java/lang/invoke/MethodHandle" ∧ yX6_doIt.cls ≠ "java/lang/invoke/VarHandle" ∧ (parseMethodDescriptor yX6_doIt.desc).map (fun d => d.parameters.length) = some 4 := by decide +kernel
set_option maxHeartbeats 2000000 in
theorem w_X6_doIt {l : Launch} {x : gV} {base : Nat} {z1 : Int32} {z2 : Int32} {z3 : Int32} {z4 : Int32} {h : gH} {n : Nat} {o : Nat} {aM : (Nat → Int32)} {aS : (Nat → Int32)} {iU : Int32} {aB : (Nat → Int32)} {iL : Int32} {iE : Int32} {iP : Int32} {aR : (Nat → Int32)} {iW : Int32} {iT : Int32} {aT : (Nat → Int32)} {aC : (Nat → Int32)} {aH : (Nat → Int32)} {aE : (Nat → Int32)} {aQ : (Nat → Int32)} {iA : Int32} {iY : Int32} {iF : Int32} {iV : Int32} {aK : (Nat → Int32)} {res : (Nat → Int32) × (Nat → Int32) × (Nat → Int32) × (Nat → Int32)} (hr : f_X6_doIt z1 z2 z3 z4 aM aT aC aH = some res) : gM l yX6_doIt (ws_ yX6_doIt cX6_doIt 5 none) rm_X6_doIt x base [.ref o, .int z1, .int z2, .int z3, .int z4] (mH h o aM aS iU aB iL iE iP aR iW iT aT aC aH aE aQ iA iY iF iV aK) n none (mH h o res.1 aS iU aB iL iE iP aR iW iT res.2.1 res.2.2.1 res.2.2.2 aE aQ iA iY iF iV aK) n 0 0 := by
  refine g_met (cc := cX6_doIt) (nL := 5) (ret := none) (by decide) (Nat.le_of_ble_eq_true rfl) (fun p e s m below meth c ls X hnm hl hI => ?_)
  have hl : lv_has ls 5 [(0, .ref o), (1, .int z1), (2, .int z2), (3, .int z3), (4, .int z4)] := hl
  have hx := X.1
  have hb := X.2.1
  unfold f_X6_doIt at hr
  refine lv_iload_n hx hb dX6_doIt_0 rfl (lv_at hl 1 rfl) ?_
  by_cases c9 : z1 = 0
  · replace hr := gIf_t c9 hr
    refine lv_tableIn (off := 43) (tgt := 44) hx hb dX6_doIt_1 (by rw [c9]; decide) (by rw [c9]; decide) (by rw [c9]; rfl) (by decide) ?_
    refine lv_aload_n hx hb dX6_doIt_44 rfl (lv_at hl 0 rfl) ?_
    refine lv_iload_n hx hb dX6_doIt_45 rfl (lv_at hl 2 rfl) ?_
    refine lv_iload_n hx hb dX6_doIt_46 rfl (lv_at hl 3 rfl) ?_
    refine lv_iload hx hb dX6_doIt_47 (lv_at hl 4 rfl) ?_
    obtain ⟨aM_2, hc1, hr⟩ := gB_i hr
    refine gRun_v (g_runV X hI (w_X6_own hc1) (g_obj_s mH_0) rfl hl (lw_V q1820 q1822 qs65 q122 q1823) rfl rfl hd_X6_own ⟨Nat.le_of_ble_eq_true rfl, Nat.le_of_ble_eq_true rfl⟩ (as := [.int z2, .int z3, .int z4]) (rest := []) rfl rfl (Nat.le_of_ble_eq_true rfl) ⟨(Nat.le_refl _), (Nat.le_refl _)⟩ dX6_doIt_49) (fun H locs hI => ?_)
    refine lv_goto (tgt := 130) hx hb dX6_doIt_52 (by decide) ?_
    have hr := gS_i hr
    subst hr
    exact g_vret X hI (Nat.le_refl _) (Nat.le_refl _) dX6_doIt_130
  replace hr := gIf_f c9 hr
  have n0 := c9
  by_cases c9 : z1 = 1
  · replace hr := gIf_t c9 hr
    refine lv_tableIn (off := 54) (tgt := 55) hx hb dX6_doIt_1 (by rw [c9]; decide) (by rw [c9]; decide) (by rw [c9]; rfl) (by decide) ?_
    refine lv_aload_n hx hb dX6_doIt_55 rfl (lv_at hl 0 rfl) ?_
    refine lv_iconst (v := (-1)) hx hb dX6_doIt_56 (by decide) ?_
    refine lv_iload_n hx hb dX6_doIt_57 rfl (lv_at hl 3 rfl) ?_
    refine lv_iload hx hb dX6_doIt_58 (lv_at hl 4 rfl) ?_
    obtain ⟨aM_4, hc3, hr⟩ := gB_i hr
    refine gRun_v (g_runV X hI (w_X6_own hc3) (g_obj_s mH_0) rfl hl (lw_V q1820 q1822 qs65 q122 q1823) rfl rfl hd_X6_own ⟨Nat.le_of_ble_eq_true rfl, Nat.le_of_ble_eq_true rfl⟩ (as := [.int (-1 : Int32), .int z3, .int z4]) (rest := []) rfl rfl (Nat.le_of_ble_eq_true rfl) ⟨(Nat.le_refl _), (Nat.le_refl _)⟩ dX6_doIt_60) (fun H locs hI => ?_)
    refine lv_goto (tgt := 130) hx hb dX6_doIt_63 (by decide) ?_
    have hr := gS_i hr
    subst hr
    exact g_vret X hI (Nat.le_refl _) (Nat.le_refl _) dX6_doIt_130
  replace hr := gIf_f c9 hr
  have n1 := c9
  by_cases c9 : z1 = 2
  · replace hr := gIf_t c9 hr
    refine lv_tableIn (off := 65) (tgt := 66) hx hb dX6_doIt_1 (by rw [c9]; decide) (by rw [c9]; decide) (by rw [c9]; rfl) (by decide) ?_
    refine lv_aload_n hx hb dX6_doIt_66 rfl (lv_at hl 0 rfl) ?_
    refine lv_iload_n hx hb dX6_doIt_67 rfl (lv_at hl 2 rfl) ?_
    refine lv_iload_n hx hb dX6_doIt_68 rfl (lv_at hl 3 rfl) ?_
    obtain ⟨aM_6, hc5, hr⟩ := gB_i hr
    refine gRun_v (g_runV X hI (w_X6_exchange hc5) (g_obj_s mH_0) rfl hl (lw_V q1824 q1826 qs66 q122 q1827) rfl rfl hd_X6_exchange ⟨Nat.le_of_ble_eq_true rfl, Nat.le_of_ble_eq_true rfl⟩ (as := [.int z2, .int z3]) (rest := []) rfl rfl (Nat.le_of_ble_eq_true rfl) ⟨(Nat.le_refl _), (Nat.le_refl _)⟩ dX6_doIt_69) (fun H locs hI => ?_)
    refine lv_goto (tgt := 130) hx hb dX6_doIt_72 (by decide) ?_
    have hr := gS_i hr
    subst hr
    exact g_vret X hI (Nat.le_refl _) (Nat.le_refl _) dX6_doIt_130
  replace hr := gIf_f c9 hr
  have n2 := c9
  by_cases c9 : z1 = 3
  · replace hr := gIf_t c9 hr
    refine lv_tableIn (off := 74) (tgt := 75) hx hb dX6_doIt_1 (by rw [c9]; decide) (by rw [c9]; decide) (by rw [c9]; rfl) (by decide) ?_
    refine lv_aload_n hx hb dX6_doIt_75 rfl (lv_at hl 0 rfl) ?_
    refine m_get X hI mH_0 0 (by decide) q1652 rfl dX6_doIt_76 ?_
    refine lv_bipush (v := 26) hx hb dX6_doIt_79 (by decide) ?_
    refine lv_iload_n hx hb dX6_doIt_81 rfl (lv_at hl 2 rfl) ?_
    refine lv_bipush (v := 31) hx hb dX6_doIt_82 (by decide) ?_
    refine lv_imul hx hb dX6_doIt_84 ?_
    refine lv_iadd hx hb dX6_doIt_85 ?_
    refine lv_bipush (v := 7) hx hb dX6_doIt_86 (by decide) ?_
    refine lv_iadd hx hb dX6_doIt_88 ?_
    refine lv_iload_n hx hb dX6_doIt_89 rfl (lv_at hl 3 rfl) ?_
    refine lv_iadd hx hb dX6_doIt_90 ?_
    refine lv_iload hx hb dX6_doIt_91 (lv_at hl 4 rfl) ?_
    refine m_iast X hI mH_aaM mH_saM hr dX6_doIt_93 (fun aM_7 H locs hI hr => ?_)
    refine lv_goto (tgt := 130) hx hb dX6_doIt_94 (by decide) ?_
    have hr := gS_i hr
    subst hr
    exact g_vret X hI (Nat.le_refl _) (Nat.le_refl _) dX6_doIt_130
  replace hr := gIf_f c9 hr
  have n3 := c9
  by_cases c9 : z1 = 4
  · replace hr := gIf_t c9 hr
    refine lv_tableIn (off := 96) (tgt := 97) hx hb dX6_doIt_1 (by rw [c9]; decide) (by rw [c9]; decide) (by rw [c9]; rfl) (by decide) ?_
    refine lv_aload_n hx hb dX6_doIt_97 rfl (lv_at hl 0 rfl) ?_
    refine lv_iload_n hx hb dX6_doIt_98 rfl (lv_at hl 2 rfl) ?_
    refine lv_iload_n hx hb dX6_doIt_99 rfl (lv_at hl 3 rfl) ?_
    obtain ⟨v9, aM_10, hc8, hr⟩ := gT2_i hr
    refine gRun_i (g_runV X hI (w_X6_divide hc8) (g_obj_s mH_0) rfl hl (lw_V q1828 q1830 qs67 q122 q1831) rfl rfl hd_X6_divide ⟨Nat.le_of_ble_eq_true rfl, Nat.le_of_ble_eq_true rfl⟩ (as := [.int z2, .int z3]) (rest := []) rfl rfl (Nat.le_of_ble_eq_true rfl) ⟨(Nat.le_refl _), (Nat.le_refl _)⟩ dX6_doIt_100) (fun H locs hI => ?_)
    refine lv_pop hx hb dX6_doIt_103 rfl ?_
    refine lv_goto (tgt := 130) hx hb dX6_doIt_104 (by decide) ?_
    have hr := gS_i hr
    subst hr
    exact g_vret X hI (Nat.le_refl _) (Nat.le_refl _) dX6_doIt_130
  replace hr := gIf_f c9 hr
  have n4 := c9
  by_cases c9 : z1 = 5
  · replace hr := gIf_t c9 hr
    refine lv_tableIn (off := 106) (tgt := 107) hx hb dX6_doIt_1 (by rw [c9]; decide) (by rw [c9]; decide) (by rw [c9]; rfl) (by decide) ?_
    refine lv_aload_n hx hb dX6_doIt_107 rfl (lv_at hl 0 rfl) ?_
    obtain ⟨v12, aM_13, aH_14, hc11, hr⟩ := gT3_i hr
    refine gRun_i (g_runV X hI (w_X6_knife hc11) (g_obj_s mH_0) rfl hl (lw_V q1844 q1846 qs71 q122 q1847) rfl rfl hd_X6_knife ⟨Nat.le_of_ble_eq_true rfl, Nat.le_of_ble_eq_true rfl⟩ (as := []) (rest := []) rfl rfl (Nat.le_of_ble_eq_true rfl) ⟨(Nat.le_refl _), (Nat.le_refl _)⟩ dX6_doIt_108) (fun H locs hI => ?_)
    refine lv_pop hx hb dX6_doIt_111 rfl ?_
    refine lv_goto (tgt := 130) hx hb dX6_doIt_112 (by decide) ?_
    have hr := gS_i hr
    subst hr
    exact g_vret X hI (Nat.le_refl _) (Nat.le_refl _) dX6_doIt_130
  replace hr := gIf_f c9 hr
  have n5 := c9
  by_cases c9 : z1 = 6
  · replace hr := gIf_t c9 hr
    refine lv_tableIn (off := 114) (tgt := 115) hx hb dX6_doIt_1 (by rw [c9]; decide) (by rw [c9]; decide) (by rw [c9]; rfl) (by decide) ?_
    refine lv_aload_n hx hb dX6_doIt_115 rfl (lv_at hl 0 rfl) ?_
    refine lv_iload_n hx hb dX6_doIt_116 rfl (lv_at hl 2 rfl) ?_
    obtain ⟨v16, aM_17, hc15, hr⟩ := gT2_i hr
    refine gRun_i (g_runV X hI (w_X6_robin hc15) (g_obj_s mH_0) rfl hl (lw_V q1860 q1862 qs75 q122 q1863) rfl rfl hd_X6_robin ⟨Nat.le_of_ble_eq_true rfl, Nat.le_of_ble_eq_true rfl⟩ (as := [.int z2]) (rest := []) rfl rfl (Nat.le_of_ble_eq_true rfl) ⟨(Nat.le_refl _), (Nat.le_refl _)⟩ dX6_doIt_117) (fun H locs hI => ?_)
    refine lv_pop hx hb dX6_doIt_120 rfl ?_
    refine lv_goto (tgt := 130) hx hb dX6_doIt_121 (by decide) ?_
    have hr := gS_i hr
    subst hr
    exact g_vret X hI (Nat.le_refl _) (Nat.le_refl _) dX6_doIt_130
  replace hr := gIf_f c9 hr
  have n6 := c9
  refine lv_tableOut (tgt := 124) hx hb dX6_doIt_1 (by have m0 := lv_neT (a := 0) n0 (by decide); have m1 := lv_neT (a := 1) n1 (by decide); have m2 := lv_neT (a := 2) n2 (by decide); have m3 := lv_neT (a := 3) n3 (by decide); have m4 := lv_neT (a := 4) n4 (by decide); have m5 := lv_neT (a := 5) n5 (by decide); have m6 := lv_neT (a := 6) n6 (by decide); omega) (by decide) ?_
  refine lv_aload_n hx hb dX6_doIt_124 rfl (lv_at hl 0 rfl) ?_
  refine lv_iload_n hx hb dX6_doIt_125 rfl (lv_at hl 2 rfl) ?_
  obtain ⟨v19, aM_20, aT_21, aC_22, hc18, hr⟩ := gT4_i hr
  refine gRun_i (g_runV X hI (w_X6_turnCycle hc18) (g_obj_s mH_0) rfl hl (lw_V q1868 q1870 qs77 q122 q1871) rfl rfl hd_X6_turnCycle ⟨Nat.le_of_ble_eq_true rfl, Nat.le_of_ble_eq_true rfl⟩ (as := [.int z2]) (rest := []) rfl rfl (Nat.le_of_ble_eq_true rfl) ⟨(Nat.le_refl _), (Nat.le_refl _)⟩ dX6_doIt_126) (fun H locs hI => ?_)
  refine lv_pop hx hb dX6_doIt_129 rfl ?_
  have hr := gS_i hr
  subst hr
  exact g_vret X hI (Nat.le_refl _) (Nat.le_refl _) dX6_doIt_130
abbrev rm_X6_runScript : Room := { frames := 10, cells := 0, slots := 0, locals := 489 }
theorem hd_X6_runScript : yX6_runScript.cls = RX6 ∧ yX6_runScript.cls ≠ "java/lang/invoke/MethodHandle" ∧ yX6_runScript.cls ≠ "java/lang/invoke/VarHandle" ∧ (parseMethodDescriptor yX6_runScript.desc).map (fun d => d.parameters.length) = some 0 := by decide +kernel
set_option maxHeartbeats 2000000 in
theorem w_X6_runScript_L42 {h : gH} {n : Nat} {o : Nat} {aS : (Nat → Int32)} {iU : Int32} {aB : (Nat → Int32)} {iL : Int32} {iE : Int32} {iP : Int32} {aR : (Nat → Int32)} {iW : Int32} {iT : Int32} {aE : (Nat → Int32)} {aQ : (Nat → Int32)} {iA : Int32} {iY : Int32} {iF : Int32} {iV : Int32} {aK : (Nat → Int32)} {z1 : Int32} {res : Int32 × (Nat → Int32) × Int32 × Int32 × Int32 × Int32 × Int32 × (Nat → Int32) × (Nat → Int32) × (Nat → Int32) × Int32 × Int32 × Int32 × Int32 × (Nat → Int32)} (X : gXX x base RX6 cX6_runScript 4 (some .int) p l s m args meth c) : ∀ (k : Nat) {z2 : Int32} {aM : (Nat → Int32)} {aT : (Nat → Int32)} {aC : (Nat → Int32)} {aH : (Nat → Int32)} {H : Heap} {locs : List Loc} {ls : Array Slot}, gL5 (f_X6_runScript_L42 x z1 iU aB iL iE iP iT iA iY iF iV aK) k z2 aM aT aC aH = some res → gI x base s.heap (mH h o aM aS iU aB iL iE iP aR iW iT aT aC aH aE aQ iA iY iF iV aK) n H locs → lv_has ls 4 [(0, .ref o), (1, .int z1), (2, .int z2)] → W p l e rm_X6_runScript s m args below meth c H locs 0 0 (MQ below (gQ x base (some (.int res.1)) (mH h o res.2.1 aS res.2.2.1 aB res.2.2.2.1 res.2.2.2.2.1 res.2.2.2.2.2.1 aR iW res.2.2.2.2.2.2.1 res.2.2.2.2.2.2.2.1 res.2.2.2.2.2.2.2.2.1 res.2.2.2.2.2.2.2.2.2.1 aE aQ res.2.2.2.2.2.2.2.2.2.2.1 res.2.2.2.2.2.2.2.2.2.2.2.1 res.2.2.2.2.2.2.2.2.2.2.2.2.1 res.2.2.2.2.2.2.2.2.2.2.2.2.2.1 res.2.2.2.2.2.2.2.2.2.2.2.2.2.2) n) args s 0 0 (fun q => base ≤ q)) (F0 m 42 ls []) := by
  have hx := X.1
  have hb := X.2.1
  intro k
  induction k with
  | zero =>
    intros
    rename_i hr _ _
    exact nomatch (show (none : Option _) = some _ from hr)
  | succ k ih =>
    intro z2 aM aT aC aH H locs ls hr hI hl
    replace hr : f_X6_runScript_L42 x z1 iU aB iL iE iP iT iA iY iF iV aK (gL5 (f_X6_runScript_L42 x z1 iU aB iL iE iP iT iA iY iF iV aK) k) z2 aM aT aC aH = some res := hr
    unfold f_X6_runScript_L42 at hr
    refine lv_iload_n hx hb dX6_runScript_42 rfl (lv_at hl 2 rfl) ?_
    refine lv_iload_n hx hb dX6_runScript_43 rfl (lv_at hl 1 rfl) ?_
    refine lv_icmp_ge (tgt := 130) hx hb dX6_runScript_44 (by decide) (fun c9 => ?_) (fun c9 => ?_)
    · replace hr := gIf_t c9 hr
      refine lv_iload_n hx hb dX6_runScript_130 rfl (lv_at hl 1 rfl) ?_
      have hr := gS_i hr
      subst hr
      exact g_iret X hI rfl (Nat.le_refl _) (Nat.le_refl _) dX6_runScript_131
    · replace hr := gIf_f c9 hr
      refine lv_iload_n hx hb dX6_runScript_47 rfl (lv_at hl 2 rfl) ?_
      refine lv_iconst (v := 4) hx hb dX6_runScript_48 (by decide) ?_
      refine lv_imul hx hb dX6_runScript_49 ?_
      refine lv_istore_n (lv' := [(3, .int (z2 * (4 : Int32))), (0, .ref o), (1, .int z1), (2, .int z2)]) hx hb dX6_runScript_50 rfl hl (by decide) rfl (fun ls hl => ?_)
      refine lv_aload_n hx hb dX6_runScript_51 rfl (lv_at hl 1 rfl) ?_
      refine lv_aload_n hx hb dX6_runScript_52 rfl (lv_at hl 1 rfl) ?_
      refine m_get X hI mH_0 19 (by decide) q1671 rfl dX6_runScript_53 ?_
      refine lv_iload_n hx hb dX6_runScript_56 rfl (lv_at hl 0 rfl) ?_
      refine m_iald X hI mH_aaK hr dX6_runScript_57 (fun v23 hr => ?_)
      refine lv_aload_n hx hb dX6_runScript_58 rfl (lv_at hl 1 rfl) ?_
      refine m_get X hI mH_0 19 (by decide) q1671 rfl dX6_runScript_59 ?_
      refine lv_iload_n hx hb dX6_runScript_62 rfl (lv_at hl 0 rfl) ?_
      refine lv_iconst (v := 1) hx hb dX6_runScript_63 (by decide) ?_
      refine lv_iadd hx hb dX6_runScript_64 ?_
      refine m_iald X hI mH_aaK hr dX6_runScript_65 (fun v24 hr => ?_)
      refine lv_aload_n hx hb dX6_runScript_66 rfl (lv_at hl 1 rfl) ?_
      refine m_get X hI mH_0 19 (by decide) q1671 rfl dX6_runScript_67 ?_
      refine lv_iload_n hx hb dX6_runScript_70 rfl (lv_at hl 0 rfl) ?_
      refine lv_iconst (v := 2) hx hb dX6_runScript_71 (by decide) ?_
      refine lv_iadd hx hb dX6_runScript_72 ?_
      refine m_iald X hI mH_aaK hr dX6_runScript_73 (fun v25 hr => ?_)
      refine lv_aload_n hx hb dX6_runScript_74 rfl (lv_at hl 1 rfl) ?_
      refine m_get X hI mH_0 19 (by decide) q1671 rfl dX6_runScript_75 ?_
      refine lv_iload_n hx hb dX6_runScript_78 rfl (lv_at hl 0 rfl) ?_
      refine lv_iconst (v := 3) hx hb dX6_runScript_79 (by decide) ?_
      refine lv_iadd hx hb dX6_runScript_80 ?_
      refine m_iald X hI mH_aaK hr dX6_runScript_81 (fun v26 hr => ?_)
      obtain ⟨v28, aT_29, aC_30, hc27, hr⟩ := gT3_i hr
      refine gRun_i (g_runV X hI (w_X6_canDo hc27) (g_obj_s mH_0) rfl hl (lw_V q1776 q1778 qs54 q122 q1779) rfl rfl hd_X6_canDo ⟨Nat.le_of_ble_eq_true rfl, Nat.le_of_ble_eq_true rfl⟩ (as := [.int v23, .int v24, .int v25, .int v26]) (rest := []) rfl rfl (Nat.le_of_ble_eq_true rfl) ⟨(Nat.le_refl _), (Nat.le_refl _)⟩ dX6_runScript_82) (fun H locs hI => ?_)
      refine lv_if_ne (tgt := 90) hx hb dX6_runScript_85 (by decide) (fun c9 => ?_) (fun c9 => ?_)
      · replace hr := gIf_f c9 hr
        refine lv_aload_n hx hb dX6_runScript_90 rfl (lv_at hl 1 rfl) ?_
        refine lv_aload_n hx hb dX6_runScript_91 rfl (lv_at hl 1 rfl) ?_
        refine m_get X hI mH_0 19 (by decide) q1671 rfl dX6_runScript_92 ?_
        refine lv_iload_n hx hb dX6_runScript_95 rfl (lv_at hl 0 rfl) ?_
        refine m_iald X hI mH_aaK hr dX6_runScript_96 (fun v31 hr => ?_)
        refine lv_aload_n hx hb dX6_runScript_97 rfl (lv_at hl 1 rfl) ?_
        refine m_get X hI mH_0 19 (by decide) q1671 rfl dX6_runScript_98 ?_
        refine lv_iload_n hx hb dX6_runScript_101 rfl (lv_at hl 0 rfl) ?_
        refine lv_iconst (v := 1) hx hb dX6_runScript_102 (by decide) ?_
        refine lv_iadd hx hb dX6_runScript_103 ?_
        refine m_iald X hI mH_aaK hr dX6_runScript_104 (fun v32 hr => ?_)
        refine lv_aload_n hx hb dX6_runScript_105 rfl (lv_at hl 1 rfl) ?_
        refine m_get X hI mH_0 19 (by decide) q1671 rfl dX6_runScript_106 ?_
        refine lv_iload_n hx hb dX6_runScript_109 rfl (lv_at hl 0 rfl) ?_
        refine lv_iconst (v := 2) hx hb dX6_runScript_110 (by decide) ?_
        refine lv_iadd hx hb dX6_runScript_111 ?_
        refine m_iald X hI mH_aaK hr dX6_runScript_112 (fun v33 hr => ?_)
        refine lv_aload_n hx hb dX6_runScript_113 rfl (lv_at hl 1 rfl) ?_
        refine m_get X hI mH_0 19 (by decide) q1671 rfl dX6_runScript_114 ?_
        refine lv_iload_n hx hb dX6_runScript_117 rfl (lv_at hl 0 rfl) ?_
        refine lv_iconst (v := 3) hx hb dX6_runScript_118 (by decide) ?_
        refine lv_iadd hx hb dX6_runScript_119 ?_
        refine m_iald X hI mH_aaK hr dX6_runScript_120 (fun v34 hr => ?_)
        obtain ⟨aM_36, aT_37, aC_38, aH_39, hc35, hr⟩ := gT4_i hr
        refine gRun_v (g_runV X hI (w_X6_doIt hc35) (g_obj_s mH_0) rfl hl (lw_V q1816 q1818 qs64 q122 q1819) rfl rfl hd_X6_doIt ⟨Nat.le_of_ble_eq_true rfl, Nat.le_of_ble_eq_true rfl⟩ (as := [.int v31, .int v32, .int v33, .int v34]) (rest := []) rfl rfl (Nat.le_of_ble_eq_true rfl) ⟨(Nat.le_refl _), (Nat.le_refl _)⟩ dX6_runScript_121) (fun H locs hI => ?_)
        refine lv_iinc (v := (z2 + (1 : Int32))) (lv' := [(2, .int (z2 + (1 : Int32))), (3, .int (z2 * (4 : Int32))), (0, .ref o), (1, .int z1)]) hx hb dX6_runScript_124 hl (k := 3) rfl (g_inc (by decide)) (by decide) rfl (fun ls hl => ?_)
        refine lv_goto (tgt := 42) hx hb dX6_runScript_127 (by decide) ?_
        exact ih hr hI (lv_sub hl [2, 3, 0] rfl)
      · replace hr := gIf_t c9 hr
        refine lv_iload_n hx hb dX6_runScript_88 rfl (lv_at hl 3 rfl) ?_
        have hr := gS_i hr
        subst hr
        exact g_iret X hI rfl (Nat.le_refl _) (Nat.le_refl _) dX6_runScript_89
set_option maxHeartbeats 2000000 in
theorem w_X6_runScript_J25 {h : gH} {n : Nat} {o : Nat} {aM : (Nat → Int32)} {aS : (Nat → Int32)} {iU : Int32} {aB : (Nat → Int32)} {iL : Int32} {iE : Int32} {iP : Int32} {aR : (Nat → Int32)} {iW : Int32} {iT : Int32} {aT : (Nat → Int32)} {aC : (Nat → Int32)} {aH : (Nat → Int32)} {aE : (Nat → Int32)} {aQ : (Nat → Int32)} {iA : Int32} {iY : Int32} {iF : Int32} {iV : Int32} {aK : (Nat → Int32)} {z1 : Int32} {s1 : Int32} {res : Int32 × (Nat → Int32) × Int32 × Int32 × Int32 × Int32 × Int32 × (Nat → Int32) × (Nat → Int32) × (Nat → Int32) × Int32 × Int32 × Int32 × Int32 × (Nat → Int32)} (X : gXX x base RX6 cX6_runScript 4 (some .int) p l s m args meth c) {H : Heap} {locs : List Loc} {ls : Array Slot} (hr : f_X6_runScript_J25 x z1 s1 aM iU aB iL iE iP iT aT aC aH iA iY iF iV aK = some res) (hI : gI x base s.heap (mH h o aM aS iU aB iL iE iP aR iW iT aT aC aH aE aQ iA iY iF iV aK) n H locs) (hl : lv_has ls 4 [(0, .ref o), (1, .int z1)]) : W p l e rm_X6_runScript s m args below meth c H locs 0 0 (MQ below (gQ x base (some (.int res.1)) (mH h o res.2.1 aS res.2.2.1 aB res.2.2.2.1 res.2.2.2.2.1 res.2.2.2.2.2.1 aR iW res.2.2.2.2.2.2.1 res.2.2.2.2.2.2.2.1 res.2.2.2.2.2.2.2.2.1 res.2.2.2.2.2.2.2.2.2.1 aE aQ res.2.2.2.2.2.2.2.2.2.2.1 res.2.2.2.2.2.2.2.2.2.2.2.1 res.2.2.2.2.2.2.2.2.2.2.2.2.1 res.2.2.2.2.2.2.2.2.2.2.2.2.2.1 res.2.2.2.2.2.2.2.2.2.2.2.2.2.2) n) args s 0 0 (fun q => base ≤ q)) (F0 m 25 ls [.int s1, .ref o]) := by
  have hx := X.1
  have hb := X.2.1
  unfold f_X6_runScript_J25 at hr
  refine lv_iconst (v := 0) hx hb dX6_runScript_25 (by decide) ?_
  refine lv_iconst (v := 0) hx hb dX6_runScript_26 (by decide) ?_
  obtain ⟨v18, iT_19, hc17, hr⟩ := gT2_i hr
  refine gRun_i (g_runV X hI (w_X6_fails hc17) (g_obj_s mH_0) rfl hl (lw_V q1717 q1719 qs45 q122 q1720) rfl rfl hd_X6_fails ⟨Nat.le_of_ble_eq_true rfl, Nat.le_of_ble_eq_true rfl⟩ (as := [.int s1, .int (0 : Int32), .int (0 : Int32)]) (rest := []) rfl rfl (Nat.le_of_ble_eq_true rfl) ⟨(Nat.le_refl _), (Nat.le_refl _)⟩ dX6_runScript_27) (fun H locs hI => ?_)
  refine lv_if_eq (tgt := 35) hx hb dX6_runScript_30 (by decide) (fun c9 => ?_) (fun c9 => ?_)
  · replace hr := gIf_t c9 hr
    refine lv_aload_n hx hb dX6_runScript_35 rfl (lv_at hl 0 rfl) ?_
    refine lv_iconst (v := 0) hx hb dX6_runScript_36 (by decide) ?_
    obtain ⟨aM_21, iU_22, hc20, hr⟩ := gT2_i hr
    refine gRun_v (g_runV X hI (w_X6_remember hc20) (g_obj_s mH_0) rfl hl (lw_V q1772 q1774 qs53 q122 q1775) rfl rfl hd_X6_remember ⟨Nat.le_of_ble_eq_true rfl, Nat.le_of_ble_eq_true rfl⟩ (as := [.int (0 : Int32)]) (rest := []) rfl rfl (Nat.le_of_ble_eq_true rfl) ⟨(Nat.le_refl _), (Nat.le_refl _)⟩ dX6_runScript_37) (fun H locs hI => ?_)
    refine lv_iconst (v := 0) hx hb dX6_runScript_40 (by decide) ?_
    refine lv_istore_n (lv' := [(2, .int (0 : Int32)), (0, .ref o), (1, .int z1)]) hx hb dX6_runScript_41 rfl hl (by decide) rfl (fun ls hl => ?_)
    exact w_X6_runScript_L42 X gN hr hI (lv_sub hl [1, 2, 0] rfl)
  · replace hr := gIf_f c9 hr
    refine lv_iconst (v := 0) hx hb dX6_runScript_33 (by decide) ?_
    have hr := gS_i hr
    subst hr
    exact g_iret X hI rfl (Nat.le_refl _) (Nat.le_refl _) dX6_runScript_34
set_option maxHeartbeats 2000000 in
theorem w_X6_runScript {l : Launch} {x : gV} {base : Nat} {h : gH} {n : Nat} {o : Nat} {aM : (Nat → Int32)} {aS : (Nat → Int32)} {iU : Int32} {aB : (Nat → Int32)} {iL : Int32} {iE : Int32} {iP : Int32} {aR : (Nat → Int32)} {iW : Int32} {iT : Int32} {aT : (Nat → Int32)} {aC : (Nat → Int32)} {aH : (Nat → Int32)} {aE : (Nat → Int32)} {aQ : (Nat → Int32)} {iA : Int32} {iY : Int32} {iF : Int32} {iV : Int32} {aK : (Nat → Int32)} {res : Int32 × (Nat → Int32) × Int32 × Int32 × Int32 × Int32 × Int32 × (Nat → Int32) × (Nat → Int32) × (Nat → Int32) × Int32 × Int32 × Int32 × Int32 × (Nat → Int32)} (hr : f_X6_runScript x aM iU aB iL iE iP iT aT aC aH iA iY iF iV aK = some res) : gM l yX6_runScript (ws_ yX6_runScript cX6_runScript 4 (some .int)) rm_X6_runScript x base [.ref o] (mH h o aM aS iU aB iL iE iP aR iW iT aT aC aH aE aQ iA iY iF iV aK) n (some (.int res.1)) (mH h o res.2.1 aS res.2.2.1 aB res.2.2.2.1 res.2.2.2.2.1 res.2.2.2.2.2.1 aR iW res.2.2.2.2.2.2.1 res.2.2.2.2.2.2.2.1 res.2.2.2.2.2.2.2.2.1 res.2.2.2.2.2.2.2.2.2.1 aE aQ res.2.2.2.2.2.2.2.2.2.2.1 res.2.2.2.2.2.2.2.2.2.2.2.1 res.2.2.2.2.2.2.2.2.2.2.2.2.1 res.2.2.2.2.2.2.2.2.2.2.2.2.2.1 res.2.2.2.2.2.2.2.2.2.2.2.2.2.2) n 0 0 := by
  refine g_met (cc := cX6_runScript) (nL := 4) (ret := (some .int)) (by decide) (Nat.le_of_ble_eq_true rfl) (fun p e s m below meth c ls X hnm hl hI => ?_)
  have hl : lv_has ls 4 [(0, .ref o)] := hl
  have hx := X.1
  have hb := X.2.1
  unfold f_X6_runScript at hr
  refine lv_aload_n hx hb dX6_runScript_0 rfl (lv_at hl 0 rfl) ?_
  obtain ⟨iE_2, iP_3, iA_4, iY_5, iF_6, iV_7, hc1, hr⟩ := gT6_i hr
  refine gRun_v (g_runV X hI (w_X6_begin hc1) (g_obj_s mH_0) rfl hl (lw_V q1597 q1599 qs34 q122 q1600) rfl rfl hd_X6_begin ⟨Nat.le_of_ble_eq_true rfl, Nat.le_of_ble_eq_true rfl⟩ (as := []) (rest := []) rfl rfl (Nat.le_of_ble_eq_true rfl) ⟨(Nat.le_refl _), (Nat.le_refl _)⟩ dX6_runScript_1) (fun H locs hI => ?_)
  refine lv_aload_n hx hb dX6_runScript_4 rfl (lv_at hl 0 rfl) ?_
  obtain ⟨v9, iE_10, iP_11, iA_12, iY_13, iF_14, iV_15, aK_16, hc8, hr⟩ := gT8_i hr
  refine gRun_i (g_runV X hI (w_X6_parseScript hc8) (g_obj_s mH_0) rfl hl (lw_V q1741 q1743 qs48 q122 q1744) rfl rfl hd_X6_parseScript ⟨Nat.le_of_ble_eq_true rfl, Nat.le_of_ble_eq_true rfl⟩ (as := []) (rest := []) rfl rfl (Nat.le_of_ble_eq_true rfl) ⟨(Nat.le_refl _), (Nat.le_refl _)⟩ dX6_runScript_5) (fun H locs hI => ?_)
  refine lv_istore_n (lv' := [(1, .int v9), (0, .ref o)]) hx hb dX6_runScript_8 rfl hl (by decide) rfl (fun ls hl => ?_)
  refine lv_aload_n hx hb dX6_runScript_9 rfl (lv_at hl 1 rfl) ?_
  refine lv_iconst (v := 0) hx hb dX6_runScript_10 (by decide) ?_
  refine m_put X hI mH_0 4 (by decide) q1656 rfl (by decide +kernel) (Nat.le_of_ble_eq_true rfl) rfl mH_iL dX6_runScript_11 (fun H locs hI => ?_)
  refine lv_aload_n hx hb dX6_runScript_14 rfl (lv_at hl 1 rfl) ?_
  refine lv_iload_n hx hb dX6_runScript_15 rfl (lv_at hl 0 rfl) ?_
  refine lv_iconst (v := (-1)) hx hb dX6_runScript_16 (by decide) ?_
  refine lv_icmp_ne (tgt := 24) hx hb dX6_runScript_17 (by decide) (fun c9 => ?_) (fun c9 => ?_)
  · replace hr := gIf_f c9 hr
    refine lv_iconst (v := 0) hx hb dX6_runScript_24 (by decide) ?_
    exact w_X6_runScript_J25 X hr hI (lv_sub hl [1, 0] rfl)
  · replace hr := gIf_t c9 hr
    refine lv_iconst (v := 1) hx hb dX6_runScript_20 (by decide) ?_
    refine lv_goto (tgt := 25) hx hb dX6_runScript_21 (by decide) ?_
    exact w_X6_runScript_J25 X hr hI (lv_sub hl [1, 0] rfl)
abbrev rm_X6_errorCode : Room := { frames := 0, cells := 0, slots := 0, locals := 0 }
theorem hd_X6_errorCode : yX6_errorCode.cls = RX6 ∧ yX6_errorCode.cls ≠ "java/lang/invoke/MethodHandle" ∧ yX6_errorCode.cls ≠ "java/lang/invoke/VarHandle" ∧ (parseMethodDescriptor yX6_errorCode.desc).map (fun d => d.parameters.length) = some 0 := by decide +kernel
set_option maxHeartbeats 2000000 in
theorem w_X6_errorCode {l : Launch} {x : gV} {base : Nat} {h : gH} {n : Nat} {o : Nat} {aM : (Nat → Int32)} {aS : (Nat → Int32)} {iU : Int32} {aB : (Nat → Int32)} {iL : Int32} {iE : Int32} {iP : Int32} {aR : (Nat → Int32)} {iW : Int32} {iT : Int32} {aT : (Nat → Int32)} {aC : (Nat → Int32)} {aH : (Nat → Int32)} {aE : (Nat → Int32)} {aQ : (Nat → Int32)} {iA : Int32} {iY : Int32} {iF : Int32} {iV : Int32} {aK : (Nat → Int32)} {res : Int32 × Int32} (hr : f_X6_errorCode iE iT = some res) : gM l yX6_errorCode (ws_ yX6_errorCode cX6_errorCode 1 (some .int)) rm_X6_errorCode x base [.ref o] (mH h o aM aS iU aB iL iE iP aR iW iT aT aC aH aE aQ iA iY iF iV aK) n (some (.int res.1)) (mH h o aM aS iU aB iL iE iP aR iW res.2 aT aC aH aE aQ iA iY iF iV aK) n 0 0 := by
  refine g_met (cc := cX6_errorCode) (nL := 1) (ret := (some .int)) (by decide) (Nat.le_of_ble_eq_true rfl) (fun p e s m below meth c ls X hnm hl hI => ?_)
  have hl : lv_has ls 1 [(0, .ref o)] := hl
  have hx := X.1
  have hb := X.2.1
  unfold f_X6_errorCode at hr
  refine lv_aload_n hx hb dX6_errorCode_0 rfl (lv_at hl 0 rfl) ?_
  refine lv_iconst (v := 0) hx hb dX6_errorCode_1 (by decide) ?_
  refine m_put X hI mH_0 9 (by decide) q1661 rfl (by decide +kernel) (Nat.le_of_ble_eq_true rfl) rfl mH_iT dX6_errorCode_2 (fun H locs hI => ?_)
  refine lv_aload_n hx hb dX6_errorCode_5 rfl (lv_at hl 0 rfl) ?_
  refine m_get X hI mH_0 5 (by decide) q1657 rfl dX6_errorCode_6 ?_
  have hr := gS_i hr
  subst hr
  exact g_iret X hI rfl (Nat.le_refl _) (Nat.le_refl _) dX6_errorCode_9
abbrev rm_X6_errorPosition : Room := { frames := 0, cells := 0, slots := 0, locals := 0 }
theorem hd_X6_errorPosition : yX6_errorPosition.cls = RX6 ∧ yX6_errorPosition.cls ≠ "java/lang/invoke/MethodHandle" ∧ yX6_errorPosition.cls ≠ "java/lang/invoke/VarHandle" ∧ (parseMethodDescriptor yX6_errorPosition.desc).map (fun d => d.parameters.length) = some 0 := by decide +kernel
set_option maxHeartbeats 2000000 in
theorem w_X6_errorPosition {l : Launch} {x : gV} {base : Nat} {h : gH} {n : Nat} {o : Nat} {aM : (Nat → Int32)} {aS : (Nat → Int32)} {iU : Int32} {aB : (Nat → Int32)} {iL : Int32} {iE : Int32} {iP : Int32} {aR : (Nat → Int32)} {iW : Int32} {iT : Int32} {aT : (Nat → Int32)} {aC : (Nat → Int32)} {aH : (Nat → Int32)} {aE : (Nat → Int32)} {aQ : (Nat → Int32)} {iA : Int32} {iY : Int32} {iF : Int32} {iV : Int32} {aK : (Nat → Int32)} {res : Int32 × Int32} (hr : f_X6_errorPosition iP iT = some res) : gM l yX6_errorPosition (ws_ yX6_errorPosition cX6_errorPosition 1 (some .int)) rm_X6_errorPosition x base [.ref o] (mH h o aM aS iU aB iL iE iP aR iW iT aT aC aH aE aQ iA iY iF iV aK) n (some (.int res.1)) (mH h o aM aS iU aB iL iE iP aR iW res.2 aT aC aH aE aQ iA iY iF iV aK) n 0 0 := by
  refine g_met (cc := cX6_errorPosition) (nL := 1) (ret := (some .int)) (by decide) (Nat.le_of_ble_eq_true rfl) (fun p e s m below meth c ls X hnm hl hI => ?_)
  have hl : lv_has ls 1 [(0, .ref o)] := hl
  have hx := X.1
  have hb := X.2.1
  unfold f_X6_errorPosition at hr
  refine lv_aload_n hx hb dX6_errorPosition_0 rfl (lv_at hl 0 rfl) ?_
  refine lv_iconst (v := 0) hx hb dX6_errorPosition_1 (by decide) ?_
  refine m_put X hI mH_0 9 (by decide) q1661 rfl (by decide +kernel) (Nat.le_of_ble_eq_true rfl) rfl mH_iT dX6_errorPosition_2 (fun H locs hI => ?_)
  refine lv_aload_n hx hb dX6_errorPosition_5 rfl (lv_at hl 0 rfl) ?_
  refine m_get X hI mH_0 6 (by decide) q1658 rfl dX6_errorPosition_6 ?_
  have hr := gS_i hr
  subst hr
  exact g_iret X hI rfl (Nat.le_refl _) (Nat.le_refl _) dX6_errorPosition_9
abbrev rm_X6_plain : Room := { frames := 0, cells := 0, slots := 0, locals := 0 }
theorem hd_X6_plain : yX6_plain.cls = RX6 ∧ yX6_plain.cls ≠ "java/lang/invoke/MethodHandle" ∧ yX6_plain.cls ≠ "java/lang/invoke/VarHandle" ∧ (parseMethodDescriptor yX6_plain.desc).map (fun d => d.parameters.length) = some 1 := by decide +kernel
set_option maxHeartbeats 2000000 in
theorem w_X6_plain {l : Launch} {x : gV} {base : Nat} {z1 : Int32} {h : gH} {n : Nat} {o : Nat} {aM : (Nat → Int32)} {aS : (Nat → Int32)} {iU : Int32} {aB : (Nat → Int32)} {iL : Int32} {iE : Int32} {iP : Int32} {aR : (Nat → Int32)} {iW : Int32} {iT : Int32} {aT : (Nat → Int32)} {aC : (Nat → Int32)} {aH : (Nat → Int32)} {aE : (Nat → Int32)} {aQ : (Nat → Int32)} {iA : Int32} {iY : Int32} {iF : Int32} {iV : Int32} {aK : (Nat → Int32)} {res : Int32 × Int32} (hr : f_X6_plain z1 iT = some res) : gM l yX6_plain (ws_ yX6_plain cX6_plain 2 (some .int)) rm_X6_plain x base [.ref o, .int z1] (mH h o aM aS iU aB iL iE iP aR iW iT aT aC aH aE aQ iA iY iF iV aK) n (some (.int res.1)) (mH h o aM aS iU aB iL iE iP aR iW res.2 aT aC aH aE aQ iA iY iF iV aK) n 0 0 := by
  refine g_met (cc := cX6_plain) (nL := 2) (ret := (some .int)) (by decide) (Nat.le_of_ble_eq_true rfl) (fun p e s m below meth c ls X hnm hl hI => ?_)
  have hl : lv_has ls 2 [(0, .ref o), (1, .int z1)] := hl
  have hx := X.1
  have hb := X.2.1
  unfold f_X6_plain at hr
  refine lv_aload_n hx hb dX6_plain_0 rfl (lv_at hl 0 rfl) ?_
  refine lv_iconst (v := 0) hx hb dX6_plain_1 (by decide) ?_
  refine m_put X hI mH_0 9 (by decide) q1661 rfl (by decide +kernel) (Nat.le_of_ble_eq_true rfl) rfl mH_iT dX6_plain_2 (fun H locs hI => ?_)
  refine lv_iload_n hx hb dX6_plain_5 rfl (lv_at hl 1 rfl) ?_
  have hr := gS_i hr
  subst hr
  exact g_iret X hI rfl (Nat.le_refl _) (Nat.le_refl _) dX6_plain_6
abbrev rm_X6_cellCount : Room := { frames := 1, cells := 0, slots := 0, locals := 21 }
theorem hd_X6_cellCount : yX6_cellCount.cls = RX6 ∧ yX6_cellCount.cls ≠ "java/lang/invoke/MethodHandle" ∧ yX6_cellCount.cls ≠ "java/lang/invoke/VarHandle" ∧ (parseMethodDescriptor yX6_cellCount.desc).map (fun d => d.parameters.length) = some 0 := by decide +kernel
set_option maxHeartbeats 2000000 in
theorem w_X6_cellCount {l : Launch} {x : gV} {base : Nat} {h : gH} {n : Nat} {o : Nat} {aM : (Nat → Int32)} {aS : (Nat → Int32)} {iU : Int32} {aB : (Nat → Int32)} {iL : Int32} {iE : Int32} {iP : Int32} {aR : (Nat → Int32)} {iW : Int32} {iT : Int32} {aT : (Nat → Int32)} {aC : (Nat → Int32)} {aH : (Nat → Int32)} {aE : (Nat → Int32)} {aQ : (Nat → Int32)} {iA : Int32} {iY : Int32} {iF : Int32} {iV : Int32} {aK : (Nat → Int32)} {res : Int32 × Int32} (hr : f_X6_cellCount aM iT = some res) : gM l yX6_cellCount (ws_ yX6_cellCount cX6_cellCount 1 (some .int)) rm_X6_cellCount x base [.ref o] (mH h o aM aS iU aB iL iE iP aR iW iT aT aC aH aE aQ iA iY iF iV aK) n (some (.int res.1)) (mH h o aM aS iU aB iL iE iP aR iW res.2 aT aC aH aE aQ iA iY iF iV aK) n 0 0 := by
  refine g_met (cc := cX6_cellCount) (nL := 1) (ret := (some .int)) (by decide) (Nat.le_of_ble_eq_true rfl) (fun p e s m below meth c ls X hnm hl hI => ?_)
  have hl : lv_has ls 1 [(0, .ref o)] := hl
  have hx := X.1
  have hb := X.2.1
  unfold f_X6_cellCount at hr
  refine lv_aload_n hx hb dX6_cellCount_0 rfl (lv_at hl 0 rfl) ?_
  refine lv_aload_n hx hb dX6_cellCount_1 rfl (lv_at hl 0 rfl) ?_
  refine m_get X hI mH_0 0 (by decide) q1652 rfl dX6_cellCount_2 ?_
  refine lv_iconst (v := 0) hx hb dX6_cellCount_5 (by decide) ?_
  refine m_iald X hI mH_aaM hr dX6_cellCount_6 (fun v1 hr => ?_)
  obtain ⟨v3, iT_4, hc2, hr⟩ := gT2_i hr
  refine gRun_i (g_runV X hI (w_X6_plain hc2) (g_obj_s mH_0) rfl hl (lw_V q1884 q1886 qs78 q122 q1887) rfl rfl hd_X6_plain ⟨Nat.le_of_ble_eq_true rfl, Nat.le_of_ble_eq_true rfl⟩ (as := [.int v1]) (rest := []) rfl rfl (Nat.le_of_ble_eq_true rfl) ⟨(Nat.le_refl _), (Nat.le_refl _)⟩ dX6_cellCount_7) (fun H locs hI => ?_)
  have hr := gS_i hr
  subst hr
  exact g_iret X hI rfl (Nat.le_refl _) (Nat.le_refl _) dX6_cellCount_10
abbrev rm_X6_siblingCount : Room := { frames := 1, cells := 0, slots := 0, locals := 21 }
theorem hd_X6_siblingCount : yX6_siblingCount.cls = RX6 ∧ yX6_siblingCount.cls ≠ "java/lang/invoke/MethodHandle" ∧ yX6_siblingCount.cls ≠ "java/lang/invoke/VarHandle" ∧ (parseMethodDescriptor yX6_siblingCount.desc).map (fun d => d.parameters.length) = some 0 := by decide +kernel
set_option maxHeartbeats 2000000 in
theorem w_X6_siblingCount {l : Launch} {x : gV} {base : Nat} {h : gH} {n : Nat} {o : Nat} {aM : (Nat → Int32)} {aS : (Nat → Int32)} {iU : Int32} {aB : (Nat → Int32)} {iL : Int32} {iE : Int32} {iP : Int32} {aR : (Nat → Int32)} {iW : Int32} {iT : Int32} {aT : (Nat → Int32)} {aC : (Nat → Int32)} {aH : (Nat → Int32)} {aE : (Nat → Int32)} {aQ : (Nat → Int32)} {iA : Int32} {iY : Int32} {iF : Int32} {iV : Int32} {aK : (Nat → Int32)} {res : Int32 × Int32} (hr : f_X6_siblingCount aM iT = some res) : gM l yX6_siblingCount (ws_ yX6_siblingCount cX6_siblingCount 1 (some .int)) rm_X6_siblingCount x base [.ref o] (mH h o aM aS iU aB iL iE iP aR iW iT aT aC aH aE aQ iA iY iF iV aK) n (some (.int res.1)) (mH h o aM aS iU aB iL iE iP aR iW res.2 aT aC aH aE aQ iA iY iF iV aK) n 0 0 := by
  refine g_met (cc := cX6_siblingCount) (nL := 1) (ret := (some .int)) (by decide) (Nat.le_of_ble_eq_true rfl) (fun p e s m below meth c ls X hnm hl hI => ?_)
  have hl : lv_has ls 1 [(0, .ref o)] := hl
  have hx := X.1
  have hb := X.2.1
  unfold f_X6_siblingCount at hr
  refine lv_aload_n hx hb dX6_siblingCount_0 rfl (lv_at hl 0 rfl) ?_
  refine lv_aload_n hx hb dX6_siblingCount_1 rfl (lv_at hl 0 rfl) ?_
  refine m_get X hI mH_0 0 (by decide) q1652 rfl dX6_siblingCount_2 ?_
  refine lv_iconst (v := 1) hx hb dX6_siblingCount_5 (by decide) ?_
  refine m_iald X hI mH_aaM hr dX6_siblingCount_6 (fun v1 hr => ?_)
  obtain ⟨v3, iT_4, hc2, hr⟩ := gT2_i hr
  refine gRun_i (g_runV X hI (w_X6_plain hc2) (g_obj_s mH_0) rfl hl (lw_V q1884 q1886 qs78 q122 q1887) rfl rfl hd_X6_plain ⟨Nat.le_of_ble_eq_true rfl, Nat.le_of_ble_eq_true rfl⟩ (as := [.int v1]) (rest := []) rfl rfl (Nat.le_of_ble_eq_true rfl) ⟨(Nat.le_refl _), (Nat.le_refl _)⟩ dX6_siblingCount_7) (fun H locs hI => ?_)
  have hr := gS_i hr
  subst hr
  exact g_iret X hI rfl (Nat.le_refl _) (Nat.le_refl _) dX6_siblingCount_10
abbrev rm_X6_isSibling : Room := { frames := 1, cells := 0, slots := 0, locals := 22 }
theorem hd_X6_isSibling : yX6_isSibling.cls = RX6 ∧ yX6_isSibling.cls ≠ "java/lang/invoke/MethodHandle" ∧ yX6_isSibling.cls ≠ "java/lang/invoke/VarHandle" ∧ (parseMethodDescriptor yX6_isSibling.desc).map (fun d => d.parameters.length) = some 1 := by decide +kernel
set_option maxHeartbeats 2000000 in
theorem w_X6_isSibling {l : Launch} {x : gV} {base : Nat} {z1 : Int32} {h : gH} {n : Nat} {o : Nat} {aM : (Nat → Int32)} {aS : (Nat → Int32)} {iU : Int32} {aB : (Nat → Int32)} {iL : Int32} {iE : Int32} {iP : Int32} {aR : (Nat → Int32)} {iW : Int32} {iT : Int32} {aT : (Nat → Int32)} {aC : (Nat → Int32)} {aH : (Nat → Int32)} {aE : (Nat → Int32)} {aQ : (Nat → Int32)} {iA : Int32} {iY : Int32} {iF : Int32} {iV : Int32} {aK : (Nat → Int32)} {res : Int32} (hr : f_X6_isSibling z1 aM = some res) : gM l yX6_isSibling (ws_ yX6_isSibling cX6_isSibling 2 (some .boolean)) rm_X6_isSibling x base [.ref o, .int z1] (mH h o aM aS iU aB iL iE iP aR iW iT aT aC aH aE aQ iA iY iF iV aK) n (some (.int res)) (mH h o aM aS iU aB iL iE iP aR iW iT aT aC aH aE aQ iA iY iF iV aK) n 0 0 := by
  refine g_met (cc := cX6_isSibling) (nL := 2) (ret := (some .boolean)) (by decide) (Nat.le_of_ble_eq_true rfl) (fun p e s m below meth c ls X hnm hl hI => ?_)
  have hl : lv_has ls 2 [(0, .ref o), (1, .int z1)] := hl
  have hx := X.1
  have hb := X.2.1
  unfold f_X6_isSibling at hr
  refine lv_iload_n hx hb dX6_isSibling_0 rfl (lv_at hl 1 rfl) ?_
  refine lv_iconst (v := 0) hx hb dX6_isSibling_1 (by decide) ?_
  refine lv_aload_n hx hb dX6_isSibling_2 rfl (lv_at hl 0 rfl) ?_
  refine m_get X hI mH_0 0 (by decide) q1652 rfl dX6_isSibling_3 ?_
  refine lv_iconst (v := 1) hx hb dX6_isSibling_6 (by decide) ?_
  refine m_iald X hI mH_aaM hr dX6_isSibling_7 (fun v1 hr => ?_)
  refine lv_iconst (v := 1) hx hb dX6_isSibling_8 (by decide) ?_
  refine lv_isub hx hb dX6_isSibling_9 ?_
  obtain ⟨v3, hc2, hr⟩ := gB_i hr
  refine gRun_i (g_runS X hI (w_X6_in hc2) hl (lw_S q1628 q1629 q122 q1630) rfl rfl hd_X6_in ⟨Nat.le_of_ble_eq_true rfl, Nat.le_of_ble_eq_true rfl⟩ (as := [.int z1, .int (0 : Int32), .int (v1 - (1 : Int32))]) (rest := []) rfl rfl (Nat.le_of_ble_eq_true rfl) ⟨(Nat.le_refl _), (Nat.le_refl _)⟩ dX6_isSibling_10) (fun H locs hI => ?_)
  obtain ⟨c9, hr⟩ := gIf_o hr
  have hr := gS_i hr
  subst hr
  exact g_iret X hI (g_narZ c9) (Nat.le_refl _) (Nat.le_refl _) dX6_isSibling_13
abbrev rm_X6_nameByte : Room := { frames := 2, cells := 0, slots := 0, locals := 43 }
theorem hd_X6_nameByte : yX6_nameByte.cls = RX6 ∧ yX6_nameByte.cls ≠ "java/lang/invoke/MethodHandle" ∧ yX6_nameByte.cls ≠ "java/lang/invoke/VarHandle" ∧ (parseMethodDescriptor yX6_nameByte.desc).map (fun d => d.parameters.length) = some 2 := by decide +kernel
set_option maxHeartbeats 2000000 in
theorem w_X6_nameByte_J50 {h : gH} {n : Nat} {o : Nat} {aM : (Nat → Int32)} {aS : (Nat → Int32)} {iU : Int32} {aB : (Nat → Int32)} {iL : Int32} {iE : Int32} {iP : Int32} {aR : (Nat → Int32)} {iW : Int32} {iT : Int32} {aT : (Nat → Int32)} {aC : (Nat → Int32)} {aH : (Nat → Int32)} {aE : (Nat → Int32)} {aQ : (Nat → Int32)} {iA : Int32} {iY : Int32} {iF : Int32} {iV : Int32} {aK : (Nat → Int32)} {z2 : Int32} {z3 : Int32} {s1 : Int32} {res : Int32 × Int32} (X : gXX x base RX6 cX6_nameByte 4 (some .int) p l s m args meth c) {H : Heap} {locs : List Loc} {ls : Array Slot} (hr : f_X6_nameByte_J50 z2 z3 s1 aM iT = some res) (hI : gI x base s.heap (mH h o aM aS iU aB iL iE iP aR iW iT aT aC aH aE aQ iA iY iF iV aK) n H locs) (hl : lv_has ls 4 [(0, .ref o), (2, .int z2), (3, .int z3)]) : W p l e rm_X6_nameByte s m args below meth c H locs 0 0 (MQ below (gQ x base (some (.int res.1)) (mH h o aM aS iU aB iL iE iP aR iW res.2 aT aC aH aE aQ iA iY iF iV aK) n) args s 0 0 (fun q => base ≤ q)) (F0 m 50 ls [.int s1, .ref o]) := by
  have hx := X.1
  have hb := X.2.1
  unfold f_X6_nameByte_J50 at hr
  refine lv_iconst (v := 0) hx hb dX6_nameByte_50 (by decide) ?_
  refine lv_iconst (v := 0) hx hb dX6_nameByte_51 (by decide) ?_
  obtain ⟨v6, iT_7, hc5, hr⟩ := gT2_i hr
  refine gRun_i (g_runV X hI (w_X6_fails hc5) (g_obj_s mH_0) rfl hl (lw_V q1717 q1719 qs45 q122 q1720) rfl rfl hd_X6_fails ⟨Nat.le_of_ble_eq_true rfl, Nat.le_of_ble_eq_true rfl⟩ (as := [.int s1, .int (0 : Int32), .int (0 : Int32)]) (rest := []) rfl rfl (Nat.le_of_ble_eq_true rfl) ⟨(Nat.le_refl _), (Nat.le_refl _)⟩ dX6_nameByte_52) (fun H locs hI => ?_)
  refine lv_if_eq (tgt := 60) hx hb dX6_nameByte_55 (by decide) (fun c9 => ?_) (fun c9 => ?_)
  · replace hr := gIf_t c9 hr
    refine lv_aload_n hx hb dX6_nameByte_60 rfl (lv_at hl 0 rfl) ?_
    refine m_get X hI mH_0 0 (by decide) q1652 rfl dX6_nameByte_61 ?_
    refine lv_iload_n hx hb dX6_nameByte_64 rfl (lv_at hl 2 rfl) ?_
    refine lv_iconst (v := 1) hx hb dX6_nameByte_65 (by decide) ?_
    refine lv_iadd hx hb dX6_nameByte_66 ?_
    refine lv_iload_n hx hb dX6_nameByte_67 rfl (lv_at hl 1 rfl) ?_
    refine lv_iadd hx hb dX6_nameByte_68 ?_
    refine m_iald X hI mH_aaM hr dX6_nameByte_69 (fun v8 hr => ?_)
    have hr := gS_i hr
    subst hr
    exact g_iret X hI rfl (Nat.le_refl _) (Nat.le_refl _) dX6_nameByte_70
  · replace hr := gIf_f c9 hr
    refine lv_iconst (v := 0) hx hb dX6_nameByte_58 (by decide) ?_
    have hr := gS_i hr
    subst hr
    exact g_iret X hI rfl (Nat.le_refl _) (Nat.le_refl _) dX6_nameByte_59
set_option maxHeartbeats 2000000 in
theorem w_X6_nameByte_J45 {h : gH} {n : Nat} {o : Nat} {aM : (Nat → Int32)} {aS : (Nat → Int32)} {iU : Int32} {aB : (Nat → Int32)} {iL : Int32} {iE : Int32} {iP : Int32} {aR : (Nat → Int32)} {iW : Int32} {iT : Int32} {aT : (Nat → Int32)} {aC : (Nat → Int32)} {aH : (Nat → Int32)} {aE : (Nat → Int32)} {aQ : (Nat → Int32)} {iA : Int32} {iY : Int32} {iF : Int32} {iV : Int32} {aK : (Nat → Int32)} {z2 : Int32} {z3 : Int32} {res : Int32 × Int32} (X : gXX x base RX6 cX6_nameByte 4 (some .int) p l s m args meth c) {H : Heap} {locs : List Loc} {ls : Array Slot} (hr : f_X6_nameByte_J45 z2 z3 aM iT = some res) (hI : gI x base s.heap (mH h o aM aS iU aB iL iE iP aR iW iT aT aC aH aE aQ iA iY iF iV aK) n H locs) (hl : lv_has ls 4 [(0, .ref o), (2, .int z2), (3, .int z3)]) : W p l e rm_X6_nameByte s m args below meth c H locs 0 0 (MQ below (gQ x base (some (.int res.1)) (mH h o aM aS iU aB iL iE iP aR iW res.2 aT aC aH aE aQ iA iY iF iV aK) n) args s 0 0 (fun q => base ≤ q)) (F0 m 45 ls [.ref o]) := by
  have hx := X.1
  have hb := X.2.1
  unfold f_X6_nameByte_J45 at hr
  refine lv_iconst (v := 1) hx hb dX6_nameByte_45 (by decide) ?_
  refine lv_goto (tgt := 50) hx hb dX6_nameByte_46 (by decide) ?_
  exact w_X6_nameByte_J50 X hr hI (lv_sub hl [0, 1, 2] rfl)
set_option maxHeartbeats 2000000 in
theorem w_X6_nameByte_J15 {h : gH} {n : Nat} {o : Nat} {aM : (Nat → Int32)} {aS : (Nat → Int32)} {iU : Int32} {aB : (Nat → Int32)} {iL : Int32} {iE : Int32} {iP : Int32} {aR : (Nat → Int32)} {iW : Int32} {iT : Int32} {aT : (Nat → Int32)} {aC : (Nat → Int32)} {aH : (Nat → Int32)} {aE : (Nat → Int32)} {aQ : (Nat → Int32)} {iA : Int32} {iY : Int32} {iF : Int32} {iV : Int32} {aK : (Nat → Int32)} {z1 : Int32} {z2 : Int32} {s0 : Int32} {s1 : Int32} {res : Int32 × Int32} (X : gXX x base RX6 cX6_nameByte 4 (some .int) p l s m args meth c) {H : Heap} {locs : List Loc} {ls : Array Slot} (hr : f_X6_nameByte_J15 z1 z2 s0 s1 aM iT = some res) (hI : gI x base s.heap (mH h o aM aS iU aB iL iE iP aR iW iT aT aC aH aE aQ iA iY iF iV aK) n H locs) (hl : lv_has ls 4 [(0, .ref o), (1, .int z1), (2, .int z2)]) : W p l e rm_X6_nameByte s m args below meth c H locs 0 0 (MQ below (gQ x base (some (.int res.1)) (mH h o aM aS iU aB iL iE iP aR iW res.2 aT aC aH aE aQ iA iY iF iV aK) n) args s 0 0 (fun q => base ≤ q)) (F0 m 15 ls [.int s1, .int s0]) := by
  have hx := X.1
  have hb := X.2.1
  unfold f_X6_nameByte_J15 at hr
  refine lv_bipush (v := 31) hx hb dX6_nameByte_15 (by decide) ?_
  refine lv_imul hx hb dX6_nameByte_17 ?_
  refine lv_iadd hx hb dX6_nameByte_18 ?_
  refine lv_istore_n (lv' := [(3, .int (s0 + (s1 * (31 : Int32)))), (0, .ref o), (1, .int z1), (2, .int z2)]) hx hb dX6_nameByte_19 rfl hl (by decide) rfl (fun ls hl => ?_)
  refine lv_aload_n hx hb dX6_nameByte_20 rfl (lv_at hl 1 rfl) ?_
  refine lv_aload_n hx hb dX6_nameByte_21 rfl (lv_at hl 1 rfl) ?_
  refine lv_iload_n hx hb dX6_nameByte_22 rfl (lv_at hl 2 rfl) ?_
  obtain ⟨v4, hc3, hr⟩ := gB_i hr
  refine gRun_i (g_runV X hI (w_X6_isSibling hc3) (g_obj_s mH_0) rfl hl (lw_V q1896 q1898 qs79 q122 q1899) rfl rfl hd_X6_isSibling ⟨Nat.le_of_ble_eq_true rfl, Nat.le_of_ble_eq_true rfl⟩ (as := [.int z1]) (rest := [.ref o]) rfl rfl (Nat.le_of_ble_eq_true rfl) ⟨(Nat.le_refl _), (Nat.le_refl _)⟩ dX6_nameByte_23) (fun H locs hI => ?_)
  refine lv_if_eq (tgt := 45) hx hb dX6_nameByte_26 (by decide) (fun c9 => ?_) (fun c9 => ?_)
  · replace hr := gIf_t c9 hr
    exact w_X6_nameByte_J45 X hr hI (lv_sub hl [1, 3, 0] rfl)
  · replace hr := gIf_f c9 hr
    refine lv_iload_n hx hb dX6_nameByte_29 rfl (lv_at hl 3 rfl) ?_
    refine lv_iconst (v := 0) hx hb dX6_nameByte_30 (by decide) ?_
    refine lv_aload_n hx hb dX6_nameByte_31 rfl (lv_at hl 1 rfl) ?_
    refine m_get X hI mH_0 0 (by decide) q1652 rfl dX6_nameByte_32 ?_
    refine lv_iload_n hx hb dX6_nameByte_35 rfl (lv_at hl 0 rfl) ?_
    refine m_iald X hI mH_aaM hr dX6_nameByte_36 (fun v9 hr => ?_)
    refine lv_iconst (v := 1) hx hb dX6_nameByte_37 (by decide) ?_
    refine lv_isub hx hb dX6_nameByte_38 ?_
    obtain ⟨v11, hc10, hr⟩ := gB_i hr
    refine gRun_i (g_runS X hI (w_X6_in hc10) hl (lw_S q1628 q1629 q122 q1630) rfl rfl hd_X6_in ⟨Nat.le_of_ble_eq_true rfl, Nat.le_of_ble_eq_true rfl⟩ (as := [.int z2, .int (0 : Int32), .int (v9 - (1 : Int32))]) (rest := [.ref o]) rfl rfl (Nat.le_of_ble_eq_true rfl) ⟨(Nat.le_refl _), (Nat.le_refl _)⟩ dX6_nameByte_39) (fun H locs hI => ?_)
    refine lv_if_ne (tgt := 49) hx hb dX6_nameByte_42 (by decide) (fun c9 => ?_) (fun c9 => ?_)
    · replace hr := gIf_f c9 hr
      refine lv_iconst (v := 0) hx hb dX6_nameByte_49 (by decide) ?_
      exact w_X6_nameByte_J50 X hr hI (lv_sub hl [1, 3, 0] rfl)
    · replace hr := gIf_t c9 hr
      exact w_X6_nameByte_J45 X hr hI (lv_sub hl [1, 3, 0] rfl)
set_option maxHeartbeats 2000000 in
theorem w_X6_nameByte {l : Launch} {x : gV} {base : Nat} {z1 : Int32} {z2 : Int32} {h : gH} {n : Nat} {o : Nat} {aM : (Nat → Int32)} {aS : (Nat → Int32)} {iU : Int32} {aB : (Nat → Int32)} {iL : Int32} {iE : Int32} {iP : Int32} {aR : (Nat → Int32)} {iW : Int32} {iT : Int32} {aT : (Nat → Int32)} {aC : (Nat → Int32)} {aH : (Nat → Int32)} {aE : (Nat → Int32)} {aQ : (Nat → Int32)} {iA : Int32} {iY : Int32} {iF : Int32} {iV : Int32} {aK : (Nat → Int32)} {res : Int32 × Int32} (hr : f_X6_nameByte z1 z2 aM iT = some res) : gM l yX6_nameByte (ws_ yX6_nameByte cX6_nameByte 4 (some .int)) rm_X6_nameByte x base [.ref o, .int z1, .int z2] (mH h o aM aS iU aB iL iE iP aR iW iT aT aC aH aE aQ iA iY iF iV aK) n (some (.int res.1)) (mH h o aM aS iU aB iL iE iP aR iW res.2 aT aC aH aE aQ iA iY iF iV aK) n 0 0 := by
  refine g_met (cc := cX6_nameByte) (nL := 4) (ret := (some .int)) (by decide) (Nat.le_of_ble_eq_true rfl) (fun p e s m below meth c ls X hnm hl hI => ?_)
  have hl : lv_has ls 4 [(0, .ref o), (1, .int z1), (2, .int z2)] := hl
  have hx := X.1
  have hb := X.2.1
  unfold f_X6_nameByte at hr
  refine lv_bipush (v := 26) hx hb dX6_nameByte_0 (by decide) ?_
  refine lv_aload_n hx hb dX6_nameByte_2 rfl (lv_at hl 0 rfl) ?_
  refine lv_iload_n hx hb dX6_nameByte_3 rfl (lv_at hl 1 rfl) ?_
  obtain ⟨v2, hc1, hr⟩ := gB_i hr
  refine gRun_i (g_runV X hI (w_X6_isSibling hc1) (g_obj_s mH_0) rfl hl (lw_V q1896 q1898 qs79 q122 q1899) rfl rfl hd_X6_isSibling ⟨Nat.le_of_ble_eq_true rfl, Nat.le_of_ble_eq_true rfl⟩ (as := [.int z1]) (rest := [.int (26 : Int32)]) rfl rfl (Nat.le_of_ble_eq_true rfl) ⟨(Nat.le_refl _), (Nat.le_refl _)⟩ dX6_nameByte_4) (fun H locs hI => ?_)
  refine lv_if_eq (tgt := 14) hx hb dX6_nameByte_7 (by decide) (fun c9 => ?_) (fun c9 => ?_)
  · replace hr := gIf_t c9 hr
    refine lv_iconst (v := 0) hx hb dX6_nameByte_14 (by decide) ?_
    exact w_X6_nameByte_J15 X hr hI (lv_sub hl [0, 1, 2] rfl)
  · replace hr := gIf_f c9 hr
    refine lv_iload_n hx hb dX6_nameByte_10 rfl (lv_at hl 1 rfl) ?_
    refine lv_goto (tgt := 15) hx hb dX6_nameByte_11 (by decide) ?_
    exact w_X6_nameByte_J15 X hr hI (lv_sub hl [0, 1, 2] rfl)
abbrev rm_X6_findSibling : Room := { frames := 1, cells := 0, slots := 0, locals := 26 }
theorem hd_X6_findSibling : yX6_findSibling.cls = RX6 ∧ yX6_findSibling.cls ≠ "java/lang/invoke/MethodHandle" ∧ yX6_findSibling.cls ≠ "java/lang/invoke/VarHandle" ∧ (parseMethodDescriptor yX6_findSibling.desc).map (fun d => d.parameters.length) = some 0 := by decide +kernel
set_option maxHeartbeats 2000000 in
theorem w_X6_findSibling_J21 {h : gH} {n : Nat} {o : Nat} {aM : (Nat → Int32)} {aS : (Nat → Int32)} {iU : Int32} {aB : (Nat → Int32)} {iL : Int32} {iE : Int32} {iP : Int32} {aR : (Nat → Int32)} {iW : Int32} {iT : Int32} {aT : (Nat → Int32)} {aC : (Nat → Int32)} {aH : (Nat → Int32)} {aE : (Nat → Int32)} {aQ : (Nat → Int32)} {iA : Int32} {iY : Int32} {iF : Int32} {iV : Int32} {aK : (Nat → Int32)} {z1 : Int32} {s1 : Int32} {res : Int32 × Int32} (X : gXX x base RX6 cX6_findSibling 2 (some .int) p l s m args meth c) {H : Heap} {locs : List Loc} {ls : Array Slot} (hr : f_X6_findSibling_J21 z1 s1 aM aB iL iT = some res) (hI : gI x base s.heap (mH h o aM aS iU aB iL iE iP aR iW iT aT aC aH aE aQ iA iY iF iV aK) n H locs) (hl : lv_has ls 2 [(1, .int z1)]) : W p l e rm_X6_findSibling s m args below meth c H locs 0 0 (MQ below (gQ x base (some (.int res.1)) (mH h o aM aS iU aB iL iE iP aR iW res.2 aT aC aH aE aQ iA iY iF iV aK) n) args s 0 0 (fun q => base ≤ q)) (F0 m 21 ls [.int s1, .ref o]) := by
  have hx := X.1
  have hb := X.2.1
  unfold f_X6_findSibling_J21 at hr
  refine lv_iconst (v := 0) hx hb dX6_findSibling_21 (by decide) ?_
  refine lv_iconst (v := 0) hx hb dX6_findSibling_22 (by decide) ?_
  obtain ⟨v4, iT_5, hc3, hr⟩ := gT2_i hr
  refine gRun_i (g_runV X hI (w_X6_fails hc3) (g_obj_s mH_0) rfl hl (lw_V q1717 q1719 qs45 q122 q1720) rfl rfl hd_X6_fails ⟨Nat.le_of_ble_eq_true rfl, Nat.le_of_ble_eq_true rfl⟩ (as := [.int s1, .int (0 : Int32), .int (0 : Int32)]) (rest := []) rfl rfl (Nat.le_of_ble_eq_true rfl) ⟨(Nat.le_refl _), (Nat.le_refl _)⟩ dX6_findSibling_23) (fun H locs hI => ?_)
  refine lv_if_eq (tgt := 31) hx hb dX6_findSibling_26 (by decide) (fun c9 => ?_) (fun c9 => ?_)
  · replace hr := gIf_t c9 hr
    refine lv_iload_n hx hb dX6_findSibling_31 rfl (lv_at hl 0 rfl) ?_
    have hr := gS_i hr
    subst hr
    exact g_iret X hI rfl (Nat.le_refl _) (Nat.le_refl _) dX6_findSibling_32
  · replace hr := gIf_f c9 hr
    refine lv_iconst (v := 0) hx hb dX6_findSibling_29 (by decide) ?_
    have hr := gS_i hr
    subst hr
    exact g_iret X hI rfl (Nat.le_refl _) (Nat.le_refl _) dX6_findSibling_30
set_option maxHeartbeats 2000000 in
theorem w_X6_findSibling {l : Launch} {x : gV} {base : Nat} {h : gH} {n : Nat} {o : Nat} {aM : (Nat → Int32)} {aS : (Nat → Int32)} {iU : Int32} {aB : (Nat → Int32)} {iL : Int32} {iE : Int32} {iP : Int32} {aR : (Nat → Int32)} {iW : Int32} {iT : Int32} {aT : (Nat → Int32)} {aC : (Nat → Int32)} {aH : (Nat → Int32)} {aE : (Nat → Int32)} {aQ : (Nat → Int32)} {iA : Int32} {iY : Int32} {iF : Int32} {iV : Int32} {aK : (Nat → Int32)} {res : Int32 × Int32} (hr : f_X6_findSibling aM aB iL iT = some res) : gM l yX6_findSibling (ws_ yX6_findSibling cX6_findSibling 2 (some .int)) rm_X6_findSibling x base [.ref o] (mH h o aM aS iU aB iL iE iP aR iW iT aT aC aH aE aQ iA iY iF iV aK) n (some (.int res.1)) (mH h o aM aS iU aB iL iE iP aR iW res.2 aT aC aH aE aQ iA iY iF iV aK) n 0 0 := by
  refine g_met (cc := cX6_findSibling) (nL := 2) (ret := (some .int)) (by decide) (Nat.le_of_ble_eq_true rfl) (fun p e s m below meth c ls X hnm hl hI => ?_)
  have hl : lv_has ls 2 [(0, .ref o)] := hl
  have hx := X.1
  have hb := X.2.1
  unfold f_X6_findSibling at hr
  refine lv_aload_n hx hb dX6_findSibling_0 rfl (lv_at hl 0 rfl) ?_
  refine lv_iconst (v := 0) hx hb dX6_findSibling_1 (by decide) ?_
  refine lv_aload_n hx hb dX6_findSibling_2 rfl (lv_at hl 0 rfl) ?_
  refine m_get X hI mH_0 4 (by decide) q1656 rfl dX6_findSibling_3 ?_
  obtain ⟨v2, hc1, hr⟩ := gB_i hr
  refine gRun_i (g_runV X hI (w_X6_siblingNamed hc1) (g_obj_s mH_0) rfl hl (lw_V q1648 q1650 qs44 q122 q1651) rfl rfl hd_X6_siblingNamed ⟨Nat.le_of_ble_eq_true rfl, Nat.le_of_ble_eq_true rfl⟩ (as := [.int (0 : Int32), .int iL]) (rest := []) rfl rfl (Nat.le_of_ble_eq_true rfl) ⟨(Nat.le_refl _), (Nat.le_refl _)⟩ dX6_findSibling_6) (fun H locs hI => ?_)
  refine lv_istore_n (lv' := [(1, .int v2), (0, .ref o)]) hx hb dX6_findSibling_9 rfl hl (by decide) rfl (fun ls hl => ?_)
  refine lv_aload_n hx hb dX6_findSibling_10 rfl (lv_at hl 1 rfl) ?_
  refine lv_iload_n hx hb dX6_findSibling_11 rfl (lv_at hl 0 rfl) ?_
  refine lv_iconst (v := (-1)) hx hb dX6_findSibling_12 (by decide) ?_
  refine lv_icmp_ne (tgt := 20) hx hb dX6_findSibling_13 (by decide) (fun c9 => ?_) (fun c9 => ?_)
  · replace hr := gIf_f c9 hr
    refine lv_iconst (v := 0) hx hb dX6_findSibling_20 (by decide) ?_
    exact w_X6_findSibling_J21 X hr hI (lv_sub hl [0] rfl)
  · replace hr := gIf_t c9 hr
    refine lv_iconst (v := 1) hx hb dX6_findSibling_16 (by decide) ?_
    refine lv_goto (tgt := 21) hx hb dX6_findSibling_17 (by decide) ?_
    exact w_X6_findSibling_J21 X hr hI (lv_sub hl [0] rfl)
abbrev rm_X6_value : Room := { frames := 2, cells := 0, slots := 0, locals := 43 }
theorem hd_X6_value : yX6_value.cls = RX6 ∧ yX6_value.cls ≠ "java/lang/invoke/MethodHandle" ∧ yX6_value.cls ≠ "java/lang/invoke/VarHandle" ∧ (parseMethodDescriptor yX6_value.desc).map (fun d => d.parameters.length) = some 2 := by decide +kernel
set_option maxHeartbeats 2000000 in
theorem w_X6_value_J22 {h : gH} {n : Nat} {o : Nat} {aM : (Nat → Int32)} {aS : (Nat → Int32)} {iU : Int32} {aB : (Nat → Int32)} {iL : Int32} {iE : Int32} {iP : Int32} {aR : (Nat → Int32)} {iW : Int32} {iT : Int32} {aT : (Nat → Int32)} {aC : (Nat → Int32)} {aH : (Nat → Int32)} {aE : (Nat → Int32)} {aQ : (Nat → Int32)} {iA : Int32} {iY : Int32} {iF : Int32} {iV : Int32} {aK : (Nat → Int32)} {z1 : Int32} {z2 : Int32} {s1 : Int32} {res : Int32 × Int32} (X : gXX x base RX6 cX6_value 3 (some .int) p l s m args meth c) {H : Heap} {locs : List Loc} {ls : Array Slot} (hr : f_X6_value_J22 z1 z2 s1 aM iT = some res) (hI : gI x base s.heap (mH h o aM aS iU aB iL iE iP aR iW iT aT aC aH aE aQ iA iY iF iV aK) n H locs) (hl : lv_has ls 3 [(0, .ref o), (1, .int z1), (2, .int z2)]) : W p l e rm_X6_value s m args below meth c H locs 0 0 (MQ below (gQ x base (some (.int res.1)) (mH h o aM aS iU aB iL iE iP aR iW res.2 aT aC aH aE aQ iA iY iF iV aK) n) args s 0 0 (fun q => base ≤ q)) (F0 m 22 ls [.int s1, .ref o]) := by
  have hx := X.1
  have hb := X.2.1
  unfold f_X6_value_J22 at hr
  refine lv_iconst (v := 0) hx hb dX6_value_22 (by decide) ?_
  refine lv_iconst (v := 0) hx hb dX6_value_23 (by decide) ?_
  obtain ⟨v4, iT_5, hc3, hr⟩ := gT2_i hr
  refine gRun_i (g_runV X hI (w_X6_fails hc3) (g_obj_s mH_0) rfl hl (lw_V q1717 q1719 qs45 q122 q1720) rfl rfl hd_X6_fails ⟨Nat.le_of_ble_eq_true rfl, Nat.le_of_ble_eq_true rfl⟩ (as := [.int s1, .int (0 : Int32), .int (0 : Int32)]) (rest := []) rfl rfl (Nat.le_of_ble_eq_true rfl) ⟨(Nat.le_refl _), (Nat.le_refl _)⟩ dX6_value_24) (fun H locs hI => ?_)
  refine lv_if_eq (tgt := 32) hx hb dX6_value_27 (by decide) (fun c9 => ?_) (fun c9 => ?_)
  · replace hr := gIf_t c9 hr
    refine lv_aload_n hx hb dX6_value_32 rfl (lv_at hl 0 rfl) ?_
    refine lv_iload_n hx hb dX6_value_33 rfl (lv_at hl 1 rfl) ?_
    refine lv_iload_n hx hb dX6_value_34 rfl (lv_at hl 2 rfl) ?_
    obtain ⟨v7, hc6, hr⟩ := gB_i hr
    refine gRun_i (g_runV X hI (w_X6_valueOf hc6) (g_obj_s mH_0) rfl hl (lw_V q1808 q1810 qs62 q122 q1811) rfl rfl hd_X6_valueOf ⟨Nat.le_of_ble_eq_true rfl, Nat.le_of_ble_eq_true rfl⟩ (as := [.int z1, .int z2]) (rest := []) rfl rfl (Nat.le_of_ble_eq_true rfl) ⟨(Nat.le_refl _), (Nat.le_refl _)⟩ dX6_value_35) (fun H locs hI => ?_)
    have hr := gS_i hr
    subst hr
    exact g_iret X hI rfl (Nat.le_refl _) (Nat.le_refl _) dX6_value_38
  · replace hr := gIf_f c9 hr
    refine lv_iconst (v := 0) hx hb dX6_value_30 (by decide) ?_
    have hr := gS_i hr
    subst hr
    exact g_iret X hI rfl (Nat.le_refl _) (Nat.le_refl _) dX6_value_31
set_option maxHeartbeats 2000000 in
theorem w_X6_value_J17 {h : gH} {n : Nat} {o : Nat} {aM : (Nat → Int32)} {aS : (Nat → Int32)} {iU : Int32} {aB : (Nat → Int32)} {iL : Int32} {iE : Int32} {iP : Int32} {aR : (Nat → Int32)} {iW : Int32} {iT : Int32} {aT : (Nat → Int32)} {aC : (Nat → Int32)} {aH : (Nat → Int32)} {aE : (Nat → Int32)} {aQ : (Nat → Int32)} {iA : Int32} {iY : Int32} {iF : Int32} {iV : Int32} {aK : (Nat → Int32)} {z1 : Int32} {z2 : Int32} {res : Int32 × Int32} (X : gXX x base RX6 cX6_value 3 (some .int) p l s m args meth c) {H : Heap} {locs : List Loc} {ls : Array Slot} (hr : f_X6_value_J17 z1 z2 aM iT = some res) (hI : gI x base s.heap (mH h o aM aS iU aB iL iE iP aR iW iT aT aC aH aE aQ iA iY iF iV aK) n H locs) (hl : lv_has ls 3 [(0, .ref o), (1, .int z1), (2, .int z2)]) : W p l e rm_X6_value s m args below meth c H locs 0 0 (MQ below (gQ x base (some (.int res.1)) (mH h o aM aS iU aB iL iE iP aR iW res.2 aT aC aH aE aQ iA iY iF iV aK) n) args s 0 0 (fun q => base ≤ q)) (F0 m 17 ls [.ref o]) := by
  have hx := X.1
  have hb := X.2.1
  unfold f_X6_value_J17 at hr
  refine lv_iconst (v := 1) hx hb dX6_value_17 (by decide) ?_
  refine lv_goto (tgt := 22) hx hb dX6_value_18 (by decide) ?_
  exact w_X6_value_J22 X hr hI (lv_sub hl [0, 1, 2] rfl)
set_option maxHeartbeats 2000000 in
theorem w_X6_value {l : Launch} {x : gV} {base : Nat} {z1 : Int32} {z2 : Int32} {h : gH} {n : Nat} {o : Nat} {aM : (Nat → Int32)} {aS : (Nat → Int32)} {iU : Int32} {aB : (Nat → Int32)} {iL : Int32} {iE : Int32} {iP : Int32} {aR : (Nat → Int32)} {iW : Int32} {iT : Int32} {aT : (Nat → Int32)} {aC : (Nat → Int32)} {aH : (Nat → Int32)} {aE : (Nat → Int32)} {aQ : (Nat → Int32)} {iA : Int32} {iY : Int32} {iF : Int32} {iV : Int32} {aK : (Nat → Int32)} {res : Int32 × Int32} (hr : f_X6_value z1 z2 aM iT = some res) : gM l yX6_value (ws_ yX6_value cX6_value 3 (some .int)) rm_X6_value x base [.ref o, .int z1, .int z2] (mH h o aM aS iU aB iL iE iP aR iW iT aT aC aH aE aQ iA iY iF iV aK) n (some (.int res.1)) (mH h o aM aS iU aB iL iE iP aR iW res.2 aT aC aH aE aQ iA iY iF iV aK) n 0 0 := by
  refine g_met (cc := cX6_value) (nL := 3) (ret := (some .int)) (by decide) (Nat.le_of_ble_eq_true rfl) (fun p e s m below meth c ls X hnm hl hI => ?_)
  have hl : lv_has ls 3 [(0, .ref o), (1, .int z1), (2, .int z2)] := hl
  have hx := X.1
  have hb := X.2.1
  unfold f_X6_value at hr
  refine lv_aload_n hx hb dX6_value_0 rfl (lv_at hl 0 rfl) ?_
  refine lv_aload_n hx hb dX6_value_1 rfl (lv_at hl 0 rfl) ?_
  refine lv_iload_n hx hb dX6_value_2 rfl (lv_at hl 1 rfl) ?_
  obtain ⟨v2, hc1, hr⟩ := gB_i hr
  refine gRun_i (g_runV X hI (w_X6_isSibling hc1) (g_obj_s mH_0) rfl hl (lw_V q1896 q1898 qs79 q122 q1899) rfl rfl hd_X6_isSibling ⟨Nat.le_of_ble_eq_true rfl, Nat.le_of_ble_eq_true rfl⟩ (as := [.int z1]) (rest := [.ref o]) rfl rfl (Nat.le_of_ble_eq_true rfl) ⟨(Nat.le_refl _), (Nat.le_refl _)⟩ dX6_value_3) (fun H locs hI => ?_)
  refine lv_if_eq (tgt := 17) hx hb dX6_value_6 (by decide) (fun c9 => ?_) (fun c9 => ?_)
  · replace hr := gIf_t c9 hr
    exact w_X6_value_J17 X hr hI (lv_sub hl [0, 1, 2] rfl)
  · replace hr := gIf_f c9 hr
    refine lv_aload_n hx hb dX6_value_9 rfl (lv_at hl 0 rfl) ?_
    refine lv_iload_n hx hb dX6_value_10 rfl (lv_at hl 2 rfl) ?_
    obtain ⟨v9, hc8, hr⟩ := gB_i hr
    refine gRun_i (g_runV X hI (w_X6_isCell hc8) (g_obj_s mH_0) rfl hl (lw_V q1784 q1786 qs56 q122 q1787) rfl rfl hd_X6_isCell ⟨Nat.le_of_ble_eq_true rfl, Nat.le_of_ble_eq_true rfl⟩ (as := [.int z2]) (rest := [.ref o]) rfl rfl (Nat.le_of_ble_eq_true rfl) ⟨(Nat.le_refl _), (Nat.le_refl _)⟩ dX6_value_11) (fun H locs hI => ?_)
    refine lv_if_ne (tgt := 21) hx hb dX6_value_14 (by decide) (fun c9 => ?_) (fun c9 => ?_)
    · replace hr := gIf_f c9 hr
      refine lv_iconst (v := 0) hx hb dX6_value_21 (by decide) ?_
      exact w_X6_value_J22 X hr hI (lv_sub hl [0, 1, 2] rfl)
    · replace hr := gIf_t c9 hr
      exact w_X6_value_J17 X hr hI (lv_sub hl [0, 1, 2] rfl)
abbrev rm_X6_owner : Room := { frames := 2, cells := 0, slots := 0, locals := 43 }
theorem hd_X6_owner : yX6_owner.cls = RX6 ∧ yX6_owner.cls ≠ "java/lang/invoke/MethodHandle" ∧ yX6_owner.cls ≠ "java/lang/invoke/VarHandle" ∧ (parseMethodDescriptor yX6_owner.desc).map (fun d => d.parameters.length) = some 1 := by decide +kernel
set_option maxHeartbeats 2000000 in
theorem w_X6_owner_J14 {h : gH} {n : Nat} {o : Nat} {aM : (Nat → Int32)} {aS : (Nat → Int32)} {iU : Int32} {aB : (Nat → Int32)} {iL : Int32} {iE : Int32} {iP : Int32} {aR : (Nat → Int32)} {iW : Int32} {iT : Int32} {aT : (Nat → Int32)} {aC : (Nat → Int32)} {aH : (Nat → Int32)} {aE : (Nat → Int32)} {aQ : (Nat → Int32)} {iA : Int32} {iY : Int32} {iF : Int32} {iV : Int32} {aK : (Nat → Int32)} {z1 : Int32} {s1 : Int32} {res : Int32 × Int32} (X : gXX x base RX6 cX6_owner 2 (some .int) p l s m args meth c) {H : Heap} {locs : List Loc} {ls : Array Slot} (hr : f_X6_owner_J14 z1 s1 aM iT = some res) (hI : gI x base s.heap (mH h o aM aS iU aB iL iE iP aR iW iT aT aC aH aE aQ iA iY iF iV aK) n H locs) (hl : lv_has ls 2 [(0, .ref o), (1, .int z1)]) : W p l e rm_X6_owner s m args below meth c H locs 0 0 (MQ below (gQ x base (some (.int res.1)) (mH h o aM aS iU aB iL iE iP aR iW res.2 aT aC aH aE aQ iA iY iF iV aK) n) args s 0 0 (fun q => base ≤ q)) (F0 m 14 ls [.int s1, .ref o]) := by
  have hx := X.1
  have hb := X.2.1
  unfold f_X6_owner_J14 at hr
  refine lv_iconst (v := 0) hx hb dX6_owner_14 (by decide) ?_
  refine lv_iconst (v := 0) hx hb dX6_owner_15 (by decide) ?_
  obtain ⟨v4, iT_5, hc3, hr⟩ := gT2_i hr
  refine gRun_i (g_runV X hI (w_X6_fails hc3) (g_obj_s mH_0) rfl hl (lw_V q1717 q1719 qs45 q122 q1720) rfl rfl hd_X6_fails ⟨Nat.le_of_ble_eq_true rfl, Nat.le_of_ble_eq_true rfl⟩ (as := [.int s1, .int (0 : Int32), .int (0 : Int32)]) (rest := []) rfl rfl (Nat.le_of_ble_eq_true rfl) ⟨(Nat.le_refl _), (Nat.le_refl _)⟩ dX6_owner_16) (fun H locs hI => ?_)
  refine lv_if_eq (tgt := 24) hx hb dX6_owner_19 (by decide) (fun c9 => ?_) (fun c9 => ?_)
  · replace hr := gIf_t c9 hr
    refine lv_aload_n hx hb dX6_owner_24 rfl (lv_at hl 0 rfl) ?_
    refine lv_iload_n hx hb dX6_owner_25 rfl (lv_at hl 1 rfl) ?_
    obtain ⟨v7, hc6, hr⟩ := gB_i hr
    refine gRun_i (g_runV X hI (w_X6_ownerOf hc6) (g_obj_s mH_0) rfl hl (lw_V q1804 q1806 qs61 q122 q1807) rfl rfl hd_X6_ownerOf ⟨Nat.le_of_ble_eq_true rfl, Nat.le_of_ble_eq_true rfl⟩ (as := [.int z1]) (rest := []) rfl rfl (Nat.le_of_ble_eq_true rfl) ⟨(Nat.le_refl _), (Nat.le_refl _)⟩ dX6_owner_26) (fun H locs hI => ?_)
    have hr := gS_i hr
    subst hr
    exact g_iret X hI rfl (Nat.le_refl _) (Nat.le_refl _) dX6_owner_29
  · replace hr := gIf_f c9 hr
    refine lv_iconst (v := 0) hx hb dX6_owner_22 (by decide) ?_
    have hr := gS_i hr
    subst hr
    exact g_iret X hI rfl (Nat.le_refl _) (Nat.le_refl _) dX6_owner_23
set_option maxHeartbeats 2000000 in
theorem w_X6_owner {l : Launch} {x : gV} {base : Nat} {z1 : Int32} {h : gH} {n : Nat} {o : Nat} {aM : (Nat → Int32)} {aS : (Nat → Int32)} {iU : Int32} {aB : (Nat → Int32)} {iL : Int32} {iE : Int32} {iP : Int32} {aR : (Nat → Int32)} {iW : Int32} {iT : Int32} {aT : (Nat → Int32)} {aC : (Nat → Int32)} {aH : (Nat → Int32)} {aE : (Nat → Int32)} {aQ : (Nat → Int32)} {iA : Int32} {iY : Int32} {iF : Int32} {iV : Int32} {aK : (Nat → Int32)} {res : Int32 × Int32} (hr : f_X6_owner z1 aM iT = some res) : gM l yX6_owner (ws_ yX6_owner cX6_owner 2 (some .int)) rm_X6_owner x base [.ref o, .int z1] (mH h o aM aS iU aB iL iE iP aR iW iT aT aC aH aE aQ iA iY iF iV aK) n (some (.int res.1)) (mH h o aM aS iU aB iL iE iP aR iW res.2 aT aC aH aE aQ iA iY iF iV aK) n 0 0 := by
  refine g_met (cc := cX6_owner) (nL := 2) (ret := (some .int)) (by decide) (Nat.le_of_ble_eq_true rfl) (fun p e s m below meth c ls X hnm hl hI => ?_)
  have hl : lv_has ls 2 [(0, .ref o), (1, .int z1)] := hl
  have hx := X.1
  have hb := X.2.1
  unfold f_X6_owner at hr
  refine lv_aload_n hx hb dX6_owner_0 rfl (lv_at hl 0 rfl) ?_
  refine lv_aload_n hx hb dX6_owner_1 rfl (lv_at hl 0 rfl) ?_
  refine lv_iload_n hx hb dX6_owner_2 rfl (lv_at hl 1 rfl) ?_
  obtain ⟨v2, hc1, hr⟩ := gB_i hr
  refine gRun_i (g_runV X hI (w_X6_isCell hc1) (g_obj_s mH_0) rfl hl (lw_V q1784 q1786 qs56 q122 q1787) rfl rfl hd_X6_isCell ⟨Nat.le_of_ble_eq_true rfl, Nat.le_of_ble_eq_true rfl⟩ (as := [.int z1]) (rest := [.ref o]) rfl rfl (Nat.le_of_ble_eq_true rfl) ⟨(Nat.le_refl _), (Nat.le_refl _)⟩ dX6_owner_3) (fun H locs hI => ?_)
  refine lv_if_ne (tgt := 13) hx hb dX6_owner_6 (by decide) (fun c9 => ?_) (fun c9 => ?_)
  · replace hr := gIf_f c9 hr
    refine lv_iconst (v := 0) hx hb dX6_owner_13 (by decide) ?_
    exact w_X6_owner_J14 X hr hI (lv_sub hl [0, 1] rfl)
  · replace hr := gIf_t c9 hr
    refine lv_iconst (v := 1) hx hb dX6_owner_9 (by decide) ?_
    refine lv_goto (tgt := 14) hx hb dX6_owner_10 (by decide) ?_
    exact w_X6_owner_J14 X hr hI (lv_sub hl [0, 1] rfl)
abbrev rm_X6_worth : Room := { frames := 3, cells := 0, slots := 0, locals := 65 }
theorem hd_X6_worth : yX6_worth.cls = RX6 ∧ yX6_worth.cls ≠ "java/lang/invoke/MethodHandle" ∧ yX6_worth.cls ≠ "java/lang/invoke/VarHandle" ∧ (parseMethodDescriptor yX6_worth.desc).map (fun d => d.parameters.length) = some 3 := by decide +kernel
set_option maxHeartbeats 2000000 in
theorem w_X6_worth_J28 {h : gH} {n : Nat} {o : Nat} {aM : (Nat → Int32)} {aS : (Nat → Int32)} {iU : Int32} {aB : (Nat → Int32)} {iL : Int32} {iE : Int32} {iP : Int32} {aR : (Nat → Int32)} {iW : Int32} {iT : Int32} {aT : (Nat → Int32)} {aC : (Nat → Int32)} {aH : (Nat → Int32)} {aE : (Nat → Int32)} {aQ : (Nat → Int32)} {iA : Int32} {iY : Int32} {iF : Int32} {iV : Int32} {aK : (Nat → Int32)} {z1 : Int32} {z2 : Int32} {z3 : Int32} {s1 : Int32} {s2 : Int32} {res : Int32 × Int32} (X : gXX x base RX6 cX6_worth 4 (some .int) p l s m args meth c) {H : Heap} {locs : List Loc} {ls : Array Slot} (hr : f_X6_worth_J28 z1 z2 z3 s1 s2 aM iT = some res) (hI : gI x base s.heap (mH h o aM aS iU aB iL iE iP aR iW iT aT aC aH aE aQ iA iY iF iV aK) n H locs) (hl : lv_has ls 4 [(0, .ref o), (1, .int z1), (2, .int z2), (3, .int z3)]) : W p l e rm_X6_worth s m args below meth c H locs 0 0 (MQ below (gQ x base (some (.int res.1)) (mH h o aM aS iU aB iL iE iP aR iW res.2 aT aC aH aE aQ iA iY iF iV aK) n) args s 0 0 (fun q => base ≤ q)) (F0 m 28 ls [.int s2, .int s1, .ref o]) := by
  have hx := X.1
  have hb := X.2.1
  unfold f_X6_worth_J28 at hr
  refine lv_iconst (v := 0) hx hb dX6_worth_28 (by decide) ?_
  obtain ⟨v6, iT_7, hc5, hr⟩ := gT2_i hr
  refine gRun_i (g_runV X hI (w_X6_fails hc5) (g_obj_s mH_0) rfl hl (lw_V q1717 q1719 qs45 q122 q1720) rfl rfl hd_X6_fails ⟨Nat.le_of_ble_eq_true rfl, Nat.le_of_ble_eq_true rfl⟩ (as := [.int s1, .int s2, .int (0 : Int32)]) (rest := []) rfl rfl (Nat.le_of_ble_eq_true rfl) ⟨(Nat.le_refl _), (Nat.le_refl _)⟩ dX6_worth_29) (fun H locs hI => ?_)
  refine lv_if_eq (tgt := 37) hx hb dX6_worth_32 (by decide) (fun c9 => ?_) (fun c9 => ?_)
  · replace hr := gIf_t c9 hr
    refine lv_aload_n hx hb dX6_worth_37 rfl (lv_at hl 0 rfl) ?_
    refine lv_iload_n hx hb dX6_worth_38 rfl (lv_at hl 1 rfl) ?_
    refine lv_iload_n hx hb dX6_worth_39 rfl (lv_at hl 2 rfl) ?_
    refine lv_iload_n hx hb dX6_worth_40 rfl (lv_at hl 3 rfl) ?_
    obtain ⟨v9, hc8, hr⟩ := gB_i hr
    refine gRun_i (g_runV X hI (w_X6_worthOf hc8) (g_obj_s mH_0) rfl hl (lw_V q1840 q1842 qs70 q122 q1843) rfl rfl hd_X6_worthOf ⟨Nat.le_of_ble_eq_true rfl, Nat.le_of_ble_eq_true rfl⟩ (as := [.int z1, .int z2, .int z3]) (rest := []) rfl rfl (Nat.le_of_ble_eq_true rfl) ⟨(Nat.le_refl _), (Nat.le_refl _)⟩ dX6_worth_41) (fun H locs hI => ?_)
    have hr := gS_i hr
    subst hr
    exact g_iret X hI rfl (Nat.le_refl _) (Nat.le_refl _) dX6_worth_44
  · replace hr := gIf_f c9 hr
    refine lv_iconst (v := 0) hx hb dX6_worth_35 (by decide) ?_
    have hr := gS_i hr
    subst hr
    exact g_iret X hI rfl (Nat.le_refl _) (Nat.le_refl _) dX6_worth_36
set_option maxHeartbeats 2000000 in
theorem w_X6_worth_J14 {h : gH} {n : Nat} {o : Nat} {aM : (Nat → Int32)} {aS : (Nat → Int32)} {iU : Int32} {aB : (Nat → Int32)} {iL : Int32} {iE : Int32} {iP : Int32} {aR : (Nat → Int32)} {iW : Int32} {iT : Int32} {aT : (Nat → Int32)} {aC : (Nat → Int32)} {aH : (Nat → Int32)} {aE : (Nat → Int32)} {aQ : (Nat → Int32)} {iA : Int32} {iY : Int32} {iF : Int32} {iV : Int32} {aK : (Nat → Int32)} {z1 : Int32} {z2 : Int32} {z3 : Int32} {s1 : Int32} {res : Int32 × Int32} (X : gXX x base RX6 cX6_worth 4 (some .int) p l s m args meth c) {H : Heap} {locs : List Loc} {ls : Array Slot} (hr : f_X6_worth_J14 z1 z2 z3 s1 aM iT = some res) (hI : gI x base s.heap (mH h o aM aS iU aB iL iE iP aR iW iT aT aC aH aE aQ iA iY iF iV aK) n H locs) (hl : lv_has ls 4 [(0, .ref o), (1, .int z1), (2, .int z2), (3, .int z3)]) : W p l e rm_X6_worth s m args below meth c H locs 0 0 (MQ below (gQ x base (some (.int res.1)) (mH h o aM aS iU aB iL iE iP aR iW res.2 aT aC aH aE aQ iA iY iF iV aK) n) args s 0 0 (fun q => base ≤ q)) (F0 m 14 ls [.int s1, .ref o]) := by
  have hx := X.1
  have hb := X.2.1
  unfold f_X6_worth_J14 at hr
  refine lv_aload_n hx hb dX6_worth_14 rfl (lv_at hl 0 rfl) ?_
  refine lv_iload_n hx hb dX6_worth_15 rfl (lv_at hl 2 rfl) ?_
  refine lv_iload_n hx hb dX6_worth_16 rfl (lv_at hl 3 rfl) ?_
  obtain ⟨v4, hc3, hr⟩ := gB_i hr
  refine gRun_i (g_runV X hI (w_X6_isRange hc3) (g_obj_s mH_0) rfl hl (lw_V q1780 q1782 qs55 q122 q1783) rfl rfl hd_X6_isRange ⟨Nat.le_of_ble_eq_true rfl, Nat.le_of_ble_eq_true rfl⟩ (as := [.int z2, .int z3]) (rest := [.int s1, .ref o]) rfl rfl (Nat.le_of_ble_eq_true rfl) ⟨(Nat.le_refl _), (Nat.le_refl _)⟩ dX6_worth_17) (fun H locs hI => ?_)
  refine lv_if_ne (tgt := 27) hx hb dX6_worth_20 (by decide) (fun c9 => ?_) (fun c9 => ?_)
  · replace hr := gIf_f c9 hr
    refine lv_iconst (v := 0) hx hb dX6_worth_27 (by decide) ?_
    exact w_X6_worth_J28 X hr hI (lv_sub hl [0, 1, 2, 3] rfl)
  · replace hr := gIf_t c9 hr
    refine lv_iconst (v := 1) hx hb dX6_worth_23 (by decide) ?_
    refine lv_goto (tgt := 28) hx hb dX6_worth_24 (by decide) ?_
    exact w_X6_worth_J28 X hr hI (lv_sub hl [0, 1, 2, 3] rfl)
set_option maxHeartbeats 2000000 in
theorem w_X6_worth {l : Launch} {x : gV} {base : Nat} {z1 : Int32} {z2 : Int32} {z3 : Int32} {h : gH} {n : Nat} {o : Nat} {aM : (Nat → Int32)} {aS : (Nat → Int32)} {iU : Int32} {aB : (Nat → Int32)} {iL : Int32} {iE : Int32} {iP : Int32} {aR : (Nat → Int32)} {iW : Int32} {iT : Int32} {aT : (Nat → Int32)} {aC : (Nat → Int32)} {aH : (Nat → Int32)} {aE : (Nat → Int32)} {aQ : (Nat → Int32)} {iA : Int32} {iY : Int32} {iF : Int32} {iV : Int32} {aK : (Nat → Int32)} {res : Int32 × Int32} (hr : f_X6_worth z1 z2 z3 aM iT = some res) : gM l yX6_worth (ws_ yX6_worth cX6_worth 4 (some .int)) rm_X6_worth x base [.ref o, .int z1, .int z2, .int z3] (mH h o aM aS iU aB iL iE iP aR iW iT aT aC aH aE aQ iA iY iF iV aK) n (some (.int res.1)) (mH h o aM aS iU aB iL iE iP aR iW res.2 aT aC aH aE aQ iA iY iF iV aK) n 0 0 := by
  refine g_met (cc := cX6_worth) (nL := 4) (ret := (some .int)) (by decide) (Nat.le_of_ble_eq_true rfl) (fun p e s m below meth c ls X hnm hl hI => ?_)
  have hl : lv_has ls 4 [(0, .ref o), (1, .int z1), (2, .int z2), (3, .int z3)] := hl
  have hx := X.1
  have hb := X.2.1
  unfold f_X6_worth at hr
  refine lv_aload_n hx hb dX6_worth_0 rfl (lv_at hl 0 rfl) ?_
  refine lv_aload_n hx hb dX6_worth_1 rfl (lv_at hl 0 rfl) ?_
  refine lv_iload_n hx hb dX6_worth_2 rfl (lv_at hl 1 rfl) ?_
  obtain ⟨v2, hc1, hr⟩ := gB_i hr
  refine gRun_i (g_runV X hI (w_X6_isSibling hc1) (g_obj_s mH_0) rfl hl (lw_V q1896 q1898 qs79 q122 q1899) rfl rfl hd_X6_isSibling ⟨Nat.le_of_ble_eq_true rfl, Nat.le_of_ble_eq_true rfl⟩ (as := [.int z1]) (rest := [.ref o]) rfl rfl (Nat.le_of_ble_eq_true rfl) ⟨(Nat.le_refl _), (Nat.le_refl _)⟩ dX6_worth_3) (fun H locs hI => ?_)
  refine lv_if_ne (tgt := 13) hx hb dX6_worth_6 (by decide) (fun c9 => ?_) (fun c9 => ?_)
  · replace hr := gIf_f c9 hr
    refine lv_iconst (v := 0) hx hb dX6_worth_13 (by decide) ?_
    exact w_X6_worth_J14 X hr hI (lv_sub hl [0, 1, 2, 3] rfl)
  · replace hr := gIf_t c9 hr
    refine lv_iconst (v := 1) hx hb dX6_worth_9 (by decide) ?_
    refine lv_goto (tgt := 14) hx hb dX6_worth_10 (by decide) ?_
    exact w_X6_worth_J14 X hr hI (lv_sub hl [0, 1, 2, 3] rfl)
abbrev rm_X6_total : Room := { frames := 3, cells := 0, slots := 0, locals := 68 }
theorem hd_X6_total : yX6_total.cls = RX6 ∧ yX6_total.cls ≠ "java/lang/invoke/MethodHandle" ∧ yX6_total.cls ≠ "java/lang/invoke/VarHandle" ∧ (parseMethodDescriptor yX6_total.desc).map (fun d => d.parameters.length) = some 1 := by decide +kernel
set_option maxHeartbeats 2000000 in
theorem w_X6_total_J14 {h : gH} {n : Nat} {o : Nat} {aM : (Nat → Int32)} {aS : (Nat → Int32)} {iU : Int32} {aB : (Nat → Int32)} {iL : Int32} {iE : Int32} {iP : Int32} {aR : (Nat → Int32)} {iW : Int32} {iT : Int32} {aT : (Nat → Int32)} {aC : (Nat → Int32)} {aH : (Nat → Int32)} {aE : (Nat → Int32)} {aQ : (Nat → Int32)} {iA : Int32} {iY : Int32} {iF : Int32} {iV : Int32} {aK : (Nat → Int32)} {z1 : Int32} {s1 : Int32} {res : Int32 × Int32} (X : gXX x base RX6 cX6_total 2 (some .int) p l s m args meth c) {H : Heap} {locs : List Loc} {ls : Array Slot} (hr : f_X6_total_J14 z1 s1 aM iT = some res) (hI : gI x base s.heap (mH h o aM aS iU aB iL iE iP aR iW iT aT aC aH aE aQ iA iY iF iV aK) n H locs) (hl : lv_has ls 2 [(0, .ref o), (1, .int z1)]) : W p l e rm_X6_total s m args below meth c H locs 0 0 (MQ below (gQ x base (some (.int res.1)) (mH h o aM aS iU aB iL iE iP aR iW res.2 aT aC aH aE aQ iA iY iF iV aK) n) args s 0 0 (fun q => base ≤ q)) (F0 m 14 ls [.int s1, .ref o]) := by
  have hx := X.1
  have hb := X.2.1
  unfold f_X6_total_J14 at hr
  refine lv_iconst (v := 0) hx hb dX6_total_14 (by decide) ?_
  refine lv_iconst (v := 0) hx hb dX6_total_15 (by decide) ?_
  obtain ⟨v4, iT_5, hc3, hr⟩ := gT2_i hr
  refine gRun_i (g_runV X hI (w_X6_fails hc3) (g_obj_s mH_0) rfl hl (lw_V q1717 q1719 qs45 q122 q1720) rfl rfl hd_X6_fails ⟨Nat.le_of_ble_eq_true rfl, Nat.le_of_ble_eq_true rfl⟩ (as := [.int s1, .int (0 : Int32), .int (0 : Int32)]) (rest := []) rfl rfl (Nat.le_of_ble_eq_true rfl) ⟨(Nat.le_refl _), (Nat.le_refl _)⟩ dX6_total_16) (fun H locs hI => ?_)
  refine lv_if_eq (tgt := 24) hx hb dX6_total_19 (by decide) (fun c9 => ?_) (fun c9 => ?_)
  · replace hr := gIf_t c9 hr
    refine lv_aload_n hx hb dX6_total_24 rfl (lv_at hl 0 rfl) ?_
    refine lv_iload_n hx hb dX6_total_25 rfl (lv_at hl 1 rfl) ?_
    obtain ⟨v7, hc6, hr⟩ := gB_i hr
    refine gRun_i (g_runV X hI (w_X6_totalOf hc6) (g_obj_s mH_0) rfl hl (lw_V q1836 q1838 qs69 q122 q1839) rfl rfl hd_X6_totalOf ⟨Nat.le_of_ble_eq_true rfl, Nat.le_of_ble_eq_true rfl⟩ (as := [.int z1]) (rest := []) rfl rfl (Nat.le_of_ble_eq_true rfl) ⟨(Nat.le_refl _), (Nat.le_refl _)⟩ dX6_total_26) (fun H locs hI => ?_)
    have hr := gS_i hr
    subst hr
    exact g_iret X hI rfl (Nat.le_refl _) (Nat.le_refl _) dX6_total_29
  · replace hr := gIf_f c9 hr
    refine lv_iconst (v := 0) hx hb dX6_total_22 (by decide) ?_
    have hr := gS_i hr
    subst hr
    exact g_iret X hI rfl (Nat.le_refl _) (Nat.le_refl _) dX6_total_23
set_option maxHeartbeats 2000000 in
theorem w_X6_total {l : Launch} {x : gV} {base : Nat} {z1 : Int32} {h : gH} {n : Nat} {o : Nat} {aM : (Nat → Int32)} {aS : (Nat → Int32)} {iU : Int32} {aB : (Nat → Int32)} {iL : Int32} {iE : Int32} {iP : Int32} {aR : (Nat → Int32)} {iW : Int32} {iT : Int32} {aT : (Nat → Int32)} {aC : (Nat → Int32)} {aH : (Nat → Int32)} {aE : (Nat → Int32)} {aQ : (Nat → Int32)} {iA : Int32} {iY : Int32} {iF : Int32} {iV : Int32} {aK : (Nat → Int32)} {res : Int32 × Int32} (hr : f_X6_total z1 aM iT = some res) : gM l yX6_total (ws_ yX6_total cX6_total 2 (some .int)) rm_X6_total x base [.ref o, .int z1] (mH h o aM aS iU aB iL iE iP aR iW iT aT aC aH aE aQ iA iY iF iV aK) n (some (.int res.1)) (mH h o aM aS iU aB iL iE iP aR iW res.2 aT aC aH aE aQ iA iY iF iV aK) n 0 0 := by
  refine g_met (cc := cX6_total) (nL := 2) (ret := (some .int)) (by decide) (Nat.le_of_ble_eq_true rfl) (fun p e s m below meth c ls X hnm hl hI => ?_)
  have hl : lv_has ls 2 [(0, .ref o), (1, .int z1)] := hl
  have hx := X.1
  have hb := X.2.1
  unfold f_X6_total at hr
  refine lv_aload_n hx hb dX6_total_0 rfl (lv_at hl 0 rfl) ?_
  refine lv_aload_n hx hb dX6_total_1 rfl (lv_at hl 0 rfl) ?_
  refine lv_iload_n hx hb dX6_total_2 rfl (lv_at hl 1 rfl) ?_
  obtain ⟨v2, hc1, hr⟩ := gB_i hr
  refine gRun_i (g_runV X hI (w_X6_isSibling hc1) (g_obj_s mH_0) rfl hl (lw_V q1896 q1898 qs79 q122 q1899) rfl rfl hd_X6_isSibling ⟨Nat.le_of_ble_eq_true rfl, Nat.le_of_ble_eq_true rfl⟩ (as := [.int z1]) (rest := [.ref o]) rfl rfl (Nat.le_of_ble_eq_true rfl) ⟨(Nat.le_refl _), (Nat.le_refl _)⟩ dX6_total_3) (fun H locs hI => ?_)
  refine lv_if_ne (tgt := 13) hx hb dX6_total_6 (by decide) (fun c9 => ?_) (fun c9 => ?_)
  · replace hr := gIf_f c9 hr
    refine lv_iconst (v := 0) hx hb dX6_total_13 (by decide) ?_
    exact w_X6_total_J14 X hr hI (lv_sub hl [0, 1] rfl)
  · replace hr := gIf_t c9 hr
    refine lv_iconst (v := 1) hx hb dX6_total_9 (by decide) ?_
    refine lv_goto (tgt := 14) hx hb dX6_total_10 (by decide) ?_
    exact w_X6_total_J14 X hr hI (lv_sub hl [0, 1] rfl)
abbrev rm_X6_areSiblings : Room := { frames := 2, cells := 0, slots := 0, locals := 43 }
theorem hd_X6_areSiblings : yX6_areSiblings.cls = RX6 ∧ yX6_areSiblings.cls ≠ "java/lang/invoke/MethodHandle" ∧ yX6_areSiblings.cls ≠ "java/lang/invoke/VarHandle" ∧ (parseMethodDescriptor yX6_areSiblings.desc).map (fun d => d.parameters.length) = some 2 := by decide +kernel
set_option maxHeartbeats 2000000 in
theorem w_X6_areSiblings {l : Launch} {x : gV} {base : Nat} {z1 : Int32} {z2 : Int32} {h : gH} {n : Nat} {o : Nat} {aM : (Nat → Int32)} {aS : (Nat → Int32)} {iU : Int32} {aB : (Nat → Int32)} {iL : Int32} {iE : Int32} {iP : Int32} {aR : (Nat → Int32)} {iW : Int32} {iT : Int32} {aT : (Nat → Int32)} {aC : (Nat → Int32)} {aH : (Nat → Int32)} {aE : (Nat → Int32)} {aQ : (Nat → Int32)} {iA : Int32} {iY : Int32} {iF : Int32} {iV : Int32} {aK : (Nat → Int32)} {res : Int32} (hr : f_X6_areSiblings z1 z2 aM = some res) : gM l yX6_areSiblings (ws_ yX6_areSiblings cX6_areSiblings 3 (some .boolean)) rm_X6_areSiblings x base [.ref o, .int z1, .int z2] (mH h o aM aS iU aB iL iE iP aR iW iT aT aC aH aE aQ iA iY iF iV aK) n (some (.int res)) (mH h o aM aS iU aB iL iE iP aR iW iT aT aC aH aE aQ iA iY iF iV aK) n 0 0 := by
  refine g_met (cc := cX6_areSiblings) (nL := 3) (ret := (some .boolean)) (by decide) (Nat.le_of_ble_eq_true rfl) (fun p e s m below meth c ls X hnm hl hI => ?_)
  have hl : lv_has ls 3 [(0, .ref o), (1, .int z1), (2, .int z2)] := hl
  have hx := X.1
  have hb := X.2.1
  unfold f_X6_areSiblings at hr
  refine lv_aload_n hx hb dX6_areSiblings_0 rfl (lv_at hl 0 rfl) ?_
  refine lv_iload_n hx hb dX6_areSiblings_1 rfl (lv_at hl 1 rfl) ?_
  obtain ⟨v2, hc1, hr⟩ := gB_i hr
  refine gRun_i (g_runV X hI (w_X6_isSibling hc1) (g_obj_s mH_0) rfl hl (lw_V q1896 q1898 qs79 q122 q1899) rfl rfl hd_X6_isSibling ⟨Nat.le_of_ble_eq_true rfl, Nat.le_of_ble_eq_true rfl⟩ (as := [.int z1]) (rest := []) rfl rfl (Nat.le_of_ble_eq_true rfl) ⟨(Nat.le_refl _), (Nat.le_refl _)⟩ dX6_areSiblings_2) (fun H locs hI => ?_)
  refine lv_if_eq (tgt := 20) hx hb dX6_areSiblings_5 (by decide) (fun c9 => ?_) (fun c9 => ?_)
  · replace hr := gIf_t c9 hr
    refine lv_iconst (v := 0) hx hb dX6_areSiblings_20 (by decide) ?_
    have hr := gS_i hr
    subst hr
    exact g_iret X hI (g_narZ (Or.inl rfl)) (Nat.le_refl _) (Nat.le_refl _) dX6_areSiblings_21
  · replace hr := gIf_f c9 hr
    refine lv_aload_n hx hb dX6_areSiblings_8 rfl (lv_at hl 0 rfl) ?_
    refine lv_iload_n hx hb dX6_areSiblings_9 rfl (lv_at hl 2 rfl) ?_
    obtain ⟨v4, hc3, hr⟩ := gB_i hr
    refine gRun_i (g_runV X hI (w_X6_isSibling hc3) (g_obj_s mH_0) rfl hl (lw_V q1896 q1898 qs79 q122 q1899) rfl rfl hd_X6_isSibling ⟨Nat.le_of_ble_eq_true rfl, Nat.le_of_ble_eq_true rfl⟩ (as := [.int z2]) (rest := []) rfl rfl (Nat.le_of_ble_eq_true rfl) ⟨(Nat.le_refl _), (Nat.le_refl _)⟩ dX6_areSiblings_10) (fun H locs hI => ?_)
    refine lv_if_eq (tgt := 20) hx hb dX6_areSiblings_13 (by decide) (fun c9 => ?_) (fun c9 => ?_)
    · replace hr := gIf_t c9 hr
      refine lv_iconst (v := 0) hx hb dX6_areSiblings_20 (by decide) ?_
      have hr := gS_i hr
      subst hr
      exact g_iret X hI (g_narZ (Or.inl rfl)) (Nat.le_refl _) (Nat.le_refl _) dX6_areSiblings_21
    · replace hr := gIf_f c9 hr
      refine lv_iconst (v := 1) hx hb dX6_areSiblings_16 (by decide) ?_
      refine lv_goto (tgt := 21) hx hb dX6_areSiblings_17 (by decide) ?_
      have hr := gS_i hr
      subst hr
      exact g_iret X hI (g_narZ (Or.inr rfl)) (Nat.le_refl _) (Nat.le_refl _) dX6_areSiblings_21
abbrev rm_X6_worthOfShare : Room := { frames := 3, cells := 0, slots := 0, locals := 65 }
theorem hd_X6_worthOfShare : yX6_worthOfShare.cls = RX6 ∧ yX6_worthOfShare.cls ≠ "java/lang/invoke/MethodHandle" ∧ yX6_worthOfShare.cls ≠ "java/lang/invoke/VarHandle" ∧ (parseMethodDescriptor yX6_worthOfShare.desc).map (fun d => d.parameters.length) = some 2 := by decide +kernel
set_option maxHeartbeats 2000000 in
theorem w_X6_worthOfShare_J15 {h : gH} {n : Nat} {o : Nat} {aM : (Nat → Int32)} {aS : (Nat → Int32)} {iU : Int32} {aB : (Nat → Int32)} {iL : Int32} {iE : Int32} {iP : Int32} {aR : (Nat → Int32)} {iW : Int32} {iT : Int32} {aT : (Nat → Int32)} {aC : (Nat → Int32)} {aH : (Nat → Int32)} {aE : (Nat → Int32)} {aQ : (Nat → Int32)} {iA : Int32} {iY : Int32} {iF : Int32} {iV : Int32} {aK : (Nat → Int32)} {z1 : Int32} {z2 : Int32} {s1 : Int32} {res : Int32 × Int32} (X : gXX x base RX6 cX6_worthOfShare 3 (some .int) p l s m args meth c) {H : Heap} {locs : List Loc} {ls : Array Slot} (hr : f_X6_worthOfShare_J15 z1 z2 s1 aM iT = some res) (hI : gI x base s.heap (mH h o aM aS iU aB iL iE iP aR iW iT aT aC aH aE aQ iA iY iF iV aK) n H locs) (hl : lv_has ls 3 [(0, .ref o), (1, .int z1), (2, .int z2)]) : W p l e rm_X6_worthOfShare s m args below meth c H locs 0 0 (MQ below (gQ x base (some (.int res.1)) (mH h o aM aS iU aB iL iE iP aR iW res.2 aT aC aH aE aQ iA iY iF iV aK) n) args s 0 0 (fun q => base ≤ q)) (F0 m 15 ls [.int s1, .ref o]) := by
  have hx := X.1
  have hb := X.2.1
  unfold f_X6_worthOfShare_J15 at hr
  refine lv_iconst (v := 0) hx hb dX6_worthOfShare_15 (by decide) ?_
  refine lv_iconst (v := 0) hx hb dX6_worthOfShare_16 (by decide) ?_
  obtain ⟨v4, iT_5, hc3, hr⟩ := gT2_i hr
  refine gRun_i (g_runV X hI (w_X6_fails hc3) (g_obj_s mH_0) rfl hl (lw_V q1717 q1719 qs45 q122 q1720) rfl rfl hd_X6_fails ⟨Nat.le_of_ble_eq_true rfl, Nat.le_of_ble_eq_true rfl⟩ (as := [.int s1, .int (0 : Int32), .int (0 : Int32)]) (rest := []) rfl rfl (Nat.le_of_ble_eq_true rfl) ⟨(Nat.le_refl _), (Nat.le_refl _)⟩ dX6_worthOfShare_17) (fun H locs hI => ?_)
  refine lv_if_eq (tgt := 25) hx hb dX6_worthOfShare_20 (by decide) (fun c9 => ?_) (fun c9 => ?_)
  · replace hr := gIf_t c9 hr
    refine lv_aload_n hx hb dX6_worthOfShare_25 rfl (lv_at hl 0 rfl) ?_
    refine lv_iload_n hx hb dX6_worthOfShare_26 rfl (lv_at hl 1 rfl) ?_
    refine lv_iload_n hx hb dX6_worthOfShare_27 rfl (lv_at hl 2 rfl) ?_
    obtain ⟨v7, hc6, hr⟩ := gB_i hr
    refine gRun_i (g_runV X hI (w_X6_worthShare hc6) (g_obj_s mH_0) rfl hl (lw_V q1800 q1802 qs60 q122 q1803) rfl rfl hd_X6_worthShare ⟨Nat.le_of_ble_eq_true rfl, Nat.le_of_ble_eq_true rfl⟩ (as := [.int z1, .int z2]) (rest := []) rfl rfl (Nat.le_of_ble_eq_true rfl) ⟨(Nat.le_refl _), (Nat.le_refl _)⟩ dX6_worthOfShare_28) (fun H locs hI => ?_)
    have hr := gS_i hr
    subst hr
    exact g_iret X hI rfl (Nat.le_refl _) (Nat.le_refl _) dX6_worthOfShare_31
  · replace hr := gIf_f c9 hr
    refine lv_iconst (v := 0) hx hb dX6_worthOfShare_23 (by decide) ?_
    have hr := gS_i hr
    subst hr
    exact g_iret X hI rfl (Nat.le_refl _) (Nat.le_refl _) dX6_worthOfShare_24
set_option maxHeartbeats 2000000 in
theorem w_X6_worthOfShare {l : Launch} {x : gV} {base : Nat} {z1 : Int32} {z2 : Int32} {h : gH} {n : Nat} {o : Nat} {aM : (Nat → Int32)} {aS : (Nat → Int32)} {iU : Int32} {aB : (Nat → Int32)} {iL : Int32} {iE : Int32} {iP : Int32} {aR : (Nat → Int32)} {iW : Int32} {iT : Int32} {aT : (Nat → Int32)} {aC : (Nat → Int32)} {aH : (Nat → Int32)} {aE : (Nat → Int32)} {aQ : (Nat → Int32)} {iA : Int32} {iY : Int32} {iF : Int32} {iV : Int32} {aK : (Nat → Int32)} {res : Int32 × Int32} (hr : f_X6_worthOfShare z1 z2 aM iT = some res) : gM l yX6_worthOfShare (ws_ yX6_worthOfShare cX6_worthOfShare 3 (some .int)) rm_X6_worthOfShare x base [.ref o, .int z1, .int z2] (mH h o aM aS iU aB iL iE iP aR iW iT aT aC aH aE aQ iA iY iF iV aK) n (some (.int res.1)) (mH h o aM aS iU aB iL iE iP aR iW res.2 aT aC aH aE aQ iA iY iF iV aK) n 0 0 := by
  refine g_met (cc := cX6_worthOfShare) (nL := 3) (ret := (some .int)) (by decide) (Nat.le_of_ble_eq_true rfl) (fun p e s m below meth c ls X hnm hl hI => ?_)
  have hl : lv_has ls 3 [(0, .ref o), (1, .int z1), (2, .int z2)] := hl
  have hx := X.1
  have hb := X.2.1
  unfold f_X6_worthOfShare at hr
  refine lv_aload_n hx hb dX6_worthOfShare_0 rfl (lv_at hl 0 rfl) ?_
  refine lv_aload_n hx hb dX6_worthOfShare_1 rfl (lv_at hl 0 rfl) ?_
  refine lv_iload_n hx hb dX6_worthOfShare_2 rfl (lv_at hl 1 rfl) ?_
  refine lv_iload_n hx hb dX6_worthOfShare_3 rfl (lv_at hl 2 rfl) ?_
  obtain ⟨v2, hc1, hr⟩ := gB_i hr
  refine gRun_i (g_runV X hI (w_X6_areSiblings hc1) (g_obj_s mH_0) rfl hl (lw_V q1924 q1926 qs80 q122 q1927) rfl rfl hd_X6_areSiblings ⟨Nat.le_of_ble_eq_true rfl, Nat.le_of_ble_eq_true rfl⟩ (as := [.int z1, .int z2]) (rest := [.ref o]) rfl rfl (Nat.le_of_ble_eq_true rfl) ⟨(Nat.le_refl _), (Nat.le_refl _)⟩ dX6_worthOfShare_4) (fun H locs hI => ?_)
  refine lv_if_ne (tgt := 14) hx hb dX6_worthOfShare_7 (by decide) (fun c9 => ?_) (fun c9 => ?_)
  · replace hr := gIf_f c9 hr
    refine lv_iconst (v := 0) hx hb dX6_worthOfShare_14 (by decide) ?_
    exact w_X6_worthOfShare_J15 X hr hI (lv_sub hl [0, 1, 2] rfl)
  · replace hr := gIf_t c9 hr
    refine lv_iconst (v := 1) hx hb dX6_worthOfShare_10 (by decide) ?_
    refine lv_goto (tgt := 15) hx hb dX6_worthOfShare_11 (by decide) ?_
    exact w_X6_worthOfShare_J15 X hr hI (lv_sub hl [0, 1, 2] rfl)
abbrev rm_X6_sizeOf : Room := { frames := 1, cells := 0, slots := 0, locals := 21 }
theorem hd_X6_sizeOf : yX6_sizeOf.cls = RX6 ∧ yX6_sizeOf.cls ≠ "java/lang/invoke/MethodHandle" ∧ yX6_sizeOf.cls ≠ "java/lang/invoke/VarHandle" ∧ (parseMethodDescriptor yX6_sizeOf.desc).map (fun d => d.parameters.length) = some 1 := by decide +kernel
set_option maxHeartbeats 2000000 in
theorem w_X6_sizeOf_L4 {h : gH} {n : Nat} {o : Nat} {aM : (Nat → Int32)} {aS : (Nat → Int32)} {iU : Int32} {aB : (Nat → Int32)} {iL : Int32} {iE : Int32} {iP : Int32} {aR : (Nat → Int32)} {iW : Int32} {iT : Int32} {aT : (Nat → Int32)} {aC : (Nat → Int32)} {aH : (Nat → Int32)} {aE : (Nat → Int32)} {aQ : (Nat → Int32)} {iA : Int32} {iY : Int32} {iF : Int32} {iV : Int32} {aK : (Nat → Int32)} {z1 : Int32} {res : Int32} (X : gXX x base RX6 cX6_sizeOf 4 (some .int) p l s m args meth c) : ∀ (k : Nat) {z2 : Int32} {z3 : Int32} {H : Heap} {locs : List Loc} {ls : Array Slot}, gL2 (f_X6_sizeOf_L4 z1 aM) k z2 z3 = some res → gI x base s.heap (mH h o aM aS iU aB iL iE iP aR iW iT aT aC aH aE aQ iA iY iF iV aK) n H locs → lv_has ls 4 [(0, .ref o), (1, .int z1), (2, .int z2), (3, .int z3)] → W p l e rm_X6_sizeOf s m args below meth c H locs 0 0 (MQ below (gQ x base (some (.int res)) (mH h o aM aS iU aB iL iE iP aR iW iT aT aC aH aE aQ iA iY iF iV aK) n) args s 0 0 (fun q => base ≤ q)) (F0 m 4 ls []) := by
  have hx := X.1
  have hb := X.2.1
  intro k
  induction k with
  | zero =>
    intros
    rename_i hr _ _
    exact nomatch (show (none : Option _) = some _ from hr)
  | succ k ih =>
    intro z2 z3 H locs ls hr hI hl
    replace hr : f_X6_sizeOf_L4 z1 aM (gL2 (f_X6_sizeOf_L4 z1 aM) k) z2 z3 = some res := hr
    unfold f_X6_sizeOf_L4 at hr
    refine lv_iload_n hx hb dX6_sizeOf_4 rfl (lv_at hl 3 rfl) ?_
    refine lv_aload_n hx hb dX6_sizeOf_5 rfl (lv_at hl 0 rfl) ?_
    refine m_get X hI mH_0 0 (by decide) q1652 rfl dX6_sizeOf_6 ?_
    refine lv_iconst (v := 0) hx hb dX6_sizeOf_9 (by decide) ?_
    refine m_iald X hI mH_aaM hr dX6_sizeOf_10 (fun v1 hr => ?_)
    refine lv_icmp_ge (tgt := 37) hx hb dX6_sizeOf_11 (by decide) (fun c9 => ?_) (fun c9 => ?_)
    · replace hr := gIf_t c9 hr
      refine lv_iload_n hx hb dX6_sizeOf_37 rfl (lv_at hl 2 rfl) ?_
      have hr := gS_i hr
      subst hr
      exact g_iret X hI rfl (Nat.le_refl _) (Nat.le_refl _) dX6_sizeOf_38
    · replace hr := gIf_f c9 hr
      refine lv_iload_n hx hb dX6_sizeOf_14 rfl (lv_at hl 2 rfl) ?_
      refine lv_aload_n hx hb dX6_sizeOf_15 rfl (lv_at hl 0 rfl) ?_
      refine lv_iload_n hx hb dX6_sizeOf_16 rfl (lv_at hl 3 rfl) ?_
      obtain ⟨v3, hc2, hr⟩ := gB_i hr
      refine gRun_i (g_runV X hI (w_X6_ownerOf hc2) (g_obj_s mH_0) rfl hl (lw_V q1804 q1806 qs61 q122 q1807) rfl rfl hd_X6_ownerOf ⟨Nat.le_of_ble_eq_true rfl, Nat.le_of_ble_eq_true rfl⟩ (as := [.int z3]) (rest := [.int z2]) rfl rfl (Nat.le_of_ble_eq_true rfl) ⟨(Nat.le_refl _), (Nat.le_refl _)⟩ dX6_sizeOf_17) (fun H locs hI => ?_)
      refine lv_iload_n hx hb dX6_sizeOf_20 rfl (lv_at hl 1 rfl) ?_
      refine lv_icmp_ne (tgt := 28) hx hb dX6_sizeOf_21 (by decide) (fun c9 => ?_) (fun c9 => ?_)
      · replace hr := gIf_f c9 hr
        refine lv_iconst (v := 0) hx hb dX6_sizeOf_28 (by decide) ?_
        refine lv_iadd hx hb dX6_sizeOf_29 ?_
        refine lv_istore_n (lv' := [(2, .int (z2 + (0 : Int32))), (0, .ref o), (1, .int z1), (3, .int z3)]) hx hb dX6_sizeOf_30 rfl hl (by decide) rfl (fun ls hl => ?_)
        refine lv_iinc (v := (z3 + (1 : Int32))) (lv' := [(3, .int (z3 + (1 : Int32))), (2, .int (z2 + (0 : Int32))), (0, .ref o), (1, .int z1)]) hx hb dX6_sizeOf_31 hl (k := 3) rfl (g_inc (by decide)) (by decide) rfl (fun ls hl => ?_)
        refine lv_goto (tgt := 4) hx hb dX6_sizeOf_34 (by decide) ?_
        exact ih hr hI (lv_sub hl [2, 3, 1, 0] rfl)
      · replace hr := gIf_t c9 hr
        refine lv_iconst (v := 1) hx hb dX6_sizeOf_24 (by decide) ?_
        refine lv_goto (tgt := 29) hx hb dX6_sizeOf_25 (by decide) ?_
        refine lv_iadd hx hb dX6_sizeOf_29 ?_
        refine lv_istore_n (lv' := [(2, .int (z2 + (1 : Int32))), (0, .ref o), (1, .int z1), (3, .int z3)]) hx hb dX6_sizeOf_30 rfl hl (by decide) rfl (fun ls hl => ?_)
        refine lv_iinc (v := (z3 + (1 : Int32))) (lv' := [(3, .int (z3 + (1 : Int32))), (2, .int (z2 + (1 : Int32))), (0, .ref o), (1, .int z1)]) hx hb dX6_sizeOf_31 hl (k := 3) rfl (g_inc (by decide)) (by decide) rfl (fun ls hl => ?_)
        refine lv_goto (tgt := 4) hx hb dX6_sizeOf_34 (by decide) ?_
        exact ih hr hI (lv_sub hl [2, 3, 1, 0] rfl)
set_option maxHeartbeats 2000000 in
theorem w_X6_sizeOf {l : Launch} {x : gV} {base : Nat} {z1 : Int32} {h : gH} {n : Nat} {o : Nat} {aM : (Nat → Int32)} {aS : (Nat → Int32)} {iU : Int32} {aB : (Nat → Int32)} {iL : Int32} {iE : Int32} {iP : Int32} {aR : (Nat → Int32)} {iW : Int32} {iT : Int32} {aT : (Nat → Int32)} {aC : (Nat → Int32)} {aH : (Nat → Int32)} {aE : (Nat → Int32)} {aQ : (Nat → Int32)} {iA : Int32} {iY : Int32} {iF : Int32} {iV : Int32} {aK : (Nat → Int32)} {res : Int32} (hr : f_X6_sizeOf z1 aM = some res) : gM l yX6_sizeOf (ws_ yX6_sizeOf cX6_sizeOf 4 (some .int)) rm_X6_sizeOf x base [.ref o, .int z1] (mH h o aM aS iU aB iL iE iP aR iW iT aT aC aH aE aQ iA iY iF iV aK) n (some (.int res)) (mH h o aM aS iU aB iL iE iP aR iW iT aT aC aH aE aQ iA iY iF iV aK) n 0 0 := by
  refine g_met (cc := cX6_sizeOf) (nL := 4) (ret := (some .int)) (by decide) (Nat.le_of_ble_eq_true rfl) (fun p e s m below meth c ls X hnm hl hI => ?_)
  have hl : lv_has ls 4 [(0, .ref o), (1, .int z1)] := hl
  have hx := X.1
  have hb := X.2.1
  unfold f_X6_sizeOf at hr
  refine lv_iconst (v := 0) hx hb dX6_sizeOf_0 (by decide) ?_
  refine lv_istore_n (lv' := [(2, .int (0 : Int32)), (0, .ref o), (1, .int z1)]) hx hb dX6_sizeOf_1 rfl hl (by decide) rfl (fun ls hl => ?_)
  refine lv_iconst (v := 0) hx hb dX6_sizeOf_2 (by decide) ?_
  refine lv_istore_n (lv' := [(3, .int (0 : Int32)), (2, .int (0 : Int32)), (0, .ref o), (1, .int z1)]) hx hb dX6_sizeOf_3 rfl hl (by decide) rfl (fun ls hl => ?_)
  exact w_X6_sizeOf_L4 X gN hr hI (lv_sub hl [2, 3, 1, 0] rfl)
abbrev rm_X6_shareSize : Room := { frames := 2, cells := 0, slots := 0, locals := 44 }
theorem hd_X6_shareSize : yX6_shareSize.cls = RX6 ∧ yX6_shareSize.cls ≠ "java/lang/invoke/MethodHandle" ∧ yX6_shareSize.cls ≠ "java/lang/invoke/VarHandle" ∧ (parseMethodDescriptor yX6_shareSize.desc).map (fun d => d.parameters.length) = some 1 := by decide +kernel
set_option maxHeartbeats 2000000 in
theorem w_X6_shareSize_J14 {h : gH} {n : Nat} {o : Nat} {aM : (Nat → Int32)} {aS : (Nat → Int32)} {iU : Int32} {aB : (Nat → Int32)} {iL : Int32} {iE : Int32} {iP : Int32} {aR : (Nat → Int32)} {iW : Int32} {iT : Int32} {aT : (Nat → Int32)} {aC : (Nat → Int32)} {aH : (Nat → Int32)} {aE : (Nat → Int32)} {aQ : (Nat → Int32)} {iA : Int32} {iY : Int32} {iF : Int32} {iV : Int32} {aK : (Nat → Int32)} {z1 : Int32} {s1 : Int32} {res : Int32 × Int32} (X : gXX x base RX6 cX6_shareSize 2 (some .int) p l s m args meth c) {H : Heap} {locs : List Loc} {ls : Array Slot} (hr : f_X6_shareSize_J14 z1 s1 aM iT = some res) (hI : gI x base s.heap (mH h o aM aS iU aB iL iE iP aR iW iT aT aC aH aE aQ iA iY iF iV aK) n H locs) (hl : lv_has ls 2 [(0, .ref o), (1, .int z1)]) : W p l e rm_X6_shareSize s m args below meth c H locs 0 0 (MQ below (gQ x base (some (.int res.1)) (mH h o aM aS iU aB iL iE iP aR iW res.2 aT aC aH aE aQ iA iY iF iV aK) n) args s 0 0 (fun q => base ≤ q)) (F0 m 14 ls [.int s1, .ref o]) := by
  have hx := X.1
  have hb := X.2.1
  unfold f_X6_shareSize_J14 at hr
  refine lv_iconst (v := 0) hx hb dX6_shareSize_14 (by decide) ?_
  refine lv_iconst (v := 0) hx hb dX6_shareSize_15 (by decide) ?_
  obtain ⟨v4, iT_5, hc3, hr⟩ := gT2_i hr
  refine gRun_i (g_runV X hI (w_X6_fails hc3) (g_obj_s mH_0) rfl hl (lw_V q1717 q1719 qs45 q122 q1720) rfl rfl hd_X6_fails ⟨Nat.le_of_ble_eq_true rfl, Nat.le_of_ble_eq_true rfl⟩ (as := [.int s1, .int (0 : Int32), .int (0 : Int32)]) (rest := []) rfl rfl (Nat.le_of_ble_eq_true rfl) ⟨(Nat.le_refl _), (Nat.le_refl _)⟩ dX6_shareSize_16) (fun H locs hI => ?_)
  refine lv_if_eq (tgt := 24) hx hb dX6_shareSize_19 (by decide) (fun c9 => ?_) (fun c9 => ?_)
  · replace hr := gIf_t c9 hr
    refine lv_aload_n hx hb dX6_shareSize_24 rfl (lv_at hl 0 rfl) ?_
    refine lv_iload_n hx hb dX6_shareSize_25 rfl (lv_at hl 1 rfl) ?_
    obtain ⟨v7, hc6, hr⟩ := gB_i hr
    refine gRun_i (g_runV X hI (w_X6_sizeOf hc6) (g_obj_s mH_0) rfl hl (lw_V q1932 q1934 qs81 q122 q1935) rfl rfl hd_X6_sizeOf ⟨Nat.le_of_ble_eq_true rfl, Nat.le_of_ble_eq_true rfl⟩ (as := [.int z1]) (rest := []) rfl rfl (Nat.le_of_ble_eq_true rfl) ⟨(Nat.le_refl _), (Nat.le_refl _)⟩ dX6_shareSize_26) (fun H locs hI => ?_)
    have hr := gS_i hr
    subst hr
    exact g_iret X hI rfl (Nat.le_refl _) (Nat.le_refl _) dX6_shareSize_29
  · replace hr := gIf_f c9 hr
    refine lv_iconst (v := 0) hx hb dX6_shareSize_22 (by decide) ?_
    have hr := gS_i hr
    subst hr
    exact g_iret X hI rfl (Nat.le_refl _) (Nat.le_refl _) dX6_shareSize_23
set_option maxHeartbeats 2000000 in
theorem w_X6_shareSize {l : Launch} {x : gV} {base : Nat} {z1 : Int32} {h : gH} {n : Nat} {o : Nat} {aM : (Nat → Int32)} {aS : (Nat → Int32)} {iU : Int32} {aB : (Nat → Int32)} {iL : Int32} {iE : Int32} {iP : Int32} {aR : (Nat → Int32)} {iW : Int32} {iT : Int32} {aT : (Nat → Int32)} {aC : (Nat → Int32)} {aH : (Nat → Int32)} {aE : (Nat → Int32)} {aQ : (Nat → Int32)} {iA : Int32} {iY : Int32} {iF : Int32} {iV : Int32} {aK : (Nat → Int32)} {res : Int32 × Int32} (hr : f_X6_shareSize z1 aM iT = some res) : gM l yX6_shareSize (ws_ yX6_shareSize cX6_shareSize 2 (some .int)) rm_X6_shareSize x base [.ref o, .int z1] (mH h o aM aS iU aB iL iE iP aR iW iT aT aC aH aE aQ iA iY iF iV aK) n (some (.int res.1)) (mH h o aM aS iU aB iL iE iP aR iW res.2 aT aC aH aE aQ iA iY iF iV aK) n 0 0 := by
  refine g_met (cc := cX6_shareSize) (nL := 2) (ret := (some .int)) (by decide) (Nat.le_of_ble_eq_true rfl) (fun p e s m below meth c ls X hnm hl hI => ?_)
  have hl : lv_has ls 2 [(0, .ref o), (1, .int z1)] := hl
  have hx := X.1
  have hb := X.2.1
  unfold f_X6_shareSize at hr
  refine lv_aload_n hx hb dX6_shareSize_0 rfl (lv_at hl 0 rfl) ?_
  refine lv_aload_n hx hb dX6_shareSize_1 rfl (lv_at hl 0 rfl) ?_
  refine lv_iload_n hx hb dX6_shareSize_2 rfl (lv_at hl 1 rfl) ?_
  obtain ⟨v2, hc1, hr⟩ := gB_i hr
  refine gRun_i (g_runV X hI (w_X6_isSibling hc1) (g_obj_s mH_0) rfl hl (lw_V q1896 q1898 qs79 q122 q1899) rfl rfl hd_X6_isSibling ⟨Nat.le_of_ble_eq_true rfl, Nat.le_of_ble_eq_true rfl⟩ (as := [.int z1]) (rest := [.ref o]) rfl rfl (Nat.le_of_ble_eq_true rfl) ⟨(Nat.le_refl _), (Nat.le_refl _)⟩ dX6_shareSize_3) (fun H locs hI => ?_)
  refine lv_if_ne (tgt := 13) hx hb dX6_shareSize_6 (by decide) (fun c9 => ?_) (fun c9 => ?_)
  · replace hr := gIf_f c9 hr
    refine lv_iconst (v := 0) hx hb dX6_shareSize_13 (by decide) ?_
    exact w_X6_shareSize_J14 X hr hI (lv_sub hl [0, 1] rfl)
  · replace hr := gIf_t c9 hr
    refine lv_iconst (v := 1) hx hb dX6_shareSize_9 (by decide) ?_
    refine lv_goto (tgt := 14) hx hb dX6_shareSize_10 (by decide) ?_
    exact w_X6_shareSize_J14 X hr hI (lv_sub hl [0, 1] rfl)
abbrev rm_X6_pieces : Room := { frames := 1, cells := 0, slots := 0, locals := 21 }
theorem hd_X6_pieces : yX6_pieces.cls = RX6 ∧ yX6_pieces.cls ≠ "java/lang/invoke/MethodHandle" ∧ yX6_pieces.cls ≠ "java/lang/invoke/VarHandle" ∧ (parseMethodDescriptor yX6_pieces.desc).map (fun d => d.parameters.length) = some 1 := by decide +kernel
set_option maxHeartbeats 2000000 in
theorem w_X6_pieces_L4 {h : gH} {n : Nat} {o : Nat} {aM : (Nat → Int32)} {aS : (Nat → Int32)} {iU : Int32} {aB : (Nat → Int32)} {iL : Int32} {iE : Int32} {iP : Int32} {aR : (Nat → Int32)} {iW : Int32} {iT : Int32} {aT : (Nat → Int32)} {aC : (Nat → Int32)} {aH : (Nat → Int32)} {aE : (Nat → Int32)} {aQ : (Nat → Int32)} {iA : Int32} {iY : Int32} {iF : Int32} {iV : Int32} {aK : (Nat → Int32)} {z1 : Int32} {res : Int32} (X : gXX x base RX6 cX6_pieces 4 (some .int) p l s m args meth c) : ∀ (k : Nat) {z2 : Int32} {z3 : Int32} {H : Heap} {locs : List Loc} {ls : Array Slot}, gL2 (f_X6_pieces_L4 z1 aM) k z2 z3 = some res → gI x base s.heap (mH h o aM aS iU aB iL iE iP aR iW iT aT aC aH aE aQ iA iY iF iV aK) n H locs → lv_has ls 4 [(0, .ref o), (1, .int z1), (2, .int z2), (3, .int z3)] → W p l e rm_X6_pieces s m args below meth c H locs 0 0 (MQ below (gQ x base (some (.int res)) (mH h o aM aS iU aB iL iE iP aR iW iT aT aC aH aE aQ iA iY iF iV aK) n) args s 0 0 (fun q => base ≤ q)) (F0 m 4 ls []) := by
  have hx := X.1
  have hb := X.2.1
  intro k
  induction k with
  | zero =>
    intros
    rename_i hr _ _
    exact nomatch (show (none : Option _) = some _ from hr)
  | succ k ih =>
    intro z2 z3 H locs ls hr hI hl
    replace hr : f_X6_pieces_L4 z1 aM (gL2 (f_X6_pieces_L4 z1 aM) k) z2 z3 = some res := hr
    unfold f_X6_pieces_L4 at hr
    refine lv_iload_n hx hb dX6_pieces_4 rfl (lv_at hl 3 rfl) ?_
    refine lv_aload_n hx hb dX6_pieces_5 rfl (lv_at hl 0 rfl) ?_
    refine m_get X hI mH_0 0 (by decide) q1652 rfl dX6_pieces_6 ?_
    refine lv_iconst (v := 0) hx hb dX6_pieces_9 (by decide) ?_
    refine m_iald X hI mH_aaM hr dX6_pieces_10 (fun v1 hr => ?_)
    refine lv_icmp_ge (tgt := 52) hx hb dX6_pieces_11 (by decide) (fun c9 => ?_) (fun c9 => ?_)
    · replace hr := gIf_t c9 hr
      refine lv_iload_n hx hb dX6_pieces_52 rfl (lv_at hl 2 rfl) ?_
      have hr := gS_i hr
      subst hr
      exact g_iret X hI rfl (Nat.le_refl _) (Nat.le_refl _) dX6_pieces_53
    · replace hr := gIf_f c9 hr
      refine lv_iload_n hx hb dX6_pieces_14 rfl (lv_at hl 2 rfl) ?_
      refine lv_aload_n hx hb dX6_pieces_15 rfl (lv_at hl 0 rfl) ?_
      refine lv_iload_n hx hb dX6_pieces_16 rfl (lv_at hl 3 rfl) ?_
      obtain ⟨v3, hc2, hr⟩ := gB_i hr
      refine gRun_i (g_runV X hI (w_X6_ownerOf hc2) (g_obj_s mH_0) rfl hl (lw_V q1804 q1806 qs61 q122 q1807) rfl rfl hd_X6_ownerOf ⟨Nat.le_of_ble_eq_true rfl, Nat.le_of_ble_eq_true rfl⟩ (as := [.int z3]) (rest := [.int z2]) rfl rfl (Nat.le_of_ble_eq_true rfl) ⟨(Nat.le_refl _), (Nat.le_refl _)⟩ dX6_pieces_17) (fun H locs hI => ?_)
      refine lv_iload_n hx hb dX6_pieces_20 rfl (lv_at hl 1 rfl) ?_
      refine lv_icmp_ne (tgt := 43) hx hb dX6_pieces_21 (by decide) (fun c9 => ?_) (fun c9 => ?_)
      · replace hr := gIf_f c9 hr
        refine lv_iconst (v := 0) hx hb dX6_pieces_43 (by decide) ?_
        refine lv_iadd hx hb dX6_pieces_44 ?_
        refine lv_istore_n (lv' := [(2, .int (z2 + (0 : Int32))), (0, .ref o), (1, .int z1), (3, .int z3)]) hx hb dX6_pieces_45 rfl hl (by decide) rfl (fun ls hl => ?_)
        refine lv_iinc (v := (z3 + (1 : Int32))) (lv' := [(3, .int (z3 + (1 : Int32))), (2, .int (z2 + (0 : Int32))), (0, .ref o), (1, .int z1)]) hx hb dX6_pieces_46 hl (k := 3) rfl (g_inc (by decide)) (by decide) rfl (fun ls hl => ?_)
        refine lv_goto (tgt := 4) hx hb dX6_pieces_49 (by decide) ?_
        exact ih hr hI (lv_sub hl [2, 3, 1, 0] rfl)
      · replace hr := gIf_t c9 hr
        refine lv_iload_n hx hb dX6_pieces_24 rfl (lv_at hl 3 rfl) ?_
        refine lv_if_eq (tgt := 39) hx hb dX6_pieces_25 (by decide) (fun c9 => ?_) (fun c9 => ?_)
        · replace hr := gIf_t c9 hr
          refine lv_iconst (v := 1) hx hb dX6_pieces_39 (by decide) ?_
          refine lv_goto (tgt := 44) hx hb dX6_pieces_40 (by decide) ?_
          refine lv_iadd hx hb dX6_pieces_44 ?_
          refine lv_istore_n (lv' := [(2, .int (z2 + (1 : Int32))), (0, .ref o), (1, .int z1), (3, .int z3)]) hx hb dX6_pieces_45 rfl hl (by decide) rfl (fun ls hl => ?_)
          refine lv_iinc (v := (z3 + (1 : Int32))) (lv' := [(3, .int (z3 + (1 : Int32))), (2, .int (z2 + (1 : Int32))), (0, .ref o), (1, .int z1)]) hx hb dX6_pieces_46 hl (k := 3) rfl (g_inc (by decide)) (by decide) rfl (fun ls hl => ?_)
          refine lv_goto (tgt := 4) hx hb dX6_pieces_49 (by decide) ?_
          exact ih hr hI (lv_sub hl [2, 3, 1, 0] rfl)
        · replace hr := gIf_f c9 hr
          refine lv_aload_n hx hb dX6_pieces_28 rfl (lv_at hl 0 rfl) ?_
          refine lv_iload_n hx hb dX6_pieces_29 rfl (lv_at hl 3 rfl) ?_
          refine lv_iconst (v := 1) hx hb dX6_pieces_30 (by decide) ?_
          refine lv_isub hx hb dX6_pieces_31 ?_
          obtain ⟨v5, hc4, hr⟩ := gB_i hr
          refine gRun_i (g_runV X hI (w_X6_ownerOf hc4) (g_obj_s mH_0) rfl hl (lw_V q1804 q1806 qs61 q122 q1807) rfl rfl hd_X6_ownerOf ⟨Nat.le_of_ble_eq_true rfl, Nat.le_of_ble_eq_true rfl⟩ (as := [.int (z3 - (1 : Int32))]) (rest := [.int z2]) rfl rfl (Nat.le_of_ble_eq_true rfl) ⟨(Nat.le_refl _), (Nat.le_refl _)⟩ dX6_pieces_32) (fun H locs hI => ?_)
          refine lv_iload_n hx hb dX6_pieces_35 rfl (lv_at hl 1 rfl) ?_
          refine lv_icmp_eq (tgt := 43) hx hb dX6_pieces_36 (by decide) (fun c9 => ?_) (fun c9 => ?_)
          · replace hr := gIf_t c9 hr
            refine lv_iconst (v := 0) hx hb dX6_pieces_43 (by decide) ?_
            refine lv_iadd hx hb dX6_pieces_44 ?_
            refine lv_istore_n (lv' := [(2, .int (z2 + (0 : Int32))), (0, .ref o), (1, .int z1), (3, .int z3)]) hx hb dX6_pieces_45 rfl hl (by decide) rfl (fun ls hl => ?_)
            refine lv_iinc (v := (z3 + (1 : Int32))) (lv' := [(3, .int (z3 + (1 : Int32))), (2, .int (z2 + (0 : Int32))), (0, .ref o), (1, .int z1)]) hx hb dX6_pieces_46 hl (k := 3) rfl (g_inc (by decide)) (by decide) rfl (fun ls hl => ?_)
            refine lv_goto (tgt := 4) hx hb dX6_pieces_49 (by decide) ?_
            exact ih hr hI (lv_sub hl [2, 3, 1, 0] rfl)
          · replace hr := gIf_f c9 hr
            refine lv_iconst (v := 1) hx hb dX6_pieces_39 (by decide) ?_
            refine lv_goto (tgt := 44) hx hb dX6_pieces_40 (by decide) ?_
            refine lv_iadd hx hb dX6_pieces_44 ?_
            refine lv_istore_n (lv' := [(2, .int (z2 + (1 : Int32))), (0, .ref o), (1, .int z1), (3, .int z3)]) hx hb dX6_pieces_45 rfl hl (by decide) rfl (fun ls hl => ?_)
            refine lv_iinc (v := (z3 + (1 : Int32))) (lv' := [(3, .int (z3 + (1 : Int32))), (2, .int (z2 + (1 : Int32))), (0, .ref o), (1, .int z1)]) hx hb dX6_pieces_46 hl (k := 3) rfl (g_inc (by decide)) (by decide) rfl (fun ls hl => ?_)
            refine lv_goto (tgt := 4) hx hb dX6_pieces_49 (by decide) ?_
            exact ih hr hI (lv_sub hl [2, 3, 1, 0] rfl)
set_option maxHeartbeats 2000000 in
theorem w_X6_pieces {l : Launch} {x : gV} {base : Nat} {z1 : Int32} {h : gH} {n : Nat} {o : Nat} {aM : (Nat → Int32)} {aS : (Nat → Int32)} {iU : Int32} {aB : (Nat → Int32)} {iL : Int32} {iE : Int32} {iP : Int32} {aR : (Nat → Int32)} {iW : Int32} {iT : Int32} {aT : (Nat → Int32)} {aC : (Nat → Int32)} {aH : (Nat → Int32)} {aE : (Nat → Int32)} {aQ : (Nat → Int32)} {iA : Int32} {iY : Int32} {iF : Int32} {iV : Int32} {aK : (Nat → Int32)} {res : Int32} (hr : f_X6_pieces z1 aM = some res) : gM l yX6_pieces (ws_ yX6_pieces cX6_pieces 4 (some .int)) rm_X6_pieces x base [.ref o, .int z1] (mH h o aM aS iU aB iL iE iP aR iW iT aT aC aH aE aQ iA iY iF iV aK) n (some (.int res)) (mH h o aM aS iU aB iL iE iP aR iW iT aT aC aH aE aQ iA iY iF iV aK) n 0 0 := by
  refine g_met (cc := cX6_pieces) (nL := 4) (ret := (some .int)) (by decide) (Nat.le_of_ble_eq_true rfl) (fun p e s m below meth c ls X hnm hl hI => ?_)
  have hl : lv_has ls 4 [(0, .ref o), (1, .int z1)] := hl
  have hx := X.1
  have hb := X.2.1
  unfold f_X6_pieces at hr
  refine lv_iconst (v := 0) hx hb dX6_pieces_0 (by decide) ?_
  refine lv_istore_n (lv' := [(2, .int (0 : Int32)), (0, .ref o), (1, .int z1)]) hx hb dX6_pieces_1 rfl hl (by decide) rfl (fun ls hl => ?_)
  refine lv_iconst (v := 0) hx hb dX6_pieces_2 (by decide) ?_
  refine lv_istore_n (lv' := [(3, .int (0 : Int32)), (2, .int (0 : Int32)), (0, .ref o), (1, .int z1)]) hx hb dX6_pieces_3 rfl hl (by decide) rfl (fun ls hl => ?_)
  exact w_X6_pieces_L4 X gN hr hI (lv_sub hl [2, 3, 1, 0] rfl)
abbrev rm_X6_pieceCount : Room := { frames := 2, cells := 0, slots := 0, locals := 44 }
theorem hd_X6_pieceCount : yX6_pieceCount.cls = RX6 ∧ yX6_pieceCount.cls ≠ "java/lang/invoke/MethodHandle" ∧ yX6_pieceCount.cls ≠ "java/lang/invoke/VarHandle" ∧ (parseMethodDescriptor yX6_pieceCount.desc).map (fun d => d.parameters.length) = some 1 := by decide +kernel
set_option maxHeartbeats 2000000 in
theorem w_X6_pieceCount_J14 {h : gH} {n : Nat} {o : Nat} {aM : (Nat → Int32)} {aS : (Nat → Int32)} {iU : Int32} {aB : (Nat → Int32)} {iL : Int32} {iE : Int32} {iP : Int32} {aR : (Nat → Int32)} {iW : Int32} {iT : Int32} {aT : (Nat → Int32)} {aC : (Nat → Int32)} {aH : (Nat → Int32)} {aE : (Nat → Int32)} {aQ : (Nat → Int32)} {iA : Int32} {iY : Int32} {iF : Int32} {iV : Int32} {aK : (Nat → Int32)} {z1 : Int32} {s1 : Int32} {res : Int32 × Int32} (X : gXX x base RX6 cX6_pieceCount 2 (some .int) p l s m args meth c) {H : Heap} {locs : List Loc} {ls : Array Slot} (hr : f_X6_pieceCount_J14 z1 s1 aM iT = some res) (hI : gI x base s.heap (mH h o aM aS iU aB iL iE iP aR iW iT aT aC aH aE aQ iA iY iF iV aK) n H locs) (hl : lv_has ls 2 [(0, .ref o), (1, .int z1)]) : W p l e rm_X6_pieceCount s m args below meth c H locs 0 0 (MQ below (gQ x base (some (.int res.1)) (mH h o aM aS iU aB iL iE iP aR iW res.2 aT aC aH aE aQ iA iY iF iV aK) n) args s 0 0 (fun q => base ≤ q)) (F0 m 14 ls [.int s1, .ref o]) := by
  have hx := X.1
  have hb := X.2.1
  unfold f_X6_pieceCount_J14 at hr
  refine lv_iconst (v := 0) hx hb dX6_pieceCount_14 (by decide) ?_
  refine lv_iconst (v := 0) hx hb dX6_pieceCount_15 (by decide) ?_
  obtain ⟨v4, iT_5, hc3, hr⟩ := gT2_i hr
  refine gRun_i (g_runV X hI (w_X6_fails hc3) (g_obj_s mH_0) rfl hl (lw_V q1717 q1719 qs45 q122 q1720) rfl rfl hd_X6_fails ⟨Nat.le_of_ble_eq_true rfl, Nat.le_of_ble_eq_true rfl⟩ (as := [.int s1, .int (0 : Int32), .int (0 : Int32)]) (rest := []) rfl rfl (Nat.le_of_ble_eq_true rfl) ⟨(Nat.le_refl _), (Nat.le_refl _)⟩ dX6_pieceCount_16) (fun H locs hI => ?_)
  refine lv_if_eq (tgt := 24) hx hb dX6_pieceCount_19 (by decide) (fun c9 => ?_) (fun c9 => ?_)
  · replace hr := gIf_t c9 hr
    refine lv_aload_n hx hb dX6_pieceCount_24 rfl (lv_at hl 0 rfl) ?_
    refine lv_iload_n hx hb dX6_pieceCount_25 rfl (lv_at hl 1 rfl) ?_
    obtain ⟨v7, hc6, hr⟩ := gB_i hr
    refine gRun_i (g_runV X hI (w_X6_pieces hc6) (g_obj_s mH_0) rfl hl (lw_V q1940 q1942 qs82 q122 q1943) rfl rfl hd_X6_pieces ⟨Nat.le_of_ble_eq_true rfl, Nat.le_of_ble_eq_true rfl⟩ (as := [.int z1]) (rest := []) rfl rfl (Nat.le_of_ble_eq_true rfl) ⟨(Nat.le_refl _), (Nat.le_refl _)⟩ dX6_pieceCount_26) (fun H locs hI => ?_)
    have hr := gS_i hr
    subst hr
    exact g_iret X hI rfl (Nat.le_refl _) (Nat.le_refl _) dX6_pieceCount_29
  · replace hr := gIf_f c9 hr
    refine lv_iconst (v := 0) hx hb dX6_pieceCount_22 (by decide) ?_
    have hr := gS_i hr
    subst hr
    exact g_iret X hI rfl (Nat.le_refl _) (Nat.le_refl _) dX6_pieceCount_23
set_option maxHeartbeats 2000000 in
theorem w_X6_pieceCount {l : Launch} {x : gV} {base : Nat} {z1 : Int32} {h : gH} {n : Nat} {o : Nat} {aM : (Nat → Int32)} {aS : (Nat → Int32)} {iU : Int32} {aB : (Nat → Int32)} {iL : Int32} {iE : Int32} {iP : Int32} {aR : (Nat → Int32)} {iW : Int32} {iT : Int32} {aT : (Nat → Int32)} {aC : (Nat → Int32)} {aH : (Nat → Int32)} {aE : (Nat → Int32)} {aQ : (Nat → Int32)} {iA : Int32} {iY : Int32} {iF : Int32} {iV : Int32} {aK : (Nat → Int32)} {res : Int32 × Int32} (hr : f_X6_pieceCount z1 aM iT = some res) : gM l yX6_pieceCount (ws_ yX6_pieceCount cX6_pieceCount 2 (some .int)) rm_X6_pieceCount x base [.ref o, .int z1] (mH h o aM aS iU aB iL iE iP aR iW iT aT aC aH aE aQ iA iY iF iV aK) n (some (.int res.1)) (mH h o aM aS iU aB iL iE iP aR iW res.2 aT aC aH aE aQ iA iY iF iV aK) n 0 0 := by
  refine g_met (cc := cX6_pieceCount) (nL := 2) (ret := (some .int)) (by decide) (Nat.le_of_ble_eq_true rfl) (fun p e s m below meth c ls X hnm hl hI => ?_)
  have hl : lv_has ls 2 [(0, .ref o), (1, .int z1)] := hl
  have hx := X.1
  have hb := X.2.1
  unfold f_X6_pieceCount at hr
  refine lv_aload_n hx hb dX6_pieceCount_0 rfl (lv_at hl 0 rfl) ?_
  refine lv_aload_n hx hb dX6_pieceCount_1 rfl (lv_at hl 0 rfl) ?_
  refine lv_iload_n hx hb dX6_pieceCount_2 rfl (lv_at hl 1 rfl) ?_
  obtain ⟨v2, hc1, hr⟩ := gB_i hr
  refine gRun_i (g_runV X hI (w_X6_isSibling hc1) (g_obj_s mH_0) rfl hl (lw_V q1896 q1898 qs79 q122 q1899) rfl rfl hd_X6_isSibling ⟨Nat.le_of_ble_eq_true rfl, Nat.le_of_ble_eq_true rfl⟩ (as := [.int z1]) (rest := [.ref o]) rfl rfl (Nat.le_of_ble_eq_true rfl) ⟨(Nat.le_refl _), (Nat.le_refl _)⟩ dX6_pieceCount_3) (fun H locs hI => ?_)
  refine lv_if_ne (tgt := 13) hx hb dX6_pieceCount_6 (by decide) (fun c9 => ?_) (fun c9 => ?_)
  · replace hr := gIf_f c9 hr
    refine lv_iconst (v := 0) hx hb dX6_pieceCount_13 (by decide) ?_
    exact w_X6_pieceCount_J14 X hr hI (lv_sub hl [0, 1] rfl)
  · replace hr := gIf_t c9 hr
    refine lv_iconst (v := 1) hx hb dX6_pieceCount_9 (by decide) ?_
    refine lv_goto (tgt := 14) hx hb dX6_pieceCount_10 (by decide) ?_
    exact w_X6_pieceCount_J14 X hr hI (lv_sub hl [0, 1] rfl)
abbrev rm_X6_freeCount : Room := { frames := 2, cells := 0, slots := 0, locals := 44 }
theorem hd_X6_freeCount : yX6_freeCount.cls = RX6 ∧ yX6_freeCount.cls ≠ "java/lang/invoke/MethodHandle" ∧ yX6_freeCount.cls ≠ "java/lang/invoke/VarHandle" ∧ (parseMethodDescriptor yX6_freeCount.desc).map (fun d => d.parameters.length) = some 0 := by decide +kernel
set_option maxHeartbeats 2000000 in
theorem w_X6_freeCount {l : Launch} {x : gV} {base : Nat} {h : gH} {n : Nat} {o : Nat} {aM : (Nat → Int32)} {aS : (Nat → Int32)} {iU : Int32} {aB : (Nat → Int32)} {iL : Int32} {iE : Int32} {iP : Int32} {aR : (Nat → Int32)} {iW : Int32} {iT : Int32} {aT : (Nat → Int32)} {aC : (Nat → Int32)} {aH : (Nat → Int32)} {aE : (Nat → Int32)} {aQ : (Nat → Int32)} {iA : Int32} {iY : Int32} {iF : Int32} {iV : Int32} {aK : (Nat → Int32)} {res : Int32 × Int32} (hr : f_X6_freeCount aM iT = some res) : gM l yX6_freeCount (ws_ yX6_freeCount cX6_freeCount 1 (some .int)) rm_X6_freeCount x base [.ref o] (mH h o aM aS iU aB iL iE iP aR iW iT aT aC aH aE aQ iA iY iF iV aK) n (some (.int res.1)) (mH h o aM aS iU aB iL iE iP aR iW res.2 aT aC aH aE aQ iA iY iF iV aK) n 0 0 := by
  refine g_met (cc := cX6_freeCount) (nL := 1) (ret := (some .int)) (by decide) (Nat.le_of_ble_eq_true rfl) (fun p e s m below meth c ls X hnm hl hI => ?_)
  have hl : lv_has ls 1 [(0, .ref o)] := hl
  have hx := X.1
  have hb := X.2.1
  unfold f_X6_freeCount at hr
  refine lv_aload_n hx hb dX6_freeCount_0 rfl (lv_at hl 0 rfl) ?_
  refine lv_aload_n hx hb dX6_freeCount_1 rfl (lv_at hl 0 rfl) ?_
  refine lv_iconst (v := (-1)) hx hb dX6_freeCount_2 (by decide) ?_
  obtain ⟨v2, hc1, hr⟩ := gB_i hr
  refine gRun_i (g_runV X hI (w_X6_sizeOf hc1) (g_obj_s mH_0) rfl hl (lw_V q1932 q1934 qs81 q122 q1935) rfl rfl hd_X6_sizeOf ⟨Nat.le_of_ble_eq_true rfl, Nat.le_of_ble_eq_true rfl⟩ (as := [.int (-1 : Int32)]) (rest := [.ref o]) rfl rfl (Nat.le_of_ble_eq_true rfl) ⟨(Nat.le_refl _), (Nat.le_refl _)⟩ dX6_freeCount_3) (fun H locs hI => ?_)
  obtain ⟨v4, iT_5, hc3, hr⟩ := gT2_i hr
  refine gRun_i (g_runV X hI (w_X6_plain hc3) (g_obj_s mH_0) rfl hl (lw_V q1884 q1886 qs78 q122 q1887) rfl rfl hd_X6_plain ⟨Nat.le_of_ble_eq_true rfl, Nat.le_of_ble_eq_true rfl⟩ (as := [.int v2]) (rest := []) rfl rfl (Nat.le_of_ble_eq_true rfl) ⟨(Nat.le_refl _), (Nat.le_refl _)⟩ dX6_freeCount_6) (fun H locs hI => ?_)
  have hr := gS_i hr
  subst hr
  exact g_iret X hI rfl (Nat.le_refl _) (Nat.le_refl _) dX6_freeCount_9
abbrev rm_X6_mark : Room := { frames := 3, cells := 0, slots := 0, locals := 73 }
theorem hd_X6_mark : yX6_mark.cls = RX6 ∧ yX6_mark.cls ≠ "java/lang/invoke/MethodHandle" ∧ yX6_mark.cls ≠ "java/lang/invoke/VarHandle" ∧ (parseMethodDescriptor yX6_mark.desc).map (fun d => d.parameters.length) = some 3 := by decide +kernel
set_option maxHeartbeats 2000000 in
theorem w_X6_mark_J37 {h : gH} {n : Nat} {o : Nat} {aM : (Nat → Int32)} {aS : (Nat → Int32)} {iU : Int32} {aB : (Nat → Int32)} {iL : Int32} {iE : Int32} {iP : Int32} {aR : (Nat → Int32)} {iW : Int32} {iT : Int32} {aT : (Nat → Int32)} {aC : (Nat → Int32)} {aH : (Nat → Int32)} {aE : (Nat → Int32)} {aQ : (Nat → Int32)} {iA : Int32} {iY : Int32} {iF : Int32} {iV : Int32} {aK : (Nat → Int32)} {z1 : Int32} {z2 : Int32} {z3 : Int32} {s1 : Int32} {s2 : Int32} {res : Int32 × Int32} (X : gXX x base RX6 cX6_mark 4 (some .int) p l s m args meth c) {H : Heap} {locs : List Loc} {ls : Array Slot} (hr : f_X6_mark_J37 z1 z2 z3 s1 s2 aM iT = some res) (hI : gI x base s.heap (mH h o aM aS iU aB iL iE iP aR iW iT aT aC aH aE aQ iA iY iF iV aK) n H locs) (hl : lv_has ls 4 [(0, .ref o), (1, .int z1), (2, .int z2), (3, .int z3)]) : W p l e rm_X6_mark s m args below meth c H locs 0 0 (MQ below (gQ x base (some (.int res.1)) (mH h o aM aS iU aB iL iE iP aR iW res.2 aT aC aH aE aQ iA iY iF iV aK) n) args s 0 0 (fun q => base ≤ q)) (F0 m 37 ls [.int s2, .int s1, .ref o]) := by
  have hx := X.1
  have hb := X.2.1
  unfold f_X6_mark_J37 at hr
  refine lv_iconst (v := 0) hx hb dX6_mark_37 (by decide) ?_
  obtain ⟨v6, iT_7, hc5, hr⟩ := gT2_i hr
  refine gRun_i (g_runV X hI (w_X6_fails hc5) (g_obj_s mH_0) rfl hl (lw_V q1717 q1719 qs45 q122 q1720) rfl rfl hd_X6_fails ⟨Nat.le_of_ble_eq_true rfl, Nat.le_of_ble_eq_true rfl⟩ (as := [.int s1, .int s2, .int (0 : Int32)]) (rest := []) rfl rfl (Nat.le_of_ble_eq_true rfl) ⟨(Nat.le_refl _), (Nat.le_refl _)⟩ dX6_mark_38) (fun H locs hI => ?_)
  refine lv_if_eq (tgt := 46) hx hb dX6_mark_41 (by decide) (fun c9 => ?_) (fun c9 => ?_)
  · replace hr := gIf_t c9 hr
    refine lv_aload_n hx hb dX6_mark_46 rfl (lv_at hl 0 rfl) ?_
    refine lv_iload_n hx hb dX6_mark_47 rfl (lv_at hl 1 rfl) ?_
    refine lv_iload_n hx hb dX6_mark_48 rfl (lv_at hl 2 rfl) ?_
    refine lv_iload_n hx hb dX6_mark_49 rfl (lv_at hl 3 rfl) ?_
    obtain ⟨v9, hc8, hr⟩ := gB_i hr
    refine gRun_i (g_runV X hI (w_X6_markOf hc8) (g_obj_s mH_0) rfl hl (lw_V q1848 q1850 qs72 q122 q1851) rfl rfl hd_X6_markOf ⟨Nat.le_of_ble_eq_true rfl, Nat.le_of_ble_eq_true rfl⟩ (as := [.int z1, .int z2, .int z3]) (rest := []) rfl rfl (Nat.le_of_ble_eq_true rfl) ⟨(Nat.le_refl _), (Nat.le_refl _)⟩ dX6_mark_50) (fun H locs hI => ?_)
    have hr := gS_i hr
    subst hr
    exact g_iret X hI rfl (Nat.le_refl _) (Nat.le_refl _) dX6_mark_53
  · replace hr := gIf_f c9 hr
    refine lv_iconst (v := 0) hx hb dX6_mark_44 (by decide) ?_
    have hr := gS_i hr
    subst hr
    exact g_iret X hI rfl (Nat.le_refl _) (Nat.le_refl _) dX6_mark_45
set_option maxHeartbeats 2000000 in
theorem w_X6_mark_J22 {h : gH} {n : Nat} {o : Nat} {aM : (Nat → Int32)} {aS : (Nat → Int32)} {iU : Int32} {aB : (Nat → Int32)} {iL : Int32} {iE : Int32} {iP : Int32} {aR : (Nat → Int32)} {iW : Int32} {iT : Int32} {aT : (Nat → Int32)} {aC : (Nat → Int32)} {aH : (Nat → Int32)} {aE : (Nat → Int32)} {aQ : (Nat → Int32)} {iA : Int32} {iY : Int32} {iF : Int32} {iV : Int32} {aK : (Nat → Int32)} {z1 : Int32} {z2 : Int32} {z3 : Int32} {s1 : Int32} {res : Int32 × Int32} (X : gXX x base RX6 cX6_mark 4 (some .int) p l s m args meth c) {H : Heap} {locs : List Loc} {ls : Array Slot} (hr : f_X6_mark_J22 z1 z2 z3 s1 aM iT = some res) (hI : gI x base s.heap (mH h o aM aS iU aB iL iE iP aR iW iT aT aC aH aE aQ iA iY iF iV aK) n H locs) (hl : lv_has ls 4 [(0, .ref o), (1, .int z1), (2, .int z2), (3, .int z3)]) : W p l e rm_X6_mark s m args below meth c H locs 0 0 (MQ below (gQ x base (some (.int res.1)) (mH h o aM aS iU aB iL iE iP aR iW res.2 aT aC aH aE aQ iA iY iF iV aK) n) args s 0 0 (fun q => base ≤ q)) (F0 m 22 ls [.int s1, .ref o]) := by
  have hx := X.1
  have hb := X.2.1
  unfold f_X6_mark_J22 at hr
  refine lv_iload_n hx hb dX6_mark_22 rfl (lv_at hl 3 rfl) ?_
  refine lv_iconst (v := 1) hx hb dX6_mark_23 (by decide) ?_
  refine lv_bipush (v := 24) hx hb dX6_mark_24 (by decide) ?_
  obtain ⟨v4, hc3, hr⟩ := gB_i hr
  refine gRun_i (g_runS X hI (w_X6_in hc3) hl (lw_S q1628 q1629 q122 q1630) rfl rfl hd_X6_in ⟨Nat.le_of_ble_eq_true rfl, Nat.le_of_ble_eq_true rfl⟩ (as := [.int z3, .int (1 : Int32), .int (24 : Int32)]) (rest := [.int s1, .ref o]) rfl rfl (Nat.le_of_ble_eq_true rfl) ⟨(Nat.le_refl _), (Nat.le_refl _)⟩ dX6_mark_26) (fun H locs hI => ?_)
  refine lv_if_ne (tgt := 36) hx hb dX6_mark_29 (by decide) (fun c9 => ?_) (fun c9 => ?_)
  · replace hr := gIf_f c9 hr
    refine lv_iconst (v := 0) hx hb dX6_mark_36 (by decide) ?_
    exact w_X6_mark_J37 X hr hI (lv_sub hl [0, 1, 2, 3] rfl)
  · replace hr := gIf_t c9 hr
    refine lv_iconst (v := 1) hx hb dX6_mark_32 (by decide) ?_
    refine lv_goto (tgt := 37) hx hb dX6_mark_33 (by decide) ?_
    exact w_X6_mark_J37 X hr hI (lv_sub hl [0, 1, 2, 3] rfl)
set_option maxHeartbeats 2000000 in
theorem w_X6_mark_J17 {h : gH} {n : Nat} {o : Nat} {aM : (Nat → Int32)} {aS : (Nat → Int32)} {iU : Int32} {aB : (Nat → Int32)} {iL : Int32} {iE : Int32} {iP : Int32} {aR : (Nat → Int32)} {iW : Int32} {iT : Int32} {aT : (Nat → Int32)} {aC : (Nat → Int32)} {aH : (Nat → Int32)} {aE : (Nat → Int32)} {aQ : (Nat → Int32)} {iA : Int32} {iY : Int32} {iF : Int32} {iV : Int32} {aK : (Nat → Int32)} {z1 : Int32} {z2 : Int32} {z3 : Int32} {res : Int32 × Int32} (X : gXX x base RX6 cX6_mark 4 (some .int) p l s m args meth c) {H : Heap} {locs : List Loc} {ls : Array Slot} (hr : f_X6_mark_J17 z1 z2 z3 aM iT = some res) (hI : gI x base s.heap (mH h o aM aS iU aB iL iE iP aR iW iT aT aC aH aE aQ iA iY iF iV aK) n H locs) (hl : lv_has ls 4 [(0, .ref o), (1, .int z1), (2, .int z2), (3, .int z3)]) : W p l e rm_X6_mark s m args below meth c H locs 0 0 (MQ below (gQ x base (some (.int res.1)) (mH h o aM aS iU aB iL iE iP aR iW res.2 aT aC aH aE aQ iA iY iF iV aK) n) args s 0 0 (fun q => base ≤ q)) (F0 m 17 ls [.ref o]) := by
  have hx := X.1
  have hb := X.2.1
  unfold f_X6_mark_J17 at hr
  refine lv_iconst (v := 1) hx hb dX6_mark_17 (by decide) ?_
  refine lv_goto (tgt := 22) hx hb dX6_mark_18 (by decide) ?_
  exact w_X6_mark_J22 X hr hI (lv_sub hl [0, 1, 2, 3] rfl)
set_option maxHeartbeats 2000000 in
theorem w_X6_mark {l : Launch} {x : gV} {base : Nat} {z1 : Int32} {z2 : Int32} {z3 : Int32} {h : gH} {n : Nat} {o : Nat} {aM : (Nat → Int32)} {aS : (Nat → Int32)} {iU : Int32} {aB : (Nat → Int32)} {iL : Int32} {iE : Int32} {iP : Int32} {aR : (Nat → Int32)} {iW : Int32} {iT : Int32} {aT : (Nat → Int32)} {aC : (Nat → Int32)} {aH : (Nat → Int32)} {aE : (Nat → Int32)} {aQ : (Nat → Int32)} {iA : Int32} {iY : Int32} {iF : Int32} {iV : Int32} {aK : (Nat → Int32)} {res : Int32 × Int32} (hr : f_X6_mark z1 z2 z3 aM iT = some res) : gM l yX6_mark (ws_ yX6_mark cX6_mark 4 (some .int)) rm_X6_mark x base [.ref o, .int z1, .int z2, .int z3] (mH h o aM aS iU aB iL iE iP aR iW iT aT aC aH aE aQ iA iY iF iV aK) n (some (.int res.1)) (mH h o aM aS iU aB iL iE iP aR iW res.2 aT aC aH aE aQ iA iY iF iV aK) n 0 0 := by
  refine g_met (cc := cX6_mark) (nL := 4) (ret := (some .int)) (by decide) (Nat.le_of_ble_eq_true rfl) (fun p e s m below meth c ls X hnm hl hI => ?_)
  have hl : lv_has ls 4 [(0, .ref o), (1, .int z1), (2, .int z2), (3, .int z3)] := hl
  have hx := X.1
  have hb := X.2.1
  unfold f_X6_mark at hr
  refine lv_aload_n hx hb dX6_mark_0 rfl (lv_at hl 0 rfl) ?_
  refine lv_aload_n hx hb dX6_mark_1 rfl (lv_at hl 0 rfl) ?_
  refine lv_iload_n hx hb dX6_mark_2 rfl (lv_at hl 1 rfl) ?_
  obtain ⟨v2, hc1, hr⟩ := gB_i hr
  refine gRun_i (g_runV X hI (w_X6_isSibling hc1) (g_obj_s mH_0) rfl hl (lw_V q1896 q1898 qs79 q122 q1899) rfl rfl hd_X6_isSibling ⟨Nat.le_of_ble_eq_true rfl, Nat.le_of_ble_eq_true rfl⟩ (as := [.int z1]) (rest := [.ref o]) rfl rfl (Nat.le_of_ble_eq_true rfl) ⟨(Nat.le_refl _), (Nat.le_refl _)⟩ dX6_mark_3) (fun H locs hI => ?_)
  refine lv_if_eq (tgt := 17) hx hb dX6_mark_6 (by decide) (fun c9 => ?_) (fun c9 => ?_)
  · replace hr := gIf_t c9 hr
    exact w_X6_mark_J17 X hr hI (lv_sub hl [0, 1, 2, 3] rfl)
  · replace hr := gIf_f c9 hr
    refine lv_aload_n hx hb dX6_mark_9 rfl (lv_at hl 0 rfl) ?_
    refine lv_iload_n hx hb dX6_mark_10 rfl (lv_at hl 2 rfl) ?_
    obtain ⟨v11, hc10, hr⟩ := gB_i hr
    refine gRun_i (g_runV X hI (w_X6_isCell hc10) (g_obj_s mH_0) rfl hl (lw_V q1784 q1786 qs56 q122 q1787) rfl rfl hd_X6_isCell ⟨Nat.le_of_ble_eq_true rfl, Nat.le_of_ble_eq_true rfl⟩ (as := [.int z2]) (rest := [.ref o]) rfl rfl (Nat.le_of_ble_eq_true rfl) ⟨(Nat.le_refl _), (Nat.le_refl _)⟩ dX6_mark_11) (fun H locs hI => ?_)
    refine lv_if_ne (tgt := 21) hx hb dX6_mark_14 (by decide) (fun c9 => ?_) (fun c9 => ?_)
    · replace hr := gIf_f c9 hr
      refine lv_iconst (v := 0) hx hb dX6_mark_21 (by decide) ?_
      exact w_X6_mark_J22 X hr hI (lv_sub hl [0, 1, 2, 3] rfl)
    · replace hr := gIf_t c9 hr
      exact w_X6_mark_J17 X hr hI (lv_sub hl [0, 1, 2, 3] rfl)
abbrev rm_X6_favouriteFreeCell : Room := { frames := 2, cells := 0, slots := 0, locals := 45 }
theorem hd_X6_favouriteFreeCell : yX6_favouriteFreeCell.cls = RX6 ∧ yX6_favouriteFreeCell.cls ≠ "java/lang/invoke/MethodHandle" ∧ yX6_favouriteFreeCell.cls ≠ "java/lang/invoke/VarHandle" ∧ (parseMethodDescriptor yX6_favouriteFreeCell.desc).map (fun d => d.parameters.length) = some 1 := by decide +kernel
set_option maxHeartbeats 2000000 in
theorem w_X6_favouriteFreeCell_J14 {h : gH} {n : Nat} {o : Nat} {aM : (Nat → Int32)} {aS : (Nat → Int32)} {iU : Int32} {aB : (Nat → Int32)} {iL : Int32} {iE : Int32} {iP : Int32} {aR : (Nat → Int32)} {iW : Int32} {iT : Int32} {aT : (Nat → Int32)} {aC : (Nat → Int32)} {aH : (Nat → Int32)} {aE : (Nat → Int32)} {aQ : (Nat → Int32)} {iA : Int32} {iY : Int32} {iF : Int32} {iV : Int32} {aK : (Nat → Int32)} {z1 : Int32} {s1 : Int32} {res : Int32 × Int32} (X : gXX x base RX6 cX6_favouriteFreeCell 2 (some .int) p l s m args meth c) {H : Heap} {locs : List Loc} {ls : Array Slot} (hr : f_X6_favouriteFreeCell_J14 z1 s1 aM iT = some res) (hI : gI x base s.heap (mH h o aM aS iU aB iL iE iP aR iW iT aT aC aH aE aQ iA iY iF iV aK) n H locs) (hl : lv_has ls 2 [(0, .ref o), (1, .int z1)]) : W p l e rm_X6_favouriteFreeCell s m args below meth c H locs 0 0 (MQ below (gQ x base (some (.int res.1)) (mH h o aM aS iU aB iL iE iP aR iW res.2 aT aC aH aE aQ iA iY iF iV aK) n) args s 0 0 (fun q => base ≤ q)) (F0 m 14 ls [.int s1, .ref o]) := by
  have hx := X.1
  have hb := X.2.1
  unfold f_X6_favouriteFreeCell_J14 at hr
  refine lv_iconst (v := 0) hx hb dX6_favouriteFreeCell_14 (by decide) ?_
  refine lv_iconst (v := 0) hx hb dX6_favouriteFreeCell_15 (by decide) ?_
  obtain ⟨v4, iT_5, hc3, hr⟩ := gT2_i hr
  refine gRun_i (g_runV X hI (w_X6_fails hc3) (g_obj_s mH_0) rfl hl (lw_V q1717 q1719 qs45 q122 q1720) rfl rfl hd_X6_fails ⟨Nat.le_of_ble_eq_true rfl, Nat.le_of_ble_eq_true rfl⟩ (as := [.int s1, .int (0 : Int32), .int (0 : Int32)]) (rest := []) rfl rfl (Nat.le_of_ble_eq_true rfl) ⟨(Nat.le_refl _), (Nat.le_refl _)⟩ dX6_favouriteFreeCell_16) (fun H locs hI => ?_)
  refine lv_if_eq (tgt := 24) hx hb dX6_favouriteFreeCell_19 (by decide) (fun c9 => ?_) (fun c9 => ?_)
  · replace hr := gIf_t c9 hr
    refine lv_aload_n hx hb dX6_favouriteFreeCell_24 rfl (lv_at hl 0 rfl) ?_
    refine lv_iload_n hx hb dX6_favouriteFreeCell_25 rfl (lv_at hl 1 rfl) ?_
    obtain ⟨v7, hc6, hr⟩ := gB_i hr
    refine gRun_i (g_runV X hI (w_X6_favourite hc6) (g_obj_s mH_0) rfl hl (lw_V q1864 q1866 qs76 q122 q1867) rfl rfl hd_X6_favourite ⟨Nat.le_of_ble_eq_true rfl, Nat.le_of_ble_eq_true rfl⟩ (as := [.int z1]) (rest := []) rfl rfl (Nat.le_of_ble_eq_true rfl) ⟨(Nat.le_refl _), (Nat.le_refl _)⟩ dX6_favouriteFreeCell_26) (fun H locs hI => ?_)
    have hr := gS_i hr
    subst hr
    exact g_iret X hI rfl (Nat.le_refl _) (Nat.le_refl _) dX6_favouriteFreeCell_29
  · replace hr := gIf_f c9 hr
    refine lv_iconst (v := 0) hx hb dX6_favouriteFreeCell_22 (by decide) ?_
    have hr := gS_i hr
    subst hr
    exact g_iret X hI rfl (Nat.le_refl _) (Nat.le_refl _) dX6_favouriteFreeCell_23
set_option maxHeartbeats 2000000 in
theorem w_X6_favouriteFreeCell {l : Launch} {x : gV} {base : Nat} {z1 : Int32} {h : gH} {n : Nat} {o : Nat} {aM : (Nat → Int32)} {aS : (Nat → Int32)} {iU : Int32} {aB : (Nat → Int32)} {iL : Int32} {iE : Int32} {iP : Int32} {aR : (Nat → Int32)} {iW : Int32} {iT : Int32} {aT : (Nat → Int32)} {aC : (Nat → Int32)} {aH : (Nat → Int32)} {aE : (Nat → Int32)} {aQ : (Nat → Int32)} {iA : Int32} {iY : Int32} {iF : Int32} {iV : Int32} {aK : (Nat → Int32)} {res : Int32 × Int32} (hr : f_X6_favouriteFreeCell z1 aM iT = some res) : gM l yX6_favouriteFreeCell (ws_ yX6_favouriteFreeCell cX6_favouriteFreeCell 2 (some .int)) rm_X6_favouriteFreeCell x base [.ref o, .int z1] (mH h o aM aS iU aB iL iE iP aR iW iT aT aC aH aE aQ iA iY iF iV aK) n (some (.int res.1)) (mH h o aM aS iU aB iL iE iP aR iW res.2 aT aC aH aE aQ iA iY iF iV aK) n 0 0 := by
  refine g_met (cc := cX6_favouriteFreeCell) (nL := 2) (ret := (some .int)) (by decide) (Nat.le_of_ble_eq_true rfl) (fun p e s m below meth c ls X hnm hl hI => ?_)
  have hl : lv_has ls 2 [(0, .ref o), (1, .int z1)] := hl
  have hx := X.1
  have hb := X.2.1
  unfold f_X6_favouriteFreeCell at hr
  refine lv_aload_n hx hb dX6_favouriteFreeCell_0 rfl (lv_at hl 0 rfl) ?_
  refine lv_aload_n hx hb dX6_favouriteFreeCell_1 rfl (lv_at hl 0 rfl) ?_
  refine lv_iload_n hx hb dX6_favouriteFreeCell_2 rfl (lv_at hl 1 rfl) ?_
  obtain ⟨v2, hc1, hr⟩ := gB_i hr
  refine gRun_i (g_runV X hI (w_X6_isSibling hc1) (g_obj_s mH_0) rfl hl (lw_V q1896 q1898 qs79 q122 q1899) rfl rfl hd_X6_isSibling ⟨Nat.le_of_ble_eq_true rfl, Nat.le_of_ble_eq_true rfl⟩ (as := [.int z1]) (rest := [.ref o]) rfl rfl (Nat.le_of_ble_eq_true rfl) ⟨(Nat.le_refl _), (Nat.le_refl _)⟩ dX6_favouriteFreeCell_3) (fun H locs hI => ?_)
  refine lv_if_ne (tgt := 13) hx hb dX6_favouriteFreeCell_6 (by decide) (fun c9 => ?_) (fun c9 => ?_)
  · replace hr := gIf_f c9 hr
    refine lv_iconst (v := 0) hx hb dX6_favouriteFreeCell_13 (by decide) ?_
    exact w_X6_favouriteFreeCell_J14 X hr hI (lv_sub hl [0, 1] rfl)
  · replace hr := gIf_t c9 hr
    refine lv_iconst (v := 1) hx hb dX6_favouriteFreeCell_9 (by decide) ?_
    refine lv_goto (tgt := 14) hx hb dX6_favouriteFreeCell_10 (by decide) ?_
    exact w_X6_favouriteFreeCell_J14 X hr hI (lv_sub hl [0, 1] rfl)
abbrev rm_X6_envies : Room := { frames := 4, cells := 0, slots := 0, locals := 89 }
theorem hd_X6_envies : yX6_envies.cls = RX6 ∧ yX6_envies.cls ≠ "java/lang/invoke/MethodHandle" ∧ yX6_envies.cls ≠ "java/lang/invoke/VarHandle" ∧ (parseMethodDescriptor yX6_envies.desc).map (fun d => d.parameters.length) = some 2 := by decide +kernel
set_option maxHeartbeats 2000000 in
theorem w_X6_envies_J15 {h : gH} {n : Nat} {o : Nat} {aM : (Nat → Int32)} {aS : (Nat → Int32)} {iU : Int32} {aB : (Nat → Int32)} {iL : Int32} {iE : Int32} {iP : Int32} {aR : (Nat → Int32)} {iW : Int32} {iT : Int32} {aT : (Nat → Int32)} {aC : (Nat → Int32)} {aH : (Nat → Int32)} {aE : (Nat → Int32)} {aQ : (Nat → Int32)} {iA : Int32} {iY : Int32} {iF : Int32} {iV : Int32} {aK : (Nat → Int32)} {z1 : Int32} {z2 : Int32} {s1 : Int32} {res : Int32 × Int32} (X : gXX x base RX6 cX6_envies 3 (some .boolean) p l s m args meth c) {H : Heap} {locs : List Loc} {ls : Array Slot} (hr : f_X6_envies_J15 z1 z2 s1 aM iT = some res) (hI : gI x base s.heap (mH h o aM aS iU aB iL iE iP aR iW iT aT aC aH aE aQ iA iY iF iV aK) n H locs) (hl : lv_has ls 3 [(0, .ref o), (1, .int z1), (2, .int z2)]) : W p l e rm_X6_envies s m args below meth c H locs 0 0 (MQ below (gQ x base (some (.int res.1)) (mH h o aM aS iU aB iL iE iP aR iW res.2 aT aC aH aE aQ iA iY iF iV aK) n) args s 0 0 (fun q => base ≤ q)) (F0 m 15 ls [.int s1, .ref o]) := by
  have hx := X.1
  have hb := X.2.1
  unfold f_X6_envies_J15 at hr
  refine lv_iconst (v := 0) hx hb dX6_envies_15 (by decide) ?_
  refine lv_iconst (v := 0) hx hb dX6_envies_16 (by decide) ?_
  obtain ⟨v4, iT_5, hc3, hr⟩ := gT2_i hr
  refine gRun_i (g_runV X hI (w_X6_fails hc3) (g_obj_s mH_0) rfl hl (lw_V q1717 q1719 qs45 q122 q1720) rfl rfl hd_X6_fails ⟨Nat.le_of_ble_eq_true rfl, Nat.le_of_ble_eq_true rfl⟩ (as := [.int s1, .int (0 : Int32), .int (0 : Int32)]) (rest := []) rfl rfl (Nat.le_of_ble_eq_true rfl) ⟨(Nat.le_refl _), (Nat.le_refl _)⟩ dX6_envies_17) (fun H locs hI => ?_)
  refine lv_if_eq (tgt := 25) hx hb dX6_envies_20 (by decide) (fun c9 => ?_) (fun c9 => ?_)
  · replace hr := gIf_t c9 hr
    refine lv_aload_n hx hb dX6_envies_25 rfl (lv_at hl 0 rfl) ?_
    refine lv_iload_n hx hb dX6_envies_26 rfl (lv_at hl 1 rfl) ?_
    refine lv_iload_n hx hb dX6_envies_27 rfl (lv_at hl 2 rfl) ?_
    obtain ⟨v7, hc6, hr⟩ := gB_i hr
    refine gRun_i (g_runV X hI (w_X6_hasEnvy hc6) (g_obj_s mH_0) rfl hl (lw_V q1796 q1798 qs59 q122 q1799) rfl rfl hd_X6_hasEnvy ⟨Nat.le_of_ble_eq_true rfl, Nat.le_of_ble_eq_true rfl⟩ (as := [.int z1, .int z2]) (rest := []) rfl rfl (Nat.le_of_ble_eq_true rfl) ⟨(Nat.le_refl _), (Nat.le_refl _)⟩ dX6_envies_28) (fun H locs hI => ?_)
    obtain ⟨c9, hr⟩ := gIf_o hr
    have hr := gS_i hr
    subst hr
    exact g_iret X hI (g_narZ c9) (Nat.le_refl _) (Nat.le_refl _) dX6_envies_31
  · replace hr := gIf_f c9 hr
    refine lv_iconst (v := 0) hx hb dX6_envies_23 (by decide) ?_
    have hr := gS_i hr
    subst hr
    exact g_iret X hI (g_narZ (Or.inl rfl)) (Nat.le_refl _) (Nat.le_refl _) dX6_envies_24
set_option maxHeartbeats 2000000 in
theorem w_X6_envies {l : Launch} {x : gV} {base : Nat} {z1 : Int32} {z2 : Int32} {h : gH} {n : Nat} {o : Nat} {aM : (Nat → Int32)} {aS : (Nat → Int32)} {iU : Int32} {aB : (Nat → Int32)} {iL : Int32} {iE : Int32} {iP : Int32} {aR : (Nat → Int32)} {iW : Int32} {iT : Int32} {aT : (Nat → Int32)} {aC : (Nat → Int32)} {aH : (Nat → Int32)} {aE : (Nat → Int32)} {aQ : (Nat → Int32)} {iA : Int32} {iY : Int32} {iF : Int32} {iV : Int32} {aK : (Nat → Int32)} {res : Int32 × Int32} (hr : f_X6_envies z1 z2 aM iT = some res) : gM l yX6_envies (ws_ yX6_envies cX6_envies 3 (some .boolean)) rm_X6_envies x base [.ref o, .int z1, .int z2] (mH h o aM aS iU aB iL iE iP aR iW iT aT aC aH aE aQ iA iY iF iV aK) n (some (.int res.1)) (mH h o aM aS iU aB iL iE iP aR iW res.2 aT aC aH aE aQ iA iY iF iV aK) n 0 0 := by
  refine g_met (cc := cX6_envies) (nL := 3) (ret := (some .boolean)) (by decide) (Nat.le_of_ble_eq_true rfl) (fun p e s m below meth c ls X hnm hl hI => ?_)
  have hl : lv_has ls 3 [(0, .ref o), (1, .int z1), (2, .int z2)] := hl
  have hx := X.1
  have hb := X.2.1
  unfold f_X6_envies at hr
  refine lv_aload_n hx hb dX6_envies_0 rfl (lv_at hl 0 rfl) ?_
  refine lv_aload_n hx hb dX6_envies_1 rfl (lv_at hl 0 rfl) ?_
  refine lv_iload_n hx hb dX6_envies_2 rfl (lv_at hl 1 rfl) ?_
  refine lv_iload_n hx hb dX6_envies_3 rfl (lv_at hl 2 rfl) ?_
  obtain ⟨v2, hc1, hr⟩ := gB_i hr
  refine gRun_i (g_runV X hI (w_X6_areSiblings hc1) (g_obj_s mH_0) rfl hl (lw_V q1924 q1926 qs80 q122 q1927) rfl rfl hd_X6_areSiblings ⟨Nat.le_of_ble_eq_true rfl, Nat.le_of_ble_eq_true rfl⟩ (as := [.int z1, .int z2]) (rest := [.ref o]) rfl rfl (Nat.le_of_ble_eq_true rfl) ⟨(Nat.le_refl _), (Nat.le_refl _)⟩ dX6_envies_4) (fun H locs hI => ?_)
  refine lv_if_ne (tgt := 14) hx hb dX6_envies_7 (by decide) (fun c9 => ?_) (fun c9 => ?_)
  · replace hr := gIf_f c9 hr
    refine lv_iconst (v := 0) hx hb dX6_envies_14 (by decide) ?_
    exact w_X6_envies_J15 X hr hI (lv_sub hl [0, 1, 2] rfl)
  · replace hr := gIf_t c9 hr
    refine lv_iconst (v := 1) hx hb dX6_envies_10 (by decide) ?_
    refine lv_goto (tgt := 15) hx hb dX6_envies_11 (by decide) ?_
    exact w_X6_envies_J15 X hr hI (lv_sub hl [0, 1, 2] rfl)
abbrev rm_X6_hasMildEnvy : Room := { frames := 3, cells := 0, slots := 0, locals := 67 }
theorem hd_X6_hasMildEnvy : yX6_hasMildEnvy.cls = RX6 ∧ yX6_hasMildEnvy.cls ≠ "java/lang/invoke/MethodHandle" ∧ yX6_hasMildEnvy.cls ≠ "java/lang/invoke/VarHandle" ∧ (parseMethodDescriptor yX6_hasMildEnvy.desc).map (fun d => d.parameters.length) = some 2 := by decide +kernel
set_option maxHeartbeats 2000000 in
theorem w_X6_hasMildEnvy_J51 {h : gH} {n : Nat} {o : Nat} {aM : (Nat → Int32)} {aS : (Nat → Int32)} {iU : Int32} {aB : (Nat → Int32)} {iL : Int32} {iE : Int32} {iP : Int32} {aR : (Nat → Int32)} {iW : Int32} {iT : Int32} {aT : (Nat → Int32)} {aC : (Nat → Int32)} {aH : (Nat → Int32)} {aE : (Nat → Int32)} {aQ : (Nat → Int32)} {iA : Int32} {iY : Int32} {iF : Int32} {iV : Int32} {aK : (Nat → Int32)} {z1 : Int32} {z2 : Int32} {z3 : Int32} {res : Int32} (X : gXX x base RX6 cX6_hasMildEnvy 5 (some .boolean) p l s m args meth c) {H : Heap} {locs : List Loc} {ls : Array Slot} (hr : f_X6_hasMildEnvy_J51 z1 z2 z3 aM = some res) (hI : gI x base s.heap (mH h o aM aS iU aB iL iE iP aR iW iT aT aC aH aE aQ iA iY iF iV aK) n H locs) (hl : lv_has ls 5 [(0, .ref o), (1, .int z1), (2, .int z2), (3, .int z3)]) : W p l e rm_X6_hasMildEnvy s m args below meth c H locs 0 0 (MQ below (gQ x base (some (.int res)) (mH h o aM aS iU aB iL iE iP aR iW iT aT aC aH aE aQ iA iY iF iV aK) n) args s 0 0 (fun q => base ≤ q)) (F0 m 51 ls []) := by
  have hx := X.1
  have hb := X.2.1
  unfold f_X6_hasMildEnvy_J51 at hr
  refine lv_aload_n hx hb dX6_hasMildEnvy_51 rfl (lv_at hl 0 rfl) ?_
  refine lv_iload_n hx hb dX6_hasMildEnvy_52 rfl (lv_at hl 1 rfl) ?_
  refine lv_iload_n hx hb dX6_hasMildEnvy_53 rfl (lv_at hl 2 rfl) ?_
  obtain ⟨v3, hc2, hr⟩ := gB_i hr
  refine gRun_i (g_runV X hI (w_X6_worthShare hc2) (g_obj_s mH_0) rfl hl (lw_V q1800 q1802 qs60 q122 q1803) rfl rfl hd_X6_worthShare ⟨Nat.le_of_ble_eq_true rfl, Nat.le_of_ble_eq_true rfl⟩ (as := [.int z1, .int z2]) (rest := []) rfl rfl (Nat.le_of_ble_eq_true rfl) ⟨(Nat.le_refl _), (Nat.le_refl _)⟩ dX6_hasMildEnvy_54) (fun H locs hI => ?_)
  refine lv_iload_n hx hb dX6_hasMildEnvy_57 rfl (lv_at hl 3 rfl) ?_
  refine lv_isub hx hb dX6_hasMildEnvy_58 ?_
  refine lv_aload_n hx hb dX6_hasMildEnvy_59 rfl (lv_at hl 0 rfl) ?_
  refine lv_iload_n hx hb dX6_hasMildEnvy_60 rfl (lv_at hl 1 rfl) ?_
  obtain ⟨v5, hc4, hr⟩ := gB_i hr
  refine gRun_i (g_runV X hI (w_X6_welfareOf hc4) (g_obj_s mH_0) rfl hl (lw_V q1812 q1814 qs63 q122 q1815) rfl rfl hd_X6_welfareOf ⟨Nat.le_of_ble_eq_true rfl, Nat.le_of_ble_eq_true rfl⟩ (as := [.int z1]) (rest := [.int (v3 - z3)]) rfl rfl (Nat.le_of_ble_eq_true rfl) ⟨(Nat.le_refl _), (Nat.le_refl _)⟩ dX6_hasMildEnvy_61) (fun H locs hI => ?_)
  refine lv_icmp_gt (tgt := 71) hx hb dX6_hasMildEnvy_64 (by decide) (fun c9 => ?_) (fun c9 => ?_)
  · replace hr := gIf_t c9 hr
    refine lv_iconst (v := 0) hx hb dX6_hasMildEnvy_71 (by decide) ?_
    have hr := gS_i hr
    subst hr
    exact g_iret X hI (g_narZ (Or.inl rfl)) (Nat.le_refl _) (Nat.le_refl _) dX6_hasMildEnvy_72
  · replace hr := gIf_f c9 hr
    refine lv_iconst (v := 1) hx hb dX6_hasMildEnvy_67 (by decide) ?_
    refine lv_goto (tgt := 72) hx hb dX6_hasMildEnvy_68 (by decide) ?_
    have hr := gS_i hr
    subst hr
    exact g_iret X hI (g_narZ (Or.inr rfl)) (Nat.le_refl _) (Nat.le_refl _) dX6_hasMildEnvy_72
set_option maxHeartbeats 2000000 in
theorem w_X6_hasMildEnvy_L5 {h : gH} {n : Nat} {o : Nat} {aM : (Nat → Int32)} {aS : (Nat → Int32)} {iU : Int32} {aB : (Nat → Int32)} {iL : Int32} {iE : Int32} {iP : Int32} {aR : (Nat → Int32)} {iW : Int32} {iT : Int32} {aT : (Nat → Int32)} {aC : (Nat → Int32)} {aH : (Nat → Int32)} {aE : (Nat → Int32)} {aQ : (Nat → Int32)} {iA : Int32} {iY : Int32} {iF : Int32} {iV : Int32} {aK : (Nat → Int32)} {z1 : Int32} {z2 : Int32} {res : Int32} (X : gXX x base RX6 cX6_hasMildEnvy 5 (some .boolean) p l s m args meth c) : ∀ (k : Nat) {z3 : Int32} {z4 : Int32} {H : Heap} {locs : List Loc} {ls : Array Slot}, gL2 (f_X6_hasMildEnvy_L5 z1 z2 aM) k z3 z4 = some res → gI x base s.heap (mH h o aM aS iU aB iL iE iP aR iW iT aT aC aH aE aQ iA iY iF iV aK) n H locs → lv_has ls 5 [(0, .ref o), (1, .int z1), (2, .int z2), (3, .int z3), (4, .int z4)] → W p l e rm_X6_hasMildEnvy s m args below meth c H locs 0 0 (MQ below (gQ x base (some (.int res)) (mH h o aM aS iU aB iL iE iP aR iW iT aT aC aH aE aQ iA iY iF iV aK) n) args s 0 0 (fun q => base ≤ q)) (F0 m 5 ls []) := by
  have hx := X.1
  have hb := X.2.1
  intro k
  induction k with
  | zero =>
    intros
    rename_i hr _ _
    exact nomatch (show (none : Option _) = some _ from hr)
  | succ k ih =>
    intro z3 z4 H locs ls hr hI hl
    replace hr : f_X6_hasMildEnvy_L5 z1 z2 aM (gL2 (f_X6_hasMildEnvy_L5 z1 z2 aM) k) z3 z4 = some res := hr
    unfold f_X6_hasMildEnvy_L5 at hr
    refine lv_iload hx hb dX6_hasMildEnvy_5 (lv_at hl 4 rfl) ?_
    refine lv_aload_n hx hb dX6_hasMildEnvy_7 rfl (lv_at hl 0 rfl) ?_
    refine m_get X hI mH_0 0 (by decide) q1652 rfl dX6_hasMildEnvy_8 ?_
    refine lv_iconst (v := 0) hx hb dX6_hasMildEnvy_11 (by decide) ?_
    refine m_iald X hI mH_aaM hr dX6_hasMildEnvy_12 (fun v1 hr => ?_)
    refine lv_icmp_ge (tgt := 51) hx hb dX6_hasMildEnvy_13 (by decide) (fun c9 => ?_) (fun c9 => ?_)
    · replace hr := gIf_t c9 hr
      exact w_X6_hasMildEnvy_J51 X hr hI (lv_sub hl [0, 1, 2, 3] rfl)
    · replace hr := gIf_f c9 hr
      refine lv_aload_n hx hb dX6_hasMildEnvy_16 rfl (lv_at hl 0 rfl) ?_
      refine lv_iload hx hb dX6_hasMildEnvy_17 (lv_at hl 4 rfl) ?_
      obtain ⟨v7, hc6, hr⟩ := gB_i hr
      refine gRun_i (g_runV X hI (w_X6_ownerOf hc6) (g_obj_s mH_0) rfl hl (lw_V q1804 q1806 qs61 q122 q1807) rfl rfl hd_X6_ownerOf ⟨Nat.le_of_ble_eq_true rfl, Nat.le_of_ble_eq_true rfl⟩ (as := [.int z4]) (rest := []) rfl rfl (Nat.le_of_ble_eq_true rfl) ⟨(Nat.le_refl _), (Nat.le_refl _)⟩ dX6_hasMildEnvy_19) (fun H locs hI => ?_)
      refine lv_iload_n hx hb dX6_hasMildEnvy_22 rfl (lv_at hl 2 rfl) ?_
      refine lv_icmp_ne (tgt := 45) hx hb dX6_hasMildEnvy_23 (by decide) (fun c9 => ?_) (fun c9 => ?_)
      · replace hr := gIf_f c9 hr
        refine lv_iinc (v := (z4 + (1 : Int32))) (lv' := [(4, .int (z4 + (1 : Int32))), (0, .ref o), (1, .int z1), (2, .int z2), (3, .int z3)]) hx hb dX6_hasMildEnvy_45 hl (k := 4) rfl (g_inc (by decide)) (by decide) rfl (fun ls hl => ?_)
        refine lv_goto (tgt := 5) hx hb dX6_hasMildEnvy_48 (by decide) ?_
        exact ih hr hI (lv_sub hl [1, 2, 3, 4, 0] rfl)
      · replace hr := gIf_t c9 hr
        refine lv_aload_n hx hb dX6_hasMildEnvy_26 rfl (lv_at hl 0 rfl) ?_
        refine lv_iload_n hx hb dX6_hasMildEnvy_27 rfl (lv_at hl 1 rfl) ?_
        refine lv_iload hx hb dX6_hasMildEnvy_28 (lv_at hl 4 rfl) ?_
        obtain ⟨v9, hc8, hr⟩ := gB_i hr
        refine gRun_i (g_runV X hI (w_X6_valueOf hc8) (g_obj_s mH_0) rfl hl (lw_V q1808 q1810 qs62 q122 q1811) rfl rfl hd_X6_valueOf ⟨Nat.le_of_ble_eq_true rfl, Nat.le_of_ble_eq_true rfl⟩ (as := [.int z1, .int z4]) (rest := []) rfl rfl (Nat.le_of_ble_eq_true rfl) ⟨(Nat.le_refl _), (Nat.le_refl _)⟩ dX6_hasMildEnvy_30) (fun H locs hI => ?_)
        refine lv_iload_n hx hb dX6_hasMildEnvy_33 rfl (lv_at hl 3 rfl) ?_
        refine lv_icmp_le (tgt := 45) hx hb dX6_hasMildEnvy_34 (by decide) (fun c9 => ?_) (fun c9 => ?_)
        · replace hr := gIf_t c9 hr
          refine lv_iinc (v := (z4 + (1 : Int32))) (lv' := [(4, .int (z4 + (1 : Int32))), (0, .ref o), (1, .int z1), (2, .int z2), (3, .int z3)]) hx hb dX6_hasMildEnvy_45 hl (k := 4) rfl (g_inc (by decide)) (by decide) rfl (fun ls hl => ?_)
          refine lv_goto (tgt := 5) hx hb dX6_hasMildEnvy_48 (by decide) ?_
          exact ih hr hI (lv_sub hl [1, 2, 3, 4, 0] rfl)
        · replace hr := gIf_f c9 hr
          refine lv_aload_n hx hb dX6_hasMildEnvy_37 rfl (lv_at hl 0 rfl) ?_
          refine lv_iload_n hx hb dX6_hasMildEnvy_38 rfl (lv_at hl 1 rfl) ?_
          refine lv_iload hx hb dX6_hasMildEnvy_39 (lv_at hl 4 rfl) ?_
          obtain ⟨v11, hc10, hr⟩ := gB_i hr
          refine gRun_i (g_runV X hI (w_X6_valueOf hc10) (g_obj_s mH_0) rfl hl (lw_V q1808 q1810 qs62 q122 q1811) rfl rfl hd_X6_valueOf ⟨Nat.le_of_ble_eq_true rfl, Nat.le_of_ble_eq_true rfl⟩ (as := [.int z1, .int z4]) (rest := []) rfl rfl (Nat.le_of_ble_eq_true rfl) ⟨(Nat.le_refl _), (Nat.le_refl _)⟩ dX6_hasMildEnvy_41) (fun H locs hI => ?_)
          refine lv_istore_n (lv' := [(3, .int v11), (0, .ref o), (1, .int z1), (2, .int z2), (4, .int z4)]) hx hb dX6_hasMildEnvy_44 rfl hl (by decide) rfl (fun ls hl => ?_)
          refine lv_iinc (v := (z4 + (1 : Int32))) (lv' := [(4, .int (z4 + (1 : Int32))), (3, .int v11), (0, .ref o), (1, .int z1), (2, .int z2)]) hx hb dX6_hasMildEnvy_45 hl (k := 4) rfl (g_inc (by decide)) (by decide) rfl (fun ls hl => ?_)
          refine lv_goto (tgt := 5) hx hb dX6_hasMildEnvy_48 (by decide) ?_
          exact ih hr hI (lv_sub hl [2, 3, 4, 1, 0] rfl)
set_option maxHeartbeats 2000000 in
theorem w_X6_hasMildEnvy {l : Launch} {x : gV} {base : Nat} {z1 : Int32} {z2 : Int32} {h : gH} {n : Nat} {o : Nat} {aM : (Nat → Int32)} {aS : (Nat → Int32)} {iU : Int32} {aB : (Nat → Int32)} {iL : Int32} {iE : Int32} {iP : Int32} {aR : (Nat → Int32)} {iW : Int32} {iT : Int32} {aT : (Nat → Int32)} {aC : (Nat → Int32)} {aH : (Nat → Int32)} {aE : (Nat → Int32)} {aQ : (Nat → Int32)} {iA : Int32} {iY : Int32} {iF : Int32} {iV : Int32} {aK : (Nat → Int32)} {res : Int32} (hr : f_X6_hasMildEnvy z1 z2 aM = some res) : gM l yX6_hasMildEnvy (ws_ yX6_hasMildEnvy cX6_hasMildEnvy 5 (some .boolean)) rm_X6_hasMildEnvy x base [.ref o, .int z1, .int z2] (mH h o aM aS iU aB iL iE iP aR iW iT aT aC aH aE aQ iA iY iF iV aK) n (some (.int res)) (mH h o aM aS iU aB iL iE iP aR iW iT aT aC aH aE aQ iA iY iF iV aK) n 0 0 := by
  refine g_met (cc := cX6_hasMildEnvy) (nL := 5) (ret := (some .boolean)) (by decide) (Nat.le_of_ble_eq_true rfl) (fun p e s m below meth c ls X hnm hl hI => ?_)
  have hl : lv_has ls 5 [(0, .ref o), (1, .int z1), (2, .int z2)] := hl
  have hx := X.1
  have hb := X.2.1
  unfold f_X6_hasMildEnvy at hr
  refine lv_iconst (v := 0) hx hb dX6_hasMildEnvy_0 (by decide) ?_
  refine lv_istore_n (lv' := [(3, .int (0 : Int32)), (0, .ref o), (1, .int z1), (2, .int z2)]) hx hb dX6_hasMildEnvy_1 rfl hl (by decide) rfl (fun ls hl => ?_)
  refine lv_iconst (v := 0) hx hb dX6_hasMildEnvy_2 (by decide) ?_
  refine lv_istore (lv' := [(4, .int (0 : Int32)), (3, .int (0 : Int32)), (0, .ref o), (1, .int z1), (2, .int z2)]) hx hb dX6_hasMildEnvy_3 hl (by decide) rfl (fun ls hl => ?_)
  exact w_X6_hasMildEnvy_L5 X gN hr hI (lv_sub hl [2, 3, 4, 1, 0] rfl)
abbrev rm_X6_isMild : Room := { frames := 4, cells := 0, slots := 0, locals := 91 }
theorem hd_X6_isMild : yX6_isMild.cls = RX6 ∧ yX6_isMild.cls ≠ "java/lang/invoke/MethodHandle" ∧ yX6_isMild.cls ≠ "java/lang/invoke/VarHandle" ∧ (parseMethodDescriptor yX6_isMild.desc).map (fun d => d.parameters.length) = some 2 := by decide +kernel
set_option maxHeartbeats 2000000 in
theorem w_X6_isMild_J35 {h : gH} {n : Nat} {o : Nat} {aM : (Nat → Int32)} {aS : (Nat → Int32)} {iU : Int32} {aB : (Nat → Int32)} {iL : Int32} {iE : Int32} {iP : Int32} {aR : (Nat → Int32)} {iW : Int32} {iT : Int32} {aT : (Nat → Int32)} {aC : (Nat → Int32)} {aH : (Nat → Int32)} {aE : (Nat → Int32)} {aQ : (Nat → Int32)} {iA : Int32} {iY : Int32} {iF : Int32} {iV : Int32} {aK : (Nat → Int32)} {z1 : Int32} {z2 : Int32} {s1 : Int32} {s2 : Int32} {res : Int32 × Int32} (X : gXX x base RX6 cX6_isMild 4 (some .boolean) p l s m args meth c) {H : Heap} {locs : List Loc} {ls : Array Slot} (hr : f_X6_isMild_J35 z1 z2 s1 s2 aM iT = some res) (hI : gI x base s.heap (mH h o aM aS iU aB iL iE iP aR iW iT aT aC aH aE aQ iA iY iF iV aK) n H locs) (hl : lv_has ls 4 [(0, .ref o), (1, .int z1), (2, .int z2)]) : W p l e rm_X6_isMild s m args below meth c H locs 0 0 (MQ below (gQ x base (some (.int res.1)) (mH h o aM aS iU aB iL iE iP aR iW res.2 aT aC aH aE aQ iA iY iF iV aK) n) args s 0 0 (fun q => base ≤ q)) (F0 m 35 ls [.int s2, .int s1, .ref o]) := by
  have hx := X.1
  have hb := X.2.1
  unfold f_X6_isMild_J35 at hr
  refine lv_iconst (v := 0) hx hb dX6_isMild_35 (by decide) ?_
  obtain ⟨v4, iT_5, hc3, hr⟩ := gT2_i hr
  refine gRun_i (g_runV X hI (w_X6_fails hc3) (g_obj_s mH_0) rfl hl (lw_V q1717 q1719 qs45 q122 q1720) rfl rfl hd_X6_fails ⟨Nat.le_of_ble_eq_true rfl, Nat.le_of_ble_eq_true rfl⟩ (as := [.int s1, .int s2, .int (0 : Int32)]) (rest := []) rfl rfl (Nat.le_of_ble_eq_true rfl) ⟨(Nat.le_refl _), (Nat.le_refl _)⟩ dX6_isMild_36) (fun H locs hI => ?_)
  refine lv_if_eq (tgt := 44) hx hb dX6_isMild_39 (by decide) (fun c9 => ?_) (fun c9 => ?_)
  · replace hr := gIf_t c9 hr
    refine lv_aload_n hx hb dX6_isMild_44 rfl (lv_at hl 0 rfl) ?_
    refine lv_iload_n hx hb dX6_isMild_45 rfl (lv_at hl 1 rfl) ?_
    refine lv_iload_n hx hb dX6_isMild_46 rfl (lv_at hl 2 rfl) ?_
    obtain ⟨v7, hc6, hr⟩ := gB_i hr
    refine gRun_i (g_runV X hI (w_X6_hasMildEnvy hc6) (g_obj_s mH_0) rfl hl (lw_V q1964 q1966 qs83 q122 q1967) rfl rfl hd_X6_hasMildEnvy ⟨Nat.le_of_ble_eq_true rfl, Nat.le_of_ble_eq_true rfl⟩ (as := [.int z1, .int z2]) (rest := []) rfl rfl (Nat.le_of_ble_eq_true rfl) ⟨(Nat.le_refl _), (Nat.le_refl _)⟩ dX6_isMild_47) (fun H locs hI => ?_)
    obtain ⟨c9, hr⟩ := gIf_o hr
    have hr := gS_i hr
    subst hr
    exact g_iret X hI (g_narZ c9) (Nat.le_refl _) (Nat.le_refl _) dX6_isMild_50
  · replace hr := gIf_f c9 hr
    refine lv_iconst (v := 0) hx hb dX6_isMild_42 (by decide) ?_
    have hr := gS_i hr
    subst hr
    exact g_iret X hI (g_narZ (Or.inl rfl)) (Nat.le_refl _) (Nat.le_refl _) dX6_isMild_43
set_option maxHeartbeats 2000000 in
theorem w_X6_isMild_J34 {h : gH} {n : Nat} {o : Nat} {aM : (Nat → Int32)} {aS : (Nat → Int32)} {iU : Int32} {aB : (Nat → Int32)} {iL : Int32} {iE : Int32} {iP : Int32} {aR : (Nat → Int32)} {iW : Int32} {iT : Int32} {aT : (Nat → Int32)} {aC : (Nat → Int32)} {aH : (Nat → Int32)} {aE : (Nat → Int32)} {aQ : (Nat → Int32)} {iA : Int32} {iY : Int32} {iF : Int32} {iV : Int32} {aK : (Nat → Int32)} {z1 : Int32} {z2 : Int32} {s1 : Int32} {res : Int32 × Int32} (X : gXX x base RX6 cX6_isMild 4 (some .boolean) p l s m args meth c) {H : Heap} {locs : List Loc} {ls : Array Slot} (hr : f_X6_isMild_J34 z1 z2 s1 aM iT = some res) (hI : gI x base s.heap (mH h o aM aS iU aB iL iE iP aR iW iT aT aC aH aE aQ iA iY iF iV aK) n H locs) (hl : lv_has ls 4 [(0, .ref o), (1, .int z1), (2, .int z2)]) : W p l e rm_X6_isMild s m args below meth c H locs 0 0 (MQ below (gQ x base (some (.int res.1)) (mH h o aM aS iU aB iL iE iP aR iW res.2 aT aC aH aE aQ iA iY iF iV aK) n) args s 0 0 (fun q => base ≤ q)) (F0 m 34 ls [.int s1, .ref o]) := by
  have hx := X.1
  have hb := X.2.1
  unfold f_X6_isMild_J34 at hr
  refine lv_iconst (v := 0) hx hb dX6_isMild_34 (by decide) ?_
  exact w_X6_isMild_J35 X hr hI (lv_sub hl [0, 1, 2] rfl)
set_option maxHeartbeats 2000000 in
theorem w_X6_isMild_J17 {h : gH} {n : Nat} {o : Nat} {aM : (Nat → Int32)} {aS : (Nat → Int32)} {iU : Int32} {aB : (Nat → Int32)} {iL : Int32} {iE : Int32} {iP : Int32} {aR : (Nat → Int32)} {iW : Int32} {iT : Int32} {aT : (Nat → Int32)} {aC : (Nat → Int32)} {aH : (Nat → Int32)} {aE : (Nat → Int32)} {aQ : (Nat → Int32)} {iA : Int32} {iY : Int32} {iF : Int32} {iV : Int32} {aK : (Nat → Int32)} {z1 : Int32} {z2 : Int32} {z3 : Int32} {s1 : Int32} {res : Int32 × Int32} (X : gXX x base RX6 cX6_isMild 4 (some .boolean) p l s m args meth c) {H : Heap} {locs : List Loc} {ls : Array Slot} (hr : f_X6_isMild_J17 z1 z2 z3 s1 aM iT = some res) (hI : gI x base s.heap (mH h o aM aS iU aB iL iE iP aR iW iT aT aC aH aE aQ iA iY iF iV aK) n H locs) (hl : lv_has ls 4 [(0, .ref o), (1, .int z1), (2, .int z2), (3, .int z3)]) : W p l e rm_X6_isMild s m args below meth c H locs 0 0 (MQ below (gQ x base (some (.int res.1)) (mH h o aM aS iU aB iL iE iP aR iW res.2 aT aC aH aE aQ iA iY iF iV aK) n) args s 0 0 (fun q => base ≤ q)) (F0 m 17 ls [.int s1, .ref o]) := by
  have hx := X.1
  have hb := X.2.1
  unfold f_X6_isMild_J17 at hr
  refine lv_iload_n hx hb dX6_isMild_17 rfl (lv_at hl 3 rfl) ?_
  refine lv_if_eq (tgt := 34) hx hb dX6_isMild_18 (by decide) (fun c9 => ?_) (fun c9 => ?_)
  · replace hr := gIf_t c9 hr
    exact w_X6_isMild_J34 X hr hI (lv_sub hl [0, 1, 2] rfl)
  · replace hr := gIf_f c9 hr
    refine lv_aload_n hx hb dX6_isMild_21 rfl (lv_at hl 0 rfl) ?_
    refine lv_iload_n hx hb dX6_isMild_22 rfl (lv_at hl 1 rfl) ?_
    refine lv_iload_n hx hb dX6_isMild_23 rfl (lv_at hl 2 rfl) ?_
    obtain ⟨v9, hc8, hr⟩ := gB_i hr
    refine gRun_i (g_runV X hI (w_X6_hasEnvy hc8) (g_obj_s mH_0) rfl hl (lw_V q1796 q1798 qs59 q122 q1799) rfl rfl hd_X6_hasEnvy ⟨Nat.le_of_ble_eq_true rfl, Nat.le_of_ble_eq_true rfl⟩ (as := [.int z1, .int z2]) (rest := [.int s1, .ref o]) rfl rfl (Nat.le_of_ble_eq_true rfl) ⟨(Nat.le_refl _), (Nat.le_refl _)⟩ dX6_isMild_24) (fun H locs hI => ?_)
    refine lv_if_ne (tgt := 34) hx hb dX6_isMild_27 (by decide) (fun c9 => ?_) (fun c9 => ?_)
    · replace hr := gIf_f c9 hr
      exact w_X6_isMild_J34 X hr hI (lv_sub hl [0, 1, 2] rfl)
    · replace hr := gIf_t c9 hr
      refine lv_iconst (v := 1) hx hb dX6_isMild_30 (by decide) ?_
      refine lv_goto (tgt := 35) hx hb dX6_isMild_31 (by decide) ?_
      exact w_X6_isMild_J35 X hr hI (lv_sub hl [0, 1, 2] rfl)
set_option maxHeartbeats 2000000 in
theorem w_X6_isMild {l : Launch} {x : gV} {base : Nat} {z1 : Int32} {z2 : Int32} {h : gH} {n : Nat} {o : Nat} {aM : (Nat → Int32)} {aS : (Nat → Int32)} {iU : Int32} {aB : (Nat → Int32)} {iL : Int32} {iE : Int32} {iP : Int32} {aR : (Nat → Int32)} {iW : Int32} {iT : Int32} {aT : (Nat → Int32)} {aC : (Nat → Int32)} {aH : (Nat → Int32)} {aE : (Nat → Int32)} {aQ : (Nat → Int32)} {iA : Int32} {iY : Int32} {iF : Int32} {iV : Int32} {aK : (Nat → Int32)} {res : Int32 × Int32} (hr : f_X6_isMild z1 z2 aM iT = some res) : gM l yX6_isMild (ws_ yX6_isMild cX6_isMild 4 (some .boolean)) rm_X6_isMild x base [.ref o, .int z1, .int z2] (mH h o aM aS iU aB iL iE iP aR iW iT aT aC aH aE aQ iA iY iF iV aK) n (some (.int res.1)) (mH h o aM aS iU aB iL iE iP aR iW res.2 aT aC aH aE aQ iA iY iF iV aK) n 0 0 := by
  refine g_met (cc := cX6_isMild) (nL := 4) (ret := (some .boolean)) (by decide) (Nat.le_of_ble_eq_true rfl) (fun p e s m below meth c ls X hnm hl hI => ?_)
  have hl : lv_has ls 4 [(0, .ref o), (1, .int z1), (2, .int z2)] := hl
  have hx := X.1
  have hb := X.2.1
  unfold f_X6_isMild at hr
  refine lv_aload_n hx hb dX6_isMild_0 rfl (lv_at hl 0 rfl) ?_
  refine lv_iload_n hx hb dX6_isMild_1 rfl (lv_at hl 1 rfl) ?_
  refine lv_iload_n hx hb dX6_isMild_2 rfl (lv_at hl 2 rfl) ?_
  obtain ⟨v2, hc1, hr⟩ := gB_i hr
  refine gRun_i (g_runV X hI (w_X6_areSiblings hc1) (g_obj_s mH_0) rfl hl (lw_V q1924 q1926 qs80 q122 q1927) rfl rfl hd_X6_areSiblings ⟨Nat.le_of_ble_eq_true rfl, Nat.le_of_ble_eq_true rfl⟩ (as := [.int z1, .int z2]) (rest := []) rfl rfl (Nat.le_of_ble_eq_true rfl) ⟨(Nat.le_refl _), (Nat.le_refl _)⟩ dX6_isMild_3) (fun H locs hI => ?_)
  refine lv_istore_n (lv' := [(3, .int v2), (0, .ref o), (1, .int z1), (2, .int z2)]) hx hb dX6_isMild_6 rfl hl (by decide) rfl (fun ls hl => ?_)
  refine lv_aload_n hx hb dX6_isMild_7 rfl (lv_at hl 1 rfl) ?_
  refine lv_iload_n hx hb dX6_isMild_8 rfl (lv_at hl 0 rfl) ?_
  refine lv_if_ne (tgt := 16) hx hb dX6_isMild_9 (by decide) (fun c9 => ?_) (fun c9 => ?_)
  · replace hr := gIf_f c9 hr
    refine lv_iconst (v := 0) hx hb dX6_isMild_16 (by decide) ?_
    exact w_X6_isMild_J17 X hr hI (lv_sub hl [1, 2, 3, 0] rfl)
  · replace hr := gIf_t c9 hr
    refine lv_iconst (v := 1) hx hb dX6_isMild_12 (by decide) ?_
    refine lv_goto (tgt := 17) hx hb dX6_isMild_13 (by decide) ?_
    exact w_X6_isMild_J17 X hr hI (lv_sub hl [1, 2, 3, 0] rfl)
abbrev rm_X6_envyTotal : Room := { frames := 4, cells := 0, slots := 0, locals := 89 }
theorem hd_X6_envyTotal : yX6_envyTotal.cls = RX6 ∧ yX6_envyTotal.cls ≠ "java/lang/invoke/MethodHandle" ∧ yX6_envyTotal.cls ≠ "java/lang/invoke/VarHandle" ∧ (parseMethodDescriptor yX6_envyTotal.desc).map (fun d => d.parameters.length) = some 0 := by decide +kernel
set_option maxHeartbeats 2000000 in
theorem w_X6_envyTotal_L16 {h : gH} {n : Nat} {o : Nat} {aM : (Nat → Int32)} {aS : (Nat → Int32)} {iU : Int32} {aB : (Nat → Int32)} {iL : Int32} {iE : Int32} {iP : Int32} {aR : (Nat → Int32)} {iW : Int32} {iT : Int32} {aT : (Nat → Int32)} {aC : (Nat → Int32)} {aH : (Nat → Int32)} {aE : (Nat → Int32)} {aQ : (Nat → Int32)} {iA : Int32} {iY : Int32} {iF : Int32} {iV : Int32} {aK : (Nat → Int32)} {r4 : Int32 → Int32 → Option Int32} {z2 : Int32} {res : Int32} (X : gXX x base RX6 cX6_envyTotal 4 (some .int) p l s m args meth c) (Hr4 : ∀ {z1 : Int32} {z2 : Int32} {H : Heap} {locs : List Loc} {ls : Array Slot}, r4 z1 z2 = some res → gI x base s.heap (mH h o aM aS iU aB iL iE iP aR iW iT aT aC aH aE aQ iA iY iF iV aK) n H locs → lv_has ls 4 [(0, .ref o), (1, .int z1), (2, .int z2)] → W p l e rm_X6_envyTotal s m args below meth c H locs 0 0 (MQ below (gQ x base (some (.int res)) (mH h o aM aS iU aB iL iE iP aR iW iT aT aC aH aE aQ iA iY iF iV aK) n) args s 0 0 (fun q => base ≤ q)) (F0 m 4 ls [])) : ∀ (k : Nat) {z1 : Int32} {z3 : Int32} {H : Heap} {locs : List Loc} {ls : Array Slot}, gL2 (f_X6_envyTotal_L16 r4 z2 aM) k z1 z3 = some res → gI x base s.heap (mH h o aM aS iU aB iL iE iP aR iW iT aT aC aH aE aQ iA iY iF iV aK) n H locs → lv_has ls 4 [(0, .ref o), (1, .int z1), (2, .int z2), (3, .int z3)] → W p l e rm_X6_envyTotal s m args below meth c H locs 0 0 (MQ below (gQ x base (some (.int res)) (mH h o aM aS iU aB iL iE iP aR iW iT aT aC aH aE aQ iA iY iF iV aK) n) args s 0 0 (fun q => base ≤ q)) (F0 m 16 ls []) := by
  have hx := X.1
  have hb := X.2.1
  intro k
  induction k with
  | zero =>
    intros
    rename_i hr _ _
    exact nomatch (show (none : Option _) = some _ from hr)
  | succ k ih =>
    intro z1 z3 H locs ls hr hI hl
    replace hr : f_X6_envyTotal_L16 r4 z2 aM (gL2 (f_X6_envyTotal_L16 r4 z2 aM) k) z1 z3 = some res := hr
    unfold f_X6_envyTotal_L16 at hr
    refine lv_iload_n hx hb dX6_envyTotal_16 rfl (lv_at hl 3 rfl) ?_
    refine lv_aload_n hx hb dX6_envyTotal_17 rfl (lv_at hl 0 rfl) ?_
    refine m_get X hI mH_0 0 (by decide) q1652 rfl dX6_envyTotal_18 ?_
    refine lv_iconst (v := 1) hx hb dX6_envyTotal_21 (by decide) ?_
    refine m_iald X hI mH_aaM hr dX6_envyTotal_22 (fun v2 hr => ?_)
    refine lv_icmp_ge (tgt := 49) hx hb dX6_envyTotal_23 (by decide) (fun c9 => ?_) (fun c9 => ?_)
    · replace hr := gIf_t c9 hr
      refine lv_iinc (v := (z2 + (1 : Int32))) (lv' := [(2, .int (z2 + (1 : Int32))), (0, .ref o), (1, .int z1), (3, .int z3)]) hx hb dX6_envyTotal_49 hl (k := 2) rfl (g_inc (by decide)) (by decide) rfl (fun ls hl => ?_)
      refine lv_goto (tgt := 4) hx hb dX6_envyTotal_52 (by decide) ?_
      exact Hr4 hr hI (lv_sub hl [1, 2, 0] rfl)
    · replace hr := gIf_f c9 hr
      refine lv_iload_n hx hb dX6_envyTotal_26 rfl (lv_at hl 1 rfl) ?_
      refine lv_aload_n hx hb dX6_envyTotal_27 rfl (lv_at hl 0 rfl) ?_
      refine lv_iload_n hx hb dX6_envyTotal_28 rfl (lv_at hl 2 rfl) ?_
      refine lv_iload_n hx hb dX6_envyTotal_29 rfl (lv_at hl 3 rfl) ?_
      obtain ⟨v4, hc3, hr⟩ := gB_i hr
      refine gRun_i (g_runV X hI (w_X6_hasEnvy hc3) (g_obj_s mH_0) rfl hl (lw_V q1796 q1798 qs59 q122 q1799) rfl rfl hd_X6_hasEnvy ⟨Nat.le_of_ble_eq_true rfl, Nat.le_of_ble_eq_true rfl⟩ (as := [.int z2, .int z3]) (rest := [.int z1]) rfl rfl (Nat.le_of_ble_eq_true rfl) ⟨(Nat.le_refl _), (Nat.le_refl _)⟩ dX6_envyTotal_30) (fun H locs hI => ?_)
      refine lv_if_eq (tgt := 40) hx hb dX6_envyTotal_33 (by decide) (fun c9 => ?_) (fun c9 => ?_)
      · replace hr := gIf_t c9 hr
        refine lv_iconst (v := 0) hx hb dX6_envyTotal_40 (by decide) ?_
        refine lv_iadd hx hb dX6_envyTotal_41 ?_
        refine lv_istore_n (lv' := [(1, .int (z1 + (0 : Int32))), (0, .ref o), (2, .int z2), (3, .int z3)]) hx hb dX6_envyTotal_42 rfl hl (by decide) rfl (fun ls hl => ?_)
        refine lv_iinc (v := (z3 + (1 : Int32))) (lv' := [(3, .int (z3 + (1 : Int32))), (1, .int (z1 + (0 : Int32))), (0, .ref o), (2, .int z2)]) hx hb dX6_envyTotal_43 hl (k := 3) rfl (g_inc (by decide)) (by decide) rfl (fun ls hl => ?_)
        refine lv_goto (tgt := 16) hx hb dX6_envyTotal_46 (by decide) ?_
        exact ih hr hI (lv_sub hl [2, 1, 3, 0] rfl)
      · replace hr := gIf_f c9 hr
        refine lv_iconst (v := 1) hx hb dX6_envyTotal_36 (by decide) ?_
        refine lv_goto (tgt := 41) hx hb dX6_envyTotal_37 (by decide) ?_
        refine lv_iadd hx hb dX6_envyTotal_41 ?_
        refine lv_istore_n (lv' := [(1, .int (z1 + (1 : Int32))), (0, .ref o), (2, .int z2), (3, .int z3)]) hx hb dX6_envyTotal_42 rfl hl (by decide) rfl (fun ls hl => ?_)
        refine lv_iinc (v := (z3 + (1 : Int32))) (lv' := [(3, .int (z3 + (1 : Int32))), (1, .int (z1 + (1 : Int32))), (0, .ref o), (2, .int z2)]) hx hb dX6_envyTotal_43 hl (k := 3) rfl (g_inc (by decide)) (by decide) rfl (fun ls hl => ?_)
        refine lv_goto (tgt := 16) hx hb dX6_envyTotal_46 (by decide) ?_
        exact ih hr hI (lv_sub hl [2, 1, 3, 0] rfl)
set_option maxHeartbeats 2000000 in
theorem w_X6_envyTotal_L4 {h : gH} {n : Nat} {o : Nat} {aM : (Nat → Int32)} {aS : (Nat → Int32)} {iU : Int32} {aB : (Nat → Int32)} {iL : Int32} {iE : Int32} {iP : Int32} {aR : (Nat → Int32)} {iW : Int32} {iT : Int32} {aT : (Nat → Int32)} {aC : (Nat → Int32)} {aH : (Nat → Int32)} {aE : (Nat → Int32)} {aQ : (Nat → Int32)} {iA : Int32} {iY : Int32} {iF : Int32} {iV : Int32} {aK : (Nat → Int32)} {res : Int32} (X : gXX x base RX6 cX6_envyTotal 4 (some .int) p l s m args meth c) : ∀ (k : Nat) {z1 : Int32} {z2 : Int32} {H : Heap} {locs : List Loc} {ls : Array Slot}, gL2 (f_X6_envyTotal_L4 aM) k z1 z2 = some res → gI x base s.heap (mH h o aM aS iU aB iL iE iP aR iW iT aT aC aH aE aQ iA iY iF iV aK) n H locs → lv_has ls 4 [(0, .ref o), (1, .int z1), (2, .int z2)] → W p l e rm_X6_envyTotal s m args below meth c H locs 0 0 (MQ below (gQ x base (some (.int res)) (mH h o aM aS iU aB iL iE iP aR iW iT aT aC aH aE aQ iA iY iF iV aK) n) args s 0 0 (fun q => base ≤ q)) (F0 m 4 ls []) := by
  have hx := X.1
  have hb := X.2.1
  intro k
  induction k with
  | zero =>
    intros
    rename_i hr _ _
    exact nomatch (show (none : Option _) = some _ from hr)
  | succ k ih =>
    intro z1 z2 H locs ls hr hI hl
    replace hr : f_X6_envyTotal_L4 aM (gL2 (f_X6_envyTotal_L4 aM) k) z1 z2 = some res := hr
    unfold f_X6_envyTotal_L4 at hr
    refine lv_iload_n hx hb dX6_envyTotal_4 rfl (lv_at hl 2 rfl) ?_
    refine lv_aload_n hx hb dX6_envyTotal_5 rfl (lv_at hl 0 rfl) ?_
    refine m_get X hI mH_0 0 (by decide) q1652 rfl dX6_envyTotal_6 ?_
    refine lv_iconst (v := 1) hx hb dX6_envyTotal_9 (by decide) ?_
    refine m_iald X hI mH_aaM hr dX6_envyTotal_10 (fun v1 hr => ?_)
    refine lv_icmp_ge (tgt := 55) hx hb dX6_envyTotal_11 (by decide) (fun c9 => ?_) (fun c9 => ?_)
    · replace hr := gIf_t c9 hr
      refine lv_iload_n hx hb dX6_envyTotal_55 rfl (lv_at hl 1 rfl) ?_
      have hr := gS_i hr
      subst hr
      exact g_iret X hI rfl (Nat.le_refl _) (Nat.le_refl _) dX6_envyTotal_56
    · replace hr := gIf_f c9 hr
      refine lv_iconst (v := 0) hx hb dX6_envyTotal_14 (by decide) ?_
      refine lv_istore_n (lv' := [(3, .int (0 : Int32)), (0, .ref o), (1, .int z1), (2, .int z2)]) hx hb dX6_envyTotal_15 rfl hl (by decide) rfl (fun ls hl => ?_)
      exact w_X6_envyTotal_L16 X ih gN hr hI (lv_sub hl [1, 2, 3, 0] rfl)
set_option maxHeartbeats 2000000 in
theorem w_X6_envyTotal {l : Launch} {x : gV} {base : Nat} {h : gH} {n : Nat} {o : Nat} {aM : (Nat → Int32)} {aS : (Nat → Int32)} {iU : Int32} {aB : (Nat → Int32)} {iL : Int32} {iE : Int32} {iP : Int32} {aR : (Nat → Int32)} {iW : Int32} {iT : Int32} {aT : (Nat → Int32)} {aC : (Nat → Int32)} {aH : (Nat → Int32)} {aE : (Nat → Int32)} {aQ : (Nat → Int32)} {iA : Int32} {iY : Int32} {iF : Int32} {iV : Int32} {aK : (Nat → Int32)} {res : Int32} (hr : f_X6_envyTotal aM = some res) : gM l yX6_envyTotal (ws_ yX6_envyTotal cX6_envyTotal 4 (some .int)) rm_X6_envyTotal x base [.ref o] (mH h o aM aS iU aB iL iE iP aR iW iT aT aC aH aE aQ iA iY iF iV aK) n (some (.int res)) (mH h o aM aS iU aB iL iE iP aR iW iT aT aC aH aE aQ iA iY iF iV aK) n 0 0 := by
  refine g_met (cc := cX6_envyTotal) (nL := 4) (ret := (some .int)) (by decide) (Nat.le_of_ble_eq_true rfl) (fun p e s m below meth c ls X hnm hl hI => ?_)
  have hl : lv_has ls 4 [(0, .ref o)] := hl
  have hx := X.1
  have hb := X.2.1
  unfold f_X6_envyTotal at hr
  refine lv_iconst (v := 0) hx hb dX6_envyTotal_0 (by decide) ?_
  refine lv_istore_n (lv' := [(1, .int (0 : Int32)), (0, .ref o)]) hx hb dX6_envyTotal_1 rfl hl (by decide) rfl (fun ls hl => ?_)
  refine lv_iconst (v := 0) hx hb dX6_envyTotal_2 (by decide) ?_
  refine lv_istore_n (lv' := [(2, .int (0 : Int32)), (1, .int (0 : Int32)), (0, .ref o)]) hx hb dX6_envyTotal_3 rfl hl (by decide) rfl (fun ls hl => ?_)
  exact w_X6_envyTotal_L4 X gN hr hI (lv_sub hl [2, 1, 0] rfl)
abbrev rm_X6_envyCount : Room := { frames := 5, cells := 0, slots := 0, locals := 112 }
theorem hd_X6_envyCount : yX6_envyCount.cls = RX6 ∧ yX6_envyCount.cls ≠ "java/lang/invoke/MethodHandle" ∧ yX6_envyCount.cls ≠ "java/lang/invoke/VarHandle" ∧ (parseMethodDescriptor yX6_envyCount.desc).map (fun d => d.parameters.length) = some 0 := by decide +kernel
set_option maxHeartbeats 2000000 in
theorem w_X6_envyCount {l : Launch} {x : gV} {base : Nat} {h : gH} {n : Nat} {o : Nat} {aM : (Nat → Int32)} {aS : (Nat → Int32)} {iU : Int32} {aB : (Nat → Int32)} {iL : Int32} {iE : Int32} {iP : Int32} {aR : (Nat → Int32)} {iW : Int32} {iT : Int32} {aT : (Nat → Int32)} {aC : (Nat → Int32)} {aH : (Nat → Int32)} {aE : (Nat → Int32)} {aQ : (Nat → Int32)} {iA : Int32} {iY : Int32} {iF : Int32} {iV : Int32} {aK : (Nat → Int32)} {res : Int32 × Int32} (hr : f_X6_envyCount aM iT = some res) : gM l yX6_envyCount (ws_ yX6_envyCount cX6_envyCount 1 (some .int)) rm_X6_envyCount x base [.ref o] (mH h o aM aS iU aB iL iE iP aR iW iT aT aC aH aE aQ iA iY iF iV aK) n (some (.int res.1)) (mH h o aM aS iU aB iL iE iP aR iW res.2 aT aC aH aE aQ iA iY iF iV aK) n 0 0 := by
  refine g_met (cc := cX6_envyCount) (nL := 1) (ret := (some .int)) (by decide) (Nat.le_of_ble_eq_true rfl) (fun p e s m below meth c ls X hnm hl hI => ?_)
  have hl : lv_has ls 1 [(0, .ref o)] := hl
  have hx := X.1
  have hb := X.2.1
  unfold f_X6_envyCount at hr
  refine lv_aload_n hx hb dX6_envyCount_0 rfl (lv_at hl 0 rfl) ?_
  refine lv_aload_n hx hb dX6_envyCount_1 rfl (lv_at hl 0 rfl) ?_
  obtain ⟨v2, hc1, hr⟩ := gB_i hr
  refine gRun_i (g_runV X hI (w_X6_envyTotal hc1) (g_obj_s mH_0) rfl hl (lw_V q1972 q1974 qs84 q122 q1975) rfl rfl hd_X6_envyTotal ⟨Nat.le_of_ble_eq_true rfl, Nat.le_of_ble_eq_true rfl⟩ (as := []) (rest := [.ref o]) rfl rfl (Nat.le_of_ble_eq_true rfl) ⟨(Nat.le_refl _), (Nat.le_refl _)⟩ dX6_envyCount_2) (fun H locs hI => ?_)
  obtain ⟨v4, iT_5, hc3, hr⟩ := gT2_i hr
  refine gRun_i (g_runV X hI (w_X6_plain hc3) (g_obj_s mH_0) rfl hl (lw_V q1884 q1886 qs78 q122 q1887) rfl rfl hd_X6_plain ⟨Nat.le_of_ble_eq_true rfl, Nat.le_of_ble_eq_true rfl⟩ (as := [.int v2]) (rest := []) rfl rfl (Nat.le_of_ble_eq_true rfl) ⟨(Nat.le_refl _), (Nat.le_refl _)⟩ dX6_envyCount_5) (fun H locs hI => ?_)
  have hr := gS_i hr
  subst hr
  exact g_iret X hI rfl (Nat.le_refl _) (Nat.le_refl _) dX6_envyCount_8
abbrev rm_X6_strongEnvyCount : Room := { frames := 4, cells := 0, slots := 0, locals := 91 }
theorem hd_X6_strongEnvyCount : yX6_strongEnvyCount.cls = RX6 ∧ yX6_strongEnvyCount.cls ≠ "java/lang/invoke/MethodHandle" ∧ yX6_strongEnvyCount.cls ≠ "java/lang/invoke/VarHandle" ∧ (parseMethodDescriptor yX6_strongEnvyCount.desc).map (fun d => d.parameters.length) = some 0 := by decide +kernel
set_option maxHeartbeats 2000000 in
theorem w_X6_strongEnvyCount_L21 {h : gH} {n : Nat} {o : Nat} {aM : (Nat → Int32)} {aS : (Nat → Int32)} {iU : Int32} {aB : (Nat → Int32)} {iL : Int32} {iE : Int32} {iP : Int32} {aR : (Nat → Int32)} {iW : Int32} {iT : Int32} {aT : (Nat → Int32)} {aC : (Nat → Int32)} {aH : (Nat → Int32)} {aE : (Nat → Int32)} {aQ : (Nat → Int32)} {iA : Int32} {iY : Int32} {iF : Int32} {iV : Int32} {aK : (Nat → Int32)} {r9 : Int32 → Int32 → Option (Int32 × Int32)} {z2 : Int32} {res : Int32 × Int32} (X : gXX x base RX6 cX6_strongEnvyCount 4 (some .int) p l s m args meth c) (Hr9 : ∀ {z1 : Int32} {z2 : Int32} {H : Heap} {locs : List Loc} {ls : Array Slot}, r9 z1 z2 = some res → gI x base s.heap (mH h o aM aS iU aB iL iE iP aR iW iT aT aC aH aE aQ iA iY iF iV aK) n H locs → lv_has ls 4 [(0, .ref o), (1, .int z1), (2, .int z2)] → W p l e rm_X6_strongEnvyCount s m args below meth c H locs 0 0 (MQ below (gQ x base (some (.int res.1)) (mH h o aM aS iU aB iL iE iP aR iW res.2 aT aC aH aE aQ iA iY iF iV aK) n) args s 0 0 (fun q => base ≤ q)) (F0 m 9 ls [])) : ∀ (k : Nat) {z1 : Int32} {z3 : Int32} {H : Heap} {locs : List Loc} {ls : Array Slot}, gL2 (f_X6_strongEnvyCount_L21 r9 z2 aM iT) k z1 z3 = some res → gI x base s.heap (mH h o aM aS iU aB iL iE iP aR iW iT aT aC aH aE aQ iA iY iF iV aK) n H locs → lv_has ls 4 [(0, .ref o), (1, .int z1), (2, .int z2), (3, .int z3)] → W p l e rm_X6_strongEnvyCount s m args below meth c H locs 0 0 (MQ below (gQ x base (some (.int res.1)) (mH h o aM aS iU aB iL iE iP aR iW res.2 aT aC aH aE aQ iA iY iF iV aK) n) args s 0 0 (fun q => base ≤ q)) (F0 m 21 ls []) := by
  have hx := X.1
  have hb := X.2.1
  intro k
  induction k with
  | zero =>
    intros
    rename_i hr _ _
    exact nomatch (show (none : Option _) = some _ from hr)
  | succ k ih =>
    intro z1 z3 H locs ls hr hI hl
    replace hr : f_X6_strongEnvyCount_L21 r9 z2 aM iT (gL2 (f_X6_strongEnvyCount_L21 r9 z2 aM iT) k) z1 z3 = some res := hr
    unfold f_X6_strongEnvyCount_L21 at hr
    refine lv_iload_n hx hb dX6_strongEnvyCount_21 rfl (lv_at hl 3 rfl) ?_
    refine lv_aload_n hx hb dX6_strongEnvyCount_22 rfl (lv_at hl 0 rfl) ?_
    refine m_get X hI mH_0 0 (by decide) q1652 rfl dX6_strongEnvyCount_23 ?_
    refine lv_iconst (v := 1) hx hb dX6_strongEnvyCount_26 (by decide) ?_
    refine m_iald X hI mH_aaM hr dX6_strongEnvyCount_27 (fun v2 hr => ?_)
    refine lv_icmp_ge (tgt := 63) hx hb dX6_strongEnvyCount_28 (by decide) (fun c9 => ?_) (fun c9 => ?_)
    · replace hr := gIf_t c9 hr
      refine lv_iinc (v := (z2 + (1 : Int32))) (lv' := [(2, .int (z2 + (1 : Int32))), (0, .ref o), (1, .int z1), (3, .int z3)]) hx hb dX6_strongEnvyCount_63 hl (k := 2) rfl (g_inc (by decide)) (by decide) rfl (fun ls hl => ?_)
      refine lv_goto (tgt := 9) hx hb dX6_strongEnvyCount_66 (by decide) ?_
      exact Hr9 hr hI (lv_sub hl [1, 2, 0] rfl)
    · replace hr := gIf_f c9 hr
      refine lv_iload_n hx hb dX6_strongEnvyCount_31 rfl (lv_at hl 1 rfl) ?_
      refine lv_aload_n hx hb dX6_strongEnvyCount_32 rfl (lv_at hl 0 rfl) ?_
      refine lv_iload_n hx hb dX6_strongEnvyCount_33 rfl (lv_at hl 2 rfl) ?_
      refine lv_iload_n hx hb dX6_strongEnvyCount_34 rfl (lv_at hl 3 rfl) ?_
      obtain ⟨v4, hc3, hr⟩ := gB_i hr
      refine gRun_i (g_runV X hI (w_X6_hasEnvy hc3) (g_obj_s mH_0) rfl hl (lw_V q1796 q1798 qs59 q122 q1799) rfl rfl hd_X6_hasEnvy ⟨Nat.le_of_ble_eq_true rfl, Nat.le_of_ble_eq_true rfl⟩ (as := [.int z2, .int z3]) (rest := [.int z1]) rfl rfl (Nat.le_of_ble_eq_true rfl) ⟨(Nat.le_refl _), (Nat.le_refl _)⟩ dX6_strongEnvyCount_35) (fun H locs hI => ?_)
      refine lv_if_eq (tgt := 54) hx hb dX6_strongEnvyCount_38 (by decide) (fun c9 => ?_) (fun c9 => ?_)
      · replace hr := gIf_t c9 hr
        refine lv_iconst (v := 0) hx hb dX6_strongEnvyCount_54 (by decide) ?_
        refine lv_iadd hx hb dX6_strongEnvyCount_55 ?_
        refine lv_istore_n (lv' := [(1, .int (z1 + (0 : Int32))), (0, .ref o), (2, .int z2), (3, .int z3)]) hx hb dX6_strongEnvyCount_56 rfl hl (by decide) rfl (fun ls hl => ?_)
        refine lv_iinc (v := (z3 + (1 : Int32))) (lv' := [(3, .int (z3 + (1 : Int32))), (1, .int (z1 + (0 : Int32))), (0, .ref o), (2, .int z2)]) hx hb dX6_strongEnvyCount_57 hl (k := 3) rfl (g_inc (by decide)) (by decide) rfl (fun ls hl => ?_)
        refine lv_goto (tgt := 21) hx hb dX6_strongEnvyCount_60 (by decide) ?_
        exact ih hr hI (lv_sub hl [2, 1, 3, 0] rfl)
      · replace hr := gIf_f c9 hr
        refine lv_aload_n hx hb dX6_strongEnvyCount_41 rfl (lv_at hl 0 rfl) ?_
        refine lv_iload_n hx hb dX6_strongEnvyCount_42 rfl (lv_at hl 2 rfl) ?_
        refine lv_iload_n hx hb dX6_strongEnvyCount_43 rfl (lv_at hl 3 rfl) ?_
        obtain ⟨v6, hc5, hr⟩ := gB_i hr
        refine gRun_i (g_runV X hI (w_X6_hasMildEnvy hc5) (g_obj_s mH_0) rfl hl (lw_V q1964 q1966 qs83 q122 q1967) rfl rfl hd_X6_hasMildEnvy ⟨Nat.le_of_ble_eq_true rfl, Nat.le_of_ble_eq_true rfl⟩ (as := [.int z2, .int z3]) (rest := [.int z1]) rfl rfl (Nat.le_of_ble_eq_true rfl) ⟨(Nat.le_refl _), (Nat.le_refl _)⟩ dX6_strongEnvyCount_44) (fun H locs hI => ?_)
        refine lv_if_ne (tgt := 54) hx hb dX6_strongEnvyCount_47 (by decide) (fun c9 => ?_) (fun c9 => ?_)
        · replace hr := gIf_f c9 hr
          refine lv_iconst (v := 0) hx hb dX6_strongEnvyCount_54 (by decide) ?_
          refine lv_iadd hx hb dX6_strongEnvyCount_55 ?_
          refine lv_istore_n (lv' := [(1, .int (z1 + (0 : Int32))), (0, .ref o), (2, .int z2), (3, .int z3)]) hx hb dX6_strongEnvyCount_56 rfl hl (by decide) rfl (fun ls hl => ?_)
          refine lv_iinc (v := (z3 + (1 : Int32))) (lv' := [(3, .int (z3 + (1 : Int32))), (1, .int (z1 + (0 : Int32))), (0, .ref o), (2, .int z2)]) hx hb dX6_strongEnvyCount_57 hl (k := 3) rfl (g_inc (by decide)) (by decide) rfl (fun ls hl => ?_)
          refine lv_goto (tgt := 21) hx hb dX6_strongEnvyCount_60 (by decide) ?_
          exact ih hr hI (lv_sub hl [2, 1, 3, 0] rfl)
        · replace hr := gIf_t c9 hr
          refine lv_iconst (v := 1) hx hb dX6_strongEnvyCount_50 (by decide) ?_
          refine lv_goto (tgt := 55) hx hb dX6_strongEnvyCount_51 (by decide) ?_
          refine lv_iadd hx hb dX6_strongEnvyCount_55 ?_
          refine lv_istore_n (lv' := [(1, .int (z1 + (1 : Int32))), (0, .ref o), (2, .int z2), (3, .int z3)]) hx hb dX6_strongEnvyCount_56 rfl hl (by decide) rfl (fun ls hl => ?_)
          refine lv_iinc (v := (z3 + (1 : Int32))) (lv' := [(3, .int (z3 + (1 : Int32))), (1, .int (z1 + (1 : Int32))), (0, .ref o), (2, .int z2)]) hx hb dX6_strongEnvyCount_57 hl (k := 3) rfl (g_inc (by decide)) (by decide) rfl (fun ls hl => ?_)
          refine lv_goto (tgt := 21) hx hb dX6_strongEnvyCount_60 (by decide) ?_
          exact ih hr hI (lv_sub hl [2, 1, 3, 0] rfl)
set_option maxHeartbeats 2000000 in
theorem w_X6_strongEnvyCount_L9 {h : gH} {n : Nat} {o : Nat} {aM : (Nat → Int32)} {aS : (Nat → Int32)} {iU : Int32} {aB : (Nat → Int32)} {iL : Int32} {iE : Int32} {iP : Int32} {aR : (Nat → Int32)} {iW : Int32} {iT : Int32} {aT : (Nat → Int32)} {aC : (Nat → Int32)} {aH : (Nat → Int32)} {aE : (Nat → Int32)} {aQ : (Nat → Int32)} {iA : Int32} {iY : Int32} {iF : Int32} {iV : Int32} {aK : (Nat → Int32)} {res : Int32 × Int32} (X : gXX x base RX6 cX6_strongEnvyCount 4 (some .int) p l s m args meth c) : ∀ (k : Nat) {z1 : Int32} {z2 : Int32} {H : Heap} {locs : List Loc} {ls : Array Slot}, gL2 (f_X6_strongEnvyCount_L9 aM iT) k z1 z2 = some res → gI x base s.heap (mH h o aM aS iU aB iL iE iP aR iW iT aT aC aH aE aQ iA iY iF iV aK) n H locs → lv_has ls 4 [(0, .ref o), (1, .int z1), (2, .int z2)] → W p l e rm_X6_strongEnvyCount s m args below meth c H locs 0 0 (MQ below (gQ x base (some (.int res.1)) (mH h o aM aS iU aB iL iE iP aR iW res.2 aT aC aH aE aQ iA iY iF iV aK) n) args s 0 0 (fun q => base ≤ q)) (F0 m 9 ls []) := by
  have hx := X.1
  have hb := X.2.1
  intro k
  induction k with
  | zero =>
    intros
    rename_i hr _ _
    exact nomatch (show (none : Option _) = some _ from hr)
  | succ k ih =>
    intro z1 z2 H locs ls hr hI hl
    replace hr : f_X6_strongEnvyCount_L9 aM iT (gL2 (f_X6_strongEnvyCount_L9 aM iT) k) z1 z2 = some res := hr
    unfold f_X6_strongEnvyCount_L9 at hr
    refine lv_iload_n hx hb dX6_strongEnvyCount_9 rfl (lv_at hl 2 rfl) ?_
    refine lv_aload_n hx hb dX6_strongEnvyCount_10 rfl (lv_at hl 0 rfl) ?_
    refine m_get X hI mH_0 0 (by decide) q1652 rfl dX6_strongEnvyCount_11 ?_
    refine lv_iconst (v := 1) hx hb dX6_strongEnvyCount_14 (by decide) ?_
    refine m_iald X hI mH_aaM hr dX6_strongEnvyCount_15 (fun v1 hr => ?_)
    refine lv_icmp_ge (tgt := 69) hx hb dX6_strongEnvyCount_16 (by decide) (fun c9 => ?_) (fun c9 => ?_)
    · replace hr := gIf_t c9 hr
      refine lv_iload_n hx hb dX6_strongEnvyCount_69 rfl (lv_at hl 1 rfl) ?_
      have hr := gS_i hr
      subst hr
      exact g_iret X hI rfl (Nat.le_refl _) (Nat.le_refl _) dX6_strongEnvyCount_70
    · replace hr := gIf_f c9 hr
      refine lv_iconst (v := 0) hx hb dX6_strongEnvyCount_19 (by decide) ?_
      refine lv_istore_n (lv' := [(3, .int (0 : Int32)), (0, .ref o), (1, .int z1), (2, .int z2)]) hx hb dX6_strongEnvyCount_20 rfl hl (by decide) rfl (fun ls hl => ?_)
      exact w_X6_strongEnvyCount_L21 X ih gN hr hI (lv_sub hl [1, 2, 3, 0] rfl)
set_option maxHeartbeats 2000000 in
theorem w_X6_strongEnvyCount {l : Launch} {x : gV} {base : Nat} {h : gH} {n : Nat} {o : Nat} {aM : (Nat → Int32)} {aS : (Nat → Int32)} {iU : Int32} {aB : (Nat → Int32)} {iL : Int32} {iE : Int32} {iP : Int32} {aR : (Nat → Int32)} {iW : Int32} {iT : Int32} {aT : (Nat → Int32)} {aC : (Nat → Int32)} {aH : (Nat → Int32)} {aE : (Nat → Int32)} {aQ : (Nat → Int32)} {iA : Int32} {iY : Int32} {iF : Int32} {iV : Int32} {aK : (Nat → Int32)} {res : Int32 × Int32} (hr : f_X6_strongEnvyCount aM iT = some res) : gM l yX6_strongEnvyCount (ws_ yX6_strongEnvyCount cX6_strongEnvyCount 4 (some .int)) rm_X6_strongEnvyCount x base [.ref o] (mH h o aM aS iU aB iL iE iP aR iW iT aT aC aH aE aQ iA iY iF iV aK) n (some (.int res.1)) (mH h o aM aS iU aB iL iE iP aR iW res.2 aT aC aH aE aQ iA iY iF iV aK) n 0 0 := by
  refine g_met (cc := cX6_strongEnvyCount) (nL := 4) (ret := (some .int)) (by decide) (Nat.le_of_ble_eq_true rfl) (fun p e s m below meth c ls X hnm hl hI => ?_)
  have hl : lv_has ls 4 [(0, .ref o)] := hl
  have hx := X.1
  have hb := X.2.1
  unfold f_X6_strongEnvyCount at hr
  refine lv_aload_n hx hb dX6_strongEnvyCount_0 rfl (lv_at hl 0 rfl) ?_
  refine lv_iconst (v := 0) hx hb dX6_strongEnvyCount_1 (by decide) ?_
  refine m_put X hI mH_0 9 (by decide) q1661 rfl (by decide +kernel) (Nat.le_of_ble_eq_true rfl) rfl mH_iT dX6_strongEnvyCount_2 (fun H locs hI => ?_)
  refine lv_iconst (v := 0) hx hb dX6_strongEnvyCount_5 (by decide) ?_
  refine lv_istore_n (lv' := [(1, .int (0 : Int32)), (0, .ref o)]) hx hb dX6_strongEnvyCount_6 rfl hl (by decide) rfl (fun ls hl => ?_)
  refine lv_iconst (v := 0) hx hb dX6_strongEnvyCount_7 (by decide) ?_
  refine lv_istore_n (lv' := [(2, .int (0 : Int32)), (1, .int (0 : Int32)), (0, .ref o)]) hx hb dX6_strongEnvyCount_8 rfl hl (by decide) rfl (fun ls hl => ?_)
  exact w_X6_strongEnvyCount_L9 X gN hr hI (lv_sub hl [2, 1, 0] rfl)
abbrev rm_X6_enviersOf : Room := { frames := 4, cells := 0, slots := 0, locals := 89 }
theorem hd_X6_enviersOf : yX6_enviersOf.cls = RX6 ∧ yX6_enviersOf.cls ≠ "java/lang/invoke/MethodHandle" ∧ yX6_enviersOf.cls ≠ "java/lang/invoke/VarHandle" ∧ (parseMethodDescriptor yX6_enviersOf.desc).map (fun d => d.parameters.length) = some 1 := by decide +kernel
set_option maxHeartbeats 2000000 in
theorem w_X6_enviersOf_L4 {h : gH} {n : Nat} {o : Nat} {aM : (Nat → Int32)} {aS : (Nat → Int32)} {iU : Int32} {aB : (Nat → Int32)} {iL : Int32} {iE : Int32} {iP : Int32} {aR : (Nat → Int32)} {iW : Int32} {iT : Int32} {aT : (Nat → Int32)} {aC : (Nat → Int32)} {aH : (Nat → Int32)} {aE : (Nat → Int32)} {aQ : (Nat → Int32)} {iA : Int32} {iY : Int32} {iF : Int32} {iV : Int32} {aK : (Nat → Int32)} {z1 : Int32} {res : Int32} (X : gXX x base RX6 cX6_enviersOf 4 (some .int) p l s m args meth c) : ∀ (k : Nat) {z2 : Int32} {z3 : Int32} {H : Heap} {locs : List Loc} {ls : Array Slot}, gL2 (f_X6_enviersOf_L4 z1 aM) k z2 z3 = some res → gI x base s.heap (mH h o aM aS iU aB iL iE iP aR iW iT aT aC aH aE aQ iA iY iF iV aK) n H locs → lv_has ls 4 [(0, .ref o), (1, .int z1), (2, .int z2), (3, .int z3)] → W p l e rm_X6_enviersOf s m args below meth c H locs 0 0 (MQ below (gQ x base (some (.int res)) (mH h o aM aS iU aB iL iE iP aR iW iT aT aC aH aE aQ iA iY iF iV aK) n) args s 0 0 (fun q => base ≤ q)) (F0 m 4 ls []) := by
  have hx := X.1
  have hb := X.2.1
  intro k
  induction k with
  | zero =>
    intros
    rename_i hr _ _
    exact nomatch (show (none : Option _) = some _ from hr)
  | succ k ih =>
    intro z2 z3 H locs ls hr hI hl
    replace hr : f_X6_enviersOf_L4 z1 aM (gL2 (f_X6_enviersOf_L4 z1 aM) k) z2 z3 = some res := hr
    unfold f_X6_enviersOf_L4 at hr
    refine lv_iload_n hx hb dX6_enviersOf_4 rfl (lv_at hl 3 rfl) ?_
    refine lv_aload_n hx hb dX6_enviersOf_5 rfl (lv_at hl 0 rfl) ?_
    refine m_get X hI mH_0 0 (by decide) q1652 rfl dX6_enviersOf_6 ?_
    refine lv_iconst (v := 1) hx hb dX6_enviersOf_9 (by decide) ?_
    refine m_iald X hI mH_aaM hr dX6_enviersOf_10 (fun v1 hr => ?_)
    refine lv_icmp_ge (tgt := 37) hx hb dX6_enviersOf_11 (by decide) (fun c9 => ?_) (fun c9 => ?_)
    · replace hr := gIf_t c9 hr
      refine lv_iload_n hx hb dX6_enviersOf_37 rfl (lv_at hl 2 rfl) ?_
      have hr := gS_i hr
      subst hr
      exact g_iret X hI rfl (Nat.le_refl _) (Nat.le_refl _) dX6_enviersOf_38
    · replace hr := gIf_f c9 hr
      refine lv_iload_n hx hb dX6_enviersOf_14 rfl (lv_at hl 2 rfl) ?_
      refine lv_aload_n hx hb dX6_enviersOf_15 rfl (lv_at hl 0 rfl) ?_
      refine lv_iload_n hx hb dX6_enviersOf_16 rfl (lv_at hl 3 rfl) ?_
      refine lv_iload_n hx hb dX6_enviersOf_17 rfl (lv_at hl 1 rfl) ?_
      obtain ⟨v3, hc2, hr⟩ := gB_i hr
      refine gRun_i (g_runV X hI (w_X6_hasEnvy hc2) (g_obj_s mH_0) rfl hl (lw_V q1796 q1798 qs59 q122 q1799) rfl rfl hd_X6_hasEnvy ⟨Nat.le_of_ble_eq_true rfl, Nat.le_of_ble_eq_true rfl⟩ (as := [.int z3, .int z1]) (rest := [.int z2]) rfl rfl (Nat.le_of_ble_eq_true rfl) ⟨(Nat.le_refl _), (Nat.le_refl _)⟩ dX6_enviersOf_18) (fun H locs hI => ?_)
      refine lv_if_eq (tgt := 28) hx hb dX6_enviersOf_21 (by decide) (fun c9 => ?_) (fun c9 => ?_)
      · replace hr := gIf_t c9 hr
        refine lv_iconst (v := 0) hx hb dX6_enviersOf_28 (by decide) ?_
        refine lv_iadd hx hb dX6_enviersOf_29 ?_
        refine lv_istore_n (lv' := [(2, .int (z2 + (0 : Int32))), (0, .ref o), (1, .int z1), (3, .int z3)]) hx hb dX6_enviersOf_30 rfl hl (by decide) rfl (fun ls hl => ?_)
        refine lv_iinc (v := (z3 + (1 : Int32))) (lv' := [(3, .int (z3 + (1 : Int32))), (2, .int (z2 + (0 : Int32))), (0, .ref o), (1, .int z1)]) hx hb dX6_enviersOf_31 hl (k := 3) rfl (g_inc (by decide)) (by decide) rfl (fun ls hl => ?_)
        refine lv_goto (tgt := 4) hx hb dX6_enviersOf_34 (by decide) ?_
        exact ih hr hI (lv_sub hl [2, 3, 1, 0] rfl)
      · replace hr := gIf_f c9 hr
        refine lv_iconst (v := 1) hx hb dX6_enviersOf_24 (by decide) ?_
        refine lv_goto (tgt := 29) hx hb dX6_enviersOf_25 (by decide) ?_
        refine lv_iadd hx hb dX6_enviersOf_29 ?_
        refine lv_istore_n (lv' := [(2, .int (z2 + (1 : Int32))), (0, .ref o), (1, .int z1), (3, .int z3)]) hx hb dX6_enviersOf_30 rfl hl (by decide) rfl (fun ls hl => ?_)
        refine lv_iinc (v := (z3 + (1 : Int32))) (lv' := [(3, .int (z3 + (1 : Int32))), (2, .int (z2 + (1 : Int32))), (0, .ref o), (1, .int z1)]) hx hb dX6_enviersOf_31 hl (k := 3) rfl (g_inc (by decide)) (by decide) rfl (fun ls hl => ?_)
        refine lv_goto (tgt := 4) hx hb dX6_enviersOf_34 (by decide) ?_
        exact ih hr hI (lv_sub hl [2, 3, 1, 0] rfl)
set_option maxHeartbeats 2000000 in
theorem w_X6_enviersOf {l : Launch} {x : gV} {base : Nat} {z1 : Int32} {h : gH} {n : Nat} {o : Nat} {aM : (Nat → Int32)} {aS : (Nat → Int32)} {iU : Int32} {aB : (Nat → Int32)} {iL : Int32} {iE : Int32} {iP : Int32} {aR : (Nat → Int32)} {iW : Int32} {iT : Int32} {aT : (Nat → Int32)} {aC : (Nat → Int32)} {aH : (Nat → Int32)} {aE : (Nat → Int32)} {aQ : (Nat → Int32)} {iA : Int32} {iY : Int32} {iF : Int32} {iV : Int32} {aK : (Nat → Int32)} {res : Int32} (hr : f_X6_enviersOf z1 aM = some res) : gM l yX6_enviersOf (ws_ yX6_enviersOf cX6_enviersOf 4 (some .int)) rm_X6_enviersOf x base [.ref o, .int z1] (mH h o aM aS iU aB iL iE iP aR iW iT aT aC aH aE aQ iA iY iF iV aK) n (some (.int res)) (mH h o aM aS iU aB iL iE iP aR iW iT aT aC aH aE aQ iA iY iF iV aK) n 0 0 := by
  refine g_met (cc := cX6_enviersOf) (nL := 4) (ret := (some .int)) (by decide) (Nat.le_of_ble_eq_true rfl) (fun p e s m below meth c ls X hnm hl hI => ?_)
  have hl : lv_has ls 4 [(0, .ref o), (1, .int z1)] := hl
  have hx := X.1
  have hb := X.2.1
  unfold f_X6_enviersOf at hr
  refine lv_iconst (v := 0) hx hb dX6_enviersOf_0 (by decide) ?_
  refine lv_istore_n (lv' := [(2, .int (0 : Int32)), (0, .ref o), (1, .int z1)]) hx hb dX6_enviersOf_1 rfl hl (by decide) rfl (fun ls hl => ?_)
  refine lv_iconst (v := 0) hx hb dX6_enviersOf_2 (by decide) ?_
  refine lv_istore_n (lv' := [(3, .int (0 : Int32)), (2, .int (0 : Int32)), (0, .ref o), (1, .int z1)]) hx hb dX6_enviersOf_3 rfl hl (by decide) rfl (fun ls hl => ?_)
  exact w_X6_enviersOf_L4 X gN hr hI (lv_sub hl [2, 3, 1, 0] rfl)
abbrev rm_X6_mostEnvied : Room := { frames := 5, cells := 0, slots := 0, locals := 112 }
theorem hd_X6_mostEnvied : yX6_mostEnvied.cls = RX6 ∧ yX6_mostEnvied.cls ≠ "java/lang/invoke/MethodHandle" ∧ yX6_mostEnvied.cls ≠ "java/lang/invoke/VarHandle" ∧ (parseMethodDescriptor yX6_mostEnvied.desc).map (fun d => d.parameters.length) = some 0 := by decide +kernel
set_option maxHeartbeats 2000000 in
theorem w_X6_mostEnvied_L9 {h : gH} {n : Nat} {o : Nat} {aM : (Nat → Int32)} {aS : (Nat → Int32)} {iU : Int32} {aB : (Nat → Int32)} {iL : Int32} {iE : Int32} {iP : Int32} {aR : (Nat → Int32)} {iW : Int32} {iT : Int32} {aT : (Nat → Int32)} {aC : (Nat → Int32)} {aH : (Nat → Int32)} {aE : (Nat → Int32)} {aQ : (Nat → Int32)} {iA : Int32} {iY : Int32} {iF : Int32} {iV : Int32} {aK : (Nat → Int32)} {res : Int32 × Int32} (X : gXX x base RX6 cX6_mostEnvied 3 (some .int) p l s m args meth c) : ∀ (k : Nat) {z1 : Int32} {z2 : Int32} {H : Heap} {locs : List Loc} {ls : Array Slot}, gL2 (f_X6_mostEnvied_L9 aM iT) k z1 z2 = some res → gI x base s.heap (mH h o aM aS iU aB iL iE iP aR iW iT aT aC aH aE aQ iA iY iF iV aK) n H locs → lv_has ls 3 [(0, .ref o), (1, .int z1), (2, .int z2)] → W p l e rm_X6_mostEnvied s m args below meth c H locs 0 0 (MQ below (gQ x base (some (.int res.1)) (mH h o aM aS iU aB iL iE iP aR iW res.2 aT aC aH aE aQ iA iY iF iV aK) n) args s 0 0 (fun q => base ≤ q)) (F0 m 9 ls []) := by
  have hx := X.1
  have hb := X.2.1
  intro k
  induction k with
  | zero =>
    intros
    rename_i hr _ _
    exact nomatch (show (none : Option _) = some _ from hr)
  | succ k ih =>
    intro z1 z2 H locs ls hr hI hl
    replace hr : f_X6_mostEnvied_L9 aM iT (gL2 (f_X6_mostEnvied_L9 aM iT) k) z1 z2 = some res := hr
    unfold f_X6_mostEnvied_L9 at hr
    refine lv_iload_n hx hb dX6_mostEnvied_9 rfl (lv_at hl 2 rfl) ?_
    refine lv_aload_n hx hb dX6_mostEnvied_10 rfl (lv_at hl 0 rfl) ?_
    refine m_get X hI mH_0 0 (by decide) q1652 rfl dX6_mostEnvied_11 ?_
    refine lv_iconst (v := 1) hx hb dX6_mostEnvied_14 (by decide) ?_
    refine m_iald X hI mH_aaM hr dX6_mostEnvied_15 (fun v1 hr => ?_)
    refine lv_icmp_ge (tgt := 40) hx hb dX6_mostEnvied_16 (by decide) (fun c9 => ?_) (fun c9 => ?_)
    · replace hr := gIf_t c9 hr
      refine lv_iload_n hx hb dX6_mostEnvied_40 rfl (lv_at hl 1 rfl) ?_
      have hr := gS_i hr
      subst hr
      exact g_iret X hI rfl (Nat.le_refl _) (Nat.le_refl _) dX6_mostEnvied_41
    · replace hr := gIf_f c9 hr
      refine lv_aload_n hx hb dX6_mostEnvied_19 rfl (lv_at hl 0 rfl) ?_
      refine lv_iload_n hx hb dX6_mostEnvied_20 rfl (lv_at hl 2 rfl) ?_
      obtain ⟨v3, hc2, hr⟩ := gB_i hr
      refine gRun_i (g_runV X hI (w_X6_enviersOf hc2) (g_obj_s mH_0) rfl hl (lw_V q1984 q1986 qs85 q122 q1987) rfl rfl hd_X6_enviersOf ⟨Nat.le_of_ble_eq_true rfl, Nat.le_of_ble_eq_true rfl⟩ (as := [.int z2]) (rest := []) rfl rfl (Nat.le_of_ble_eq_true rfl) ⟨(Nat.le_refl _), (Nat.le_refl _)⟩ dX6_mostEnvied_21) (fun H locs hI => ?_)
      refine lv_aload_n hx hb dX6_mostEnvied_24 rfl (lv_at hl 0 rfl) ?_
      refine lv_iload_n hx hb dX6_mostEnvied_25 rfl (lv_at hl 1 rfl) ?_
      obtain ⟨v5, hc4, hr⟩ := gB_i hr
      refine gRun_i (g_runV X hI (w_X6_enviersOf hc4) (g_obj_s mH_0) rfl hl (lw_V q1984 q1986 qs85 q122 q1987) rfl rfl hd_X6_enviersOf ⟨Nat.le_of_ble_eq_true rfl, Nat.le_of_ble_eq_true rfl⟩ (as := [.int z1]) (rest := [.int v3]) rfl rfl (Nat.le_of_ble_eq_true rfl) ⟨(Nat.le_refl _), (Nat.le_refl _)⟩ dX6_mostEnvied_26) (fun H locs hI => ?_)
      refine lv_icmp_le (tgt := 34) hx hb dX6_mostEnvied_29 (by decide) (fun c9 => ?_) (fun c9 => ?_)
      · replace hr := gIf_t c9 hr
        refine lv_iinc (v := (z2 + (1 : Int32))) (lv' := [(2, .int (z2 + (1 : Int32))), (0, .ref o), (1, .int z1)]) hx hb dX6_mostEnvied_34 hl (k := 2) rfl (g_inc (by decide)) (by decide) rfl (fun ls hl => ?_)
        refine lv_goto (tgt := 9) hx hb dX6_mostEnvied_37 (by decide) ?_
        exact ih hr hI (lv_sub hl [1, 2, 0] rfl)
      · replace hr := gIf_f c9 hr
        refine lv_iload_n hx hb dX6_mostEnvied_32 rfl (lv_at hl 2 rfl) ?_
        refine lv_istore_n (lv' := [(1, .int z2), (0, .ref o), (2, .int z2)]) hx hb dX6_mostEnvied_33 rfl hl (by decide) rfl (fun ls hl => ?_)
        refine lv_iinc (v := (z2 + (1 : Int32))) (lv' := [(2, .int (z2 + (1 : Int32))), (1, .int z2), (0, .ref o)]) hx hb dX6_mostEnvied_34 hl (k := 2) rfl (g_inc (by decide)) (by decide) rfl (fun ls hl => ?_)
        refine lv_goto (tgt := 9) hx hb dX6_mostEnvied_37 (by decide) ?_
        exact ih hr hI (lv_sub hl [2, 1, 0] rfl)
set_option maxHeartbeats 2000000 in
theorem w_X6_mostEnvied {l : Launch} {x : gV} {base : Nat} {h : gH} {n : Nat} {o : Nat} {aM : (Nat → Int32)} {aS : (Nat → Int32)} {iU : Int32} {aB : (Nat → Int32)} {iL : Int32} {iE : Int32} {iP : Int32} {aR : (Nat → Int32)} {iW : Int32} {iT : Int32} {aT : (Nat → Int32)} {aC : (Nat → Int32)} {aH : (Nat → Int32)} {aE : (Nat → Int32)} {aQ : (Nat → Int32)} {iA : Int32} {iY : Int32} {iF : Int32} {iV : Int32} {aK : (Nat → Int32)} {res : Int32 × Int32} (hr : f_X6_mostEnvied aM iT = some res) : gM l yX6_mostEnvied (ws_ yX6_mostEnvied cX6_mostEnvied 3 (some .int)) rm_X6_mostEnvied x base [.ref o] (mH h o aM aS iU aB iL iE iP aR iW iT aT aC aH aE aQ iA iY iF iV aK) n (some (.int res.1)) (mH h o aM aS iU aB iL iE iP aR iW res.2 aT aC aH aE aQ iA iY iF iV aK) n 0 0 := by
  refine g_met (cc := cX6_mostEnvied) (nL := 3) (ret := (some .int)) (by decide) (Nat.le_of_ble_eq_true rfl) (fun p e s m below meth c ls X hnm hl hI => ?_)
  have hl : lv_has ls 3 [(0, .ref o)] := hl
  have hx := X.1
  have hb := X.2.1
  unfold f_X6_mostEnvied at hr
  refine lv_aload_n hx hb dX6_mostEnvied_0 rfl (lv_at hl 0 rfl) ?_
  refine lv_iconst (v := 0) hx hb dX6_mostEnvied_1 (by decide) ?_
  refine m_put X hI mH_0 9 (by decide) q1661 rfl (by decide +kernel) (Nat.le_of_ble_eq_true rfl) rfl mH_iT dX6_mostEnvied_2 (fun H locs hI => ?_)
  refine lv_iconst (v := 0) hx hb dX6_mostEnvied_5 (by decide) ?_
  refine lv_istore_n (lv' := [(1, .int (0 : Int32)), (0, .ref o)]) hx hb dX6_mostEnvied_6 rfl hl (by decide) rfl (fun ls hl => ?_)
  refine lv_iconst (v := 1) hx hb dX6_mostEnvied_7 (by decide) ?_
  refine lv_istore_n (lv' := [(2, .int (1 : Int32)), (1, .int (0 : Int32)), (0, .ref o)]) hx hb dX6_mostEnvied_8 rfl hl (by decide) rfl (fun ls hl => ?_)
  exact w_X6_mostEnvied_L9 X gN hr hI (lv_sub hl [2, 1, 0] rfl)
abbrev rm_X6_isSatisfied : Room := { frames := 4, cells := 0, slots := 0, locals := 89 }
theorem hd_X6_isSatisfied : yX6_isSatisfied.cls = RX6 ∧ yX6_isSatisfied.cls ≠ "java/lang/invoke/MethodHandle" ∧ yX6_isSatisfied.cls ≠ "java/lang/invoke/VarHandle" ∧ (parseMethodDescriptor yX6_isSatisfied.desc).map (fun d => d.parameters.length) = some 1 := by decide +kernel
set_option maxHeartbeats 2000000 in
theorem w_X6_isSatisfied_J14 {h : gH} {n : Nat} {o : Nat} {aM : (Nat → Int32)} {aS : (Nat → Int32)} {iU : Int32} {aB : (Nat → Int32)} {iL : Int32} {iE : Int32} {iP : Int32} {aR : (Nat → Int32)} {iW : Int32} {iT : Int32} {aT : (Nat → Int32)} {aC : (Nat → Int32)} {aH : (Nat → Int32)} {aE : (Nat → Int32)} {aQ : (Nat → Int32)} {iA : Int32} {iY : Int32} {iF : Int32} {iV : Int32} {aK : (Nat → Int32)} {z1 : Int32} {s1 : Int32} {res : Int32 × Int32} (X : gXX x base RX6 cX6_isSatisfied 2 (some .boolean) p l s m args meth c) {H : Heap} {locs : List Loc} {ls : Array Slot} (hr : f_X6_isSatisfied_J14 z1 s1 aM iT = some res) (hI : gI x base s.heap (mH h o aM aS iU aB iL iE iP aR iW iT aT aC aH aE aQ iA iY iF iV aK) n H locs) (hl : lv_has ls 2 [(0, .ref o), (1, .int z1)]) : W p l e rm_X6_isSatisfied s m args below meth c H locs 0 0 (MQ below (gQ x base (some (.int res.1)) (mH h o aM aS iU aB iL iE iP aR iW res.2 aT aC aH aE aQ iA iY iF iV aK) n) args s 0 0 (fun q => base ≤ q)) (F0 m 14 ls [.int s1, .ref o]) := by
  have hx := X.1
  have hb := X.2.1
  unfold f_X6_isSatisfied_J14 at hr
  refine lv_iconst (v := 0) hx hb dX6_isSatisfied_14 (by decide) ?_
  refine lv_iconst (v := 0) hx hb dX6_isSatisfied_15 (by decide) ?_
  obtain ⟨v4, iT_5, hc3, hr⟩ := gT2_i hr
  refine gRun_i (g_runV X hI (w_X6_fails hc3) (g_obj_s mH_0) rfl hl (lw_V q1717 q1719 qs45 q122 q1720) rfl rfl hd_X6_fails ⟨Nat.le_of_ble_eq_true rfl, Nat.le_of_ble_eq_true rfl⟩ (as := [.int s1, .int (0 : Int32), .int (0 : Int32)]) (rest := []) rfl rfl (Nat.le_of_ble_eq_true rfl) ⟨(Nat.le_refl _), (Nat.le_refl _)⟩ dX6_isSatisfied_16) (fun H locs hI => ?_)
  refine lv_if_eq (tgt := 24) hx hb dX6_isSatisfied_19 (by decide) (fun c9 => ?_) (fun c9 => ?_)
  · replace hr := gIf_t c9 hr
    refine lv_aload_n hx hb dX6_isSatisfied_24 rfl (lv_at hl 0 rfl) ?_
    refine lv_iload_n hx hb dX6_isSatisfied_25 rfl (lv_at hl 1 rfl) ?_
    obtain ⟨v7, hc6, hr⟩ := gB_i hr
    refine gRun_i (g_runV X hI (w_X6_isContent hc6) (g_obj_s mH_0) rfl hl (lw_V q1856 q1858 qs74 q122 q1859) rfl rfl hd_X6_isContent ⟨Nat.le_of_ble_eq_true rfl, Nat.le_of_ble_eq_true rfl⟩ (as := [.int z1]) (rest := []) rfl rfl (Nat.le_of_ble_eq_true rfl) ⟨(Nat.le_refl _), (Nat.le_refl _)⟩ dX6_isSatisfied_26) (fun H locs hI => ?_)
    obtain ⟨c9, hr⟩ := gIf_o hr
    have hr := gS_i hr
    subst hr
    exact g_iret X hI (g_narZ c9) (Nat.le_refl _) (Nat.le_refl _) dX6_isSatisfied_29
  · replace hr := gIf_f c9 hr
    refine lv_iconst (v := 0) hx hb dX6_isSatisfied_22 (by decide) ?_
    have hr := gS_i hr
    subst hr
    exact g_iret X hI (g_narZ (Or.inl rfl)) (Nat.le_refl _) (Nat.le_refl _) dX6_isSatisfied_23
set_option maxHeartbeats 2000000 in
theorem w_X6_isSatisfied {l : Launch} {x : gV} {base : Nat} {z1 : Int32} {h : gH} {n : Nat} {o : Nat} {aM : (Nat → Int32)} {aS : (Nat → Int32)} {iU : Int32} {aB : (Nat → Int32)} {iL : Int32} {iE : Int32} {iP : Int32} {aR : (Nat → Int32)} {iW : Int32} {iT : Int32} {aT : (Nat → Int32)} {aC : (Nat → Int32)} {aH : (Nat → Int32)} {aE : (Nat → Int32)} {aQ : (Nat → Int32)} {iA : Int32} {iY : Int32} {iF : Int32} {iV : Int32} {aK : (Nat → Int32)} {res : Int32 × Int32} (hr : f_X6_isSatisfied z1 aM iT = some res) : gM l yX6_isSatisfied (ws_ yX6_isSatisfied cX6_isSatisfied 2 (some .boolean)) rm_X6_isSatisfied x base [.ref o, .int z1] (mH h o aM aS iU aB iL iE iP aR iW iT aT aC aH aE aQ iA iY iF iV aK) n (some (.int res.1)) (mH h o aM aS iU aB iL iE iP aR iW res.2 aT aC aH aE aQ iA iY iF iV aK) n 0 0 := by
  refine g_met (cc := cX6_isSatisfied) (nL := 2) (ret := (some .boolean)) (by decide) (Nat.le_of_ble_eq_true rfl) (fun p e s m below meth c ls X hnm hl hI => ?_)
  have hl : lv_has ls 2 [(0, .ref o), (1, .int z1)] := hl
  have hx := X.1
  have hb := X.2.1
  unfold f_X6_isSatisfied at hr
  refine lv_aload_n hx hb dX6_isSatisfied_0 rfl (lv_at hl 0 rfl) ?_
  refine lv_aload_n hx hb dX6_isSatisfied_1 rfl (lv_at hl 0 rfl) ?_
  refine lv_iload_n hx hb dX6_isSatisfied_2 rfl (lv_at hl 1 rfl) ?_
  obtain ⟨v2, hc1, hr⟩ := gB_i hr
  refine gRun_i (g_runV X hI (w_X6_isSibling hc1) (g_obj_s mH_0) rfl hl (lw_V q1896 q1898 qs79 q122 q1899) rfl rfl hd_X6_isSibling ⟨Nat.le_of_ble_eq_true rfl, Nat.le_of_ble_eq_true rfl⟩ (as := [.int z1]) (rest := [.ref o]) rfl rfl (Nat.le_of_ble_eq_true rfl) ⟨(Nat.le_refl _), (Nat.le_refl _)⟩ dX6_isSatisfied_3) (fun H locs hI => ?_)
  refine lv_if_ne (tgt := 13) hx hb dX6_isSatisfied_6 (by decide) (fun c9 => ?_) (fun c9 => ?_)
  · replace hr := gIf_f c9 hr
    refine lv_iconst (v := 0) hx hb dX6_isSatisfied_13 (by decide) ?_
    exact w_X6_isSatisfied_J14 X hr hI (lv_sub hl [0, 1] rfl)
  · replace hr := gIf_t c9 hr
    refine lv_iconst (v := 1) hx hb dX6_isSatisfied_9 (by decide) ?_
    refine lv_goto (tgt := 14) hx hb dX6_isSatisfied_10 (by decide) ?_
    exact w_X6_isSatisfied_J14 X hr hI (lv_sub hl [0, 1] rfl)
abbrev rm_X6_satisfiedCount : Room := { frames := 5, cells := 0, slots := 0, locals := 111 }
theorem hd_X6_satisfiedCount : yX6_satisfiedCount.cls = RX6 ∧ yX6_satisfiedCount.cls ≠ "java/lang/invoke/MethodHandle" ∧ yX6_satisfiedCount.cls ≠ "java/lang/invoke/VarHandle" ∧ (parseMethodDescriptor yX6_satisfiedCount.desc).map (fun d => d.parameters.length) = some 0 := by decide +kernel
set_option maxHeartbeats 2000000 in
theorem w_X6_satisfiedCount {l : Launch} {x : gV} {base : Nat} {h : gH} {n : Nat} {o : Nat} {aM : (Nat → Int32)} {aS : (Nat → Int32)} {iU : Int32} {aB : (Nat → Int32)} {iL : Int32} {iE : Int32} {iP : Int32} {aR : (Nat → Int32)} {iW : Int32} {iT : Int32} {aT : (Nat → Int32)} {aC : (Nat → Int32)} {aH : (Nat → Int32)} {aE : (Nat → Int32)} {aQ : (Nat → Int32)} {iA : Int32} {iY : Int32} {iF : Int32} {iV : Int32} {aK : (Nat → Int32)} {res : Int32 × Int32} (hr : f_X6_satisfiedCount aM iT = some res) : gM l yX6_satisfiedCount (ws_ yX6_satisfiedCount cX6_satisfiedCount 1 (some .int)) rm_X6_satisfiedCount x base [.ref o] (mH h o aM aS iU aB iL iE iP aR iW iT aT aC aH aE aQ iA iY iF iV aK) n (some (.int res.1)) (mH h o aM aS iU aB iL iE iP aR iW res.2 aT aC aH aE aQ iA iY iF iV aK) n 0 0 := by
  refine g_met (cc := cX6_satisfiedCount) (nL := 1) (ret := (some .int)) (by decide) (Nat.le_of_ble_eq_true rfl) (fun p e s m below meth c ls X hnm hl hI => ?_)
  have hl : lv_has ls 1 [(0, .ref o)] := hl
  have hx := X.1
  have hb := X.2.1
  unfold f_X6_satisfiedCount at hr
  refine lv_aload_n hx hb dX6_satisfiedCount_0 rfl (lv_at hl 0 rfl) ?_
  refine lv_aload_n hx hb dX6_satisfiedCount_1 rfl (lv_at hl 0 rfl) ?_
  obtain ⟨v2, hc1, hr⟩ := gB_i hr
  refine gRun_i (g_runV X hI (w_X6_contentCount hc1) (g_obj_s mH_0) rfl hl (lw_V q1852 q1854 qs73 q122 q1855) rfl rfl hd_X6_contentCount ⟨Nat.le_of_ble_eq_true rfl, Nat.le_of_ble_eq_true rfl⟩ (as := []) (rest := [.ref o]) rfl rfl (Nat.le_of_ble_eq_true rfl) ⟨(Nat.le_refl _), (Nat.le_refl _)⟩ dX6_satisfiedCount_2) (fun H locs hI => ?_)
  obtain ⟨v4, iT_5, hc3, hr⟩ := gT2_i hr
  refine gRun_i (g_runV X hI (w_X6_plain hc3) (g_obj_s mH_0) rfl hl (lw_V q1884 q1886 qs78 q122 q1887) rfl rfl hd_X6_plain ⟨Nat.le_of_ble_eq_true rfl, Nat.le_of_ble_eq_true rfl⟩ (as := [.int v2]) (rest := []) rfl rfl (Nat.le_of_ble_eq_true rfl) ⟨(Nat.le_refl _), (Nat.le_refl _)⟩ dX6_satisfiedCount_5) (fun H locs hI => ?_)
  have hr := gS_i hr
  subst hr
  exact g_iret X hI rfl (Nat.le_refl _) (Nat.le_refl _) dX6_satisfiedCount_8
abbrev rm_X6_envyCycleLength : Room := { frames := 6, cells := 0, slots := 0, locals := 138 }
theorem hd_X6_envyCycleLength : yX6_envyCycleLength.cls = RX6 ∧ yX6_envyCycleLength.cls ≠ "java/lang/invoke/MethodHandle" ∧ yX6_envyCycleLength.cls ≠ "java/lang/invoke/VarHandle" ∧ (parseMethodDescriptor yX6_envyCycleLength.desc).map (fun d => d.parameters.length) = some 1 := by decide +kernel
set_option maxHeartbeats 2000000 in
theorem w_X6_envyCycleLength_J14 {h : gH} {n : Nat} {o : Nat} {aM : (Nat → Int32)} {aS : (Nat → Int32)} {iU : Int32} {aB : (Nat → Int32)} {iL : Int32} {iE : Int32} {iP : Int32} {aR : (Nat → Int32)} {iW : Int32} {iT : Int32} {aT : (Nat → Int32)} {aC : (Nat → Int32)} {aH : (Nat → Int32)} {aE : (Nat → Int32)} {aQ : (Nat → Int32)} {iA : Int32} {iY : Int32} {iF : Int32} {iV : Int32} {aK : (Nat → Int32)} {z1 : Int32} {s1 : Int32} {res : Int32 × Int32 × (Nat → Int32) × (Nat → Int32)} (X : gXX x base RX6 cX6_envyCycleLength 2 (some .int) p l s m args meth c) {H : Heap} {locs : List Loc} {ls : Array Slot} (hr : f_X6_envyCycleLength_J14 z1 s1 aM iT aT aC = some res) (hI : gI x base s.heap (mH h o aM aS iU aB iL iE iP aR iW iT aT aC aH aE aQ iA iY iF iV aK) n H locs) (hl : lv_has ls 2 [(0, .ref o), (1, .int z1)]) : W p l e rm_X6_envyCycleLength s m args below meth c H locs 0 0 (MQ below (gQ x base (some (.int res.1)) (mH h o aM aS iU aB iL iE iP aR iW res.2.1 res.2.2.1 res.2.2.2 aH aE aQ iA iY iF iV aK) n) args s 0 0 (fun q => base ≤ q)) (F0 m 14 ls [.int s1, .ref o]) := by
  have hx := X.1
  have hb := X.2.1
  unfold f_X6_envyCycleLength_J14 at hr
  refine lv_iconst (v := 0) hx hb dX6_envyCycleLength_14 (by decide) ?_
  refine lv_iconst (v := 0) hx hb dX6_envyCycleLength_15 (by decide) ?_
  obtain ⟨v4, iT_5, hc3, hr⟩ := gT2_i hr
  refine gRun_i (g_runV X hI (w_X6_fails hc3) (g_obj_s mH_0) rfl hl (lw_V q1717 q1719 qs45 q122 q1720) rfl rfl hd_X6_fails ⟨Nat.le_of_ble_eq_true rfl, Nat.le_of_ble_eq_true rfl⟩ (as := [.int s1, .int (0 : Int32), .int (0 : Int32)]) (rest := []) rfl rfl (Nat.le_of_ble_eq_true rfl) ⟨(Nat.le_refl _), (Nat.le_refl _)⟩ dX6_envyCycleLength_16) (fun H locs hI => ?_)
  refine lv_if_eq (tgt := 24) hx hb dX6_envyCycleLength_19 (by decide) (fun c9 => ?_) (fun c9 => ?_)
  · replace hr := gIf_t c9 hr
    refine lv_aload_n hx hb dX6_envyCycleLength_24 rfl (lv_at hl 0 rfl) ?_
    refine lv_iload_n hx hb dX6_envyCycleLength_25 rfl (lv_at hl 1 rfl) ?_
    obtain ⟨v7, aT_8, aC_9, hc6, hr⟩ := gT3_i hr
    refine gRun_i (g_runV X hI (w_X6_findCycle hc6) (g_obj_s mH_0) rfl hl (lw_V q1788 q1790 qs57 q122 q1791) rfl rfl hd_X6_findCycle ⟨Nat.le_of_ble_eq_true rfl, Nat.le_of_ble_eq_true rfl⟩ (as := [.int z1]) (rest := []) rfl rfl (Nat.le_of_ble_eq_true rfl) ⟨(Nat.le_refl _), (Nat.le_refl _)⟩ dX6_envyCycleLength_26) (fun H locs hI => ?_)
    have hr := gS_i hr
    subst hr
    exact g_iret X hI rfl (Nat.le_refl _) (Nat.le_refl _) dX6_envyCycleLength_29
  · replace hr := gIf_f c9 hr
    refine lv_iconst (v := 0) hx hb dX6_envyCycleLength_22 (by decide) ?_
    have hr := gS_i hr
    subst hr
    exact g_iret X hI rfl (Nat.le_refl _) (Nat.le_refl _) dX6_envyCycleLength_23
set_option maxHeartbeats 2000000 in
theorem w_X6_envyCycleLength {l : Launch} {x : gV} {base : Nat} {z1 : Int32} {h : gH} {n : Nat} {o : Nat} {aM : (Nat → Int32)} {aS : (Nat → Int32)} {iU : Int32} {aB : (Nat → Int32)} {iL : Int32} {iE : Int32} {iP : Int32} {aR : (Nat → Int32)} {iW : Int32} {iT : Int32} {aT : (Nat → Int32)} {aC : (Nat → Int32)} {aH : (Nat → Int32)} {aE : (Nat → Int32)} {aQ : (Nat → Int32)} {iA : Int32} {iY : Int32} {iF : Int32} {iV : Int32} {aK : (Nat → Int32)} {res : Int32 × Int32 × (Nat → Int32) × (Nat → Int32)} (hr : f_X6_envyCycleLength z1 aM iT aT aC = some res) : gM l yX6_envyCycleLength (ws_ yX6_envyCycleLength cX6_envyCycleLength 2 (some .int)) rm_X6_envyCycleLength x base [.ref o, .int z1] (mH h o aM aS iU aB iL iE iP aR iW iT aT aC aH aE aQ iA iY iF iV aK) n (some (.int res.1)) (mH h o aM aS iU aB iL iE iP aR iW res.2.1 res.2.2.1 res.2.2.2 aH aE aQ iA iY iF iV aK) n 0 0 := by
  refine g_met (cc := cX6_envyCycleLength) (nL := 2) (ret := (some .int)) (by decide) (Nat.le_of_ble_eq_true rfl) (fun p e s m below meth c ls X hnm hl hI => ?_)
  have hl : lv_has ls 2 [(0, .ref o), (1, .int z1)] := hl
  have hx := X.1
  have hb := X.2.1
  unfold f_X6_envyCycleLength at hr
  refine lv_aload_n hx hb dX6_envyCycleLength_0 rfl (lv_at hl 0 rfl) ?_
  refine lv_aload_n hx hb dX6_envyCycleLength_1 rfl (lv_at hl 0 rfl) ?_
  refine lv_iload_n hx hb dX6_envyCycleLength_2 rfl (lv_at hl 1 rfl) ?_
  obtain ⟨v2, hc1, hr⟩ := gB_i hr
  refine gRun_i (g_runV X hI (w_X6_isSibling hc1) (g_obj_s mH_0) rfl hl (lw_V q1896 q1898 qs79 q122 q1899) rfl rfl hd_X6_isSibling ⟨Nat.le_of_ble_eq_true rfl, Nat.le_of_ble_eq_true rfl⟩ (as := [.int z1]) (rest := [.ref o]) rfl rfl (Nat.le_of_ble_eq_true rfl) ⟨(Nat.le_refl _), (Nat.le_refl _)⟩ dX6_envyCycleLength_3) (fun H locs hI => ?_)
  refine lv_if_ne (tgt := 13) hx hb dX6_envyCycleLength_6 (by decide) (fun c9 => ?_) (fun c9 => ?_)
  · replace hr := gIf_f c9 hr
    refine lv_iconst (v := 0) hx hb dX6_envyCycleLength_13 (by decide) ?_
    exact w_X6_envyCycleLength_J14 X hr hI (lv_sub hl [0, 1] rfl)
  · replace hr := gIf_t c9 hr
    refine lv_iconst (v := 1) hx hb dX6_envyCycleLength_9 (by decide) ?_
    refine lv_goto (tgt := 14) hx hb dX6_envyCycleLength_10 (by decide) ?_
    exact w_X6_envyCycleLength_J14 X hr hI (lv_sub hl [0, 1] rfl)
abbrev rm_X6_envyCycleMember : Room := { frames := 6, cells := 0, slots := 0, locals := 138 }
theorem hd_X6_envyCycleMember : yX6_envyCycleMember.cls = RX6 ∧ yX6_envyCycleMember.cls ≠ "java/lang/invoke/MethodHandle" ∧ yX6_envyCycleMember.cls ≠ "java/lang/invoke/VarHandle" ∧ (parseMethodDescriptor yX6_envyCycleMember.desc).map (fun d => d.parameters.length) = some 2 := by decide +kernel
set_option maxHeartbeats 2000000 in
theorem w_X6_envyCycleMember_J48 {h : gH} {n : Nat} {o : Nat} {aM : (Nat → Int32)} {aS : (Nat → Int32)} {iU : Int32} {aB : (Nat → Int32)} {iL : Int32} {iE : Int32} {iP : Int32} {aR : (Nat → Int32)} {iW : Int32} {iT : Int32} {aT : (Nat → Int32)} {aC : (Nat → Int32)} {aH : (Nat → Int32)} {aE : (Nat → Int32)} {aQ : (Nat → Int32)} {iA : Int32} {iY : Int32} {iF : Int32} {iV : Int32} {aK : (Nat → Int32)} {z2 : Int32} {s1 : Int32} {s2 : Int32} {res : Int32 × Int32 × (Nat → Int32) × (Nat → Int32)} (X : gXX x base RX6 cX6_envyCycleMember 4 (some .int) p l s m args meth c) {H : Heap} {locs : List Loc} {ls : Array Slot} (hr : f_X6_envyCycleMember_J48 z2 s1 s2 aM iT aT aC = some res) (hI : gI x base s.heap (mH h o aM aS iU aB iL iE iP aR iW iT aT aC aH aE aQ iA iY iF iV aK) n H locs) (hl : lv_has ls 4 [(0, .ref o), (2, .int z2)]) : W p l e rm_X6_envyCycleMember s m args below meth c H locs 0 0 (MQ below (gQ x base (some (.int res.1)) (mH h o aM aS iU aB iL iE iP aR iW res.2.1 res.2.2.1 res.2.2.2 aH aE aQ iA iY iF iV aK) n) args s 0 0 (fun q => base ≤ q)) (F0 m 48 ls [.int s2, .int s1, .ref o]) := by
  have hx := X.1
  have hb := X.2.1
  unfold f_X6_envyCycleMember_J48 at hr
  refine lv_iconst (v := 0) hx hb dX6_envyCycleMember_48 (by decide) ?_
  obtain ⟨v4, iT_5, hc3, hr⟩ := gT2_i hr
  refine gRun_i (g_runV X hI (w_X6_fails hc3) (g_obj_s mH_0) rfl hl (lw_V q1717 q1719 qs45 q122 q1720) rfl rfl hd_X6_fails ⟨Nat.le_of_ble_eq_true rfl, Nat.le_of_ble_eq_true rfl⟩ (as := [.int s1, .int s2, .int (0 : Int32)]) (rest := []) rfl rfl (Nat.le_of_ble_eq_true rfl) ⟨(Nat.le_refl _), (Nat.le_refl _)⟩ dX6_envyCycleMember_49) (fun H locs hI => ?_)
  refine lv_if_eq (tgt := 57) hx hb dX6_envyCycleMember_52 (by decide) (fun c9 => ?_) (fun c9 => ?_)
  · replace hr := gIf_t c9 hr
    refine lv_aload_n hx hb dX6_envyCycleMember_57 rfl (lv_at hl 0 rfl) ?_
    refine m_get X hI mH_0 11 (by decide) q1663 rfl dX6_envyCycleMember_58 ?_
    refine lv_iload_n hx hb dX6_envyCycleMember_61 rfl (lv_at hl 1 rfl) ?_
    refine m_iald X hI mH_aaC hr dX6_envyCycleMember_62 (fun v6 hr => ?_)
    have hr := gS_i hr
    subst hr
    exact g_iret X hI rfl (Nat.le_refl _) (Nat.le_refl _) dX6_envyCycleMember_63
  · replace hr := gIf_f c9 hr
    refine lv_iconst (v := 0) hx hb dX6_envyCycleMember_55 (by decide) ?_
    have hr := gS_i hr
    subst hr
    exact g_iret X hI rfl (Nat.le_refl _) (Nat.le_refl _) dX6_envyCycleMember_56
set_option maxHeartbeats 2000000 in
theorem w_X6_envyCycleMember_J47 {h : gH} {n : Nat} {o : Nat} {aM : (Nat → Int32)} {aS : (Nat → Int32)} {iU : Int32} {aB : (Nat → Int32)} {iL : Int32} {iE : Int32} {iP : Int32} {aR : (Nat → Int32)} {iW : Int32} {iT : Int32} {aT : (Nat → Int32)} {aC : (Nat → Int32)} {aH : (Nat → Int32)} {aE : (Nat → Int32)} {aQ : (Nat → Int32)} {iA : Int32} {iY : Int32} {iF : Int32} {iV : Int32} {aK : (Nat → Int32)} {z2 : Int32} {s1 : Int32} {res : Int32 × Int32 × (Nat → Int32) × (Nat → Int32)} (X : gXX x base RX6 cX6_envyCycleMember 4 (some .int) p l s m args meth c) {H : Heap} {locs : List Loc} {ls : Array Slot} (hr : f_X6_envyCycleMember_J47 z2 s1 aM iT aT aC = some res) (hI : gI x base s.heap (mH h o aM aS iU aB iL iE iP aR iW iT aT aC aH aE aQ iA iY iF iV aK) n H locs) (hl : lv_has ls 4 [(0, .ref o), (2, .int z2)]) : W p l e rm_X6_envyCycleMember s m args below meth c H locs 0 0 (MQ below (gQ x base (some (.int res.1)) (mH h o aM aS iU aB iL iE iP aR iW res.2.1 res.2.2.1 res.2.2.2 aH aE aQ iA iY iF iV aK) n) args s 0 0 (fun q => base ≤ q)) (F0 m 47 ls [.int s1, .ref o]) := by
  have hx := X.1
  have hb := X.2.1
  unfold f_X6_envyCycleMember_J47 at hr
  refine lv_iconst (v := 0) hx hb dX6_envyCycleMember_47 (by decide) ?_
  exact w_X6_envyCycleMember_J48 X hr hI (lv_sub hl [0, 1] rfl)
set_option maxHeartbeats 2000000 in
theorem w_X6_envyCycleMember_J32 {h : gH} {n : Nat} {o : Nat} {aM : (Nat → Int32)} {aS : (Nat → Int32)} {iU : Int32} {aB : (Nat → Int32)} {iL : Int32} {iE : Int32} {iP : Int32} {aR : (Nat → Int32)} {iW : Int32} {iT : Int32} {aT : (Nat → Int32)} {aC : (Nat → Int32)} {aH : (Nat → Int32)} {aE : (Nat → Int32)} {aQ : (Nat → Int32)} {iA : Int32} {iY : Int32} {iF : Int32} {iV : Int32} {aK : (Nat → Int32)} {z2 : Int32} {s1 : Int32} {s2 : Int32} {s3 : Int32} {s5 : Int32} {res : Int32 × Int32 × (Nat → Int32) × (Nat → Int32)} (X : gXX x base RX6 cX6_envyCycleMember 4 (some .int) p l s m args meth c) {H : Heap} {locs : List Loc} {ls : Array Slot} (hr : f_X6_envyCycleMember_J32 z2 s1 s2 s3 s5 aM iT aT aC = some res) (hI : gI x base s.heap (mH h o aM aS iU aB iL iE iP aR iW iT aT aC aH aE aQ iA iY iF iV aK) n H locs) (hl : lv_has ls 4 [(0, .ref o), (2, .int z2)]) : W p l e rm_X6_envyCycleMember s m args below meth c H locs 0 0 (MQ below (gQ x base (some (.int res.1)) (mH h o aM aS iU aB iL iE iP aR iW res.2.1 res.2.2.1 res.2.2.2 aH aE aQ iA iY iF iV aK) n) args s 0 0 (fun q => base ≤ q)) (F0 m 32 ls [.int s5, .ref o, .int s3, .int s2, .int s1, .ref o]) := by
  have hx := X.1
  have hb := X.2.1
  unfold f_X6_envyCycleMember_J32 at hr
  obtain ⟨v8, aT_9, aC_10, hc7, hr⟩ := gT3_i hr
  refine gRun_i (g_runV X hI (w_X6_findCycle hc7) (g_obj_s mH_0) rfl hl (lw_V q1788 q1790 qs57 q122 q1791) rfl rfl hd_X6_findCycle ⟨Nat.le_of_ble_eq_true rfl, Nat.le_of_ble_eq_true rfl⟩ (as := [.int s5]) (rest := [.int s3, .int s2, .int s1, .ref o]) rfl rfl (Nat.le_of_ble_eq_true rfl) ⟨(Nat.le_refl _), (Nat.le_refl _)⟩ dX6_envyCycleMember_32) (fun H locs hI => ?_)
  refine lv_iconst (v := 1) hx hb dX6_envyCycleMember_35 (by decide) ?_
  refine lv_isub hx hb dX6_envyCycleMember_36 ?_
  obtain ⟨v12, hc11, hr⟩ := gB_i hr
  refine gRun_i (g_runS X hI (w_X6_in hc11) hl (lw_S q1628 q1629 q122 q1630) rfl rfl hd_X6_in ⟨Nat.le_of_ble_eq_true rfl, Nat.le_of_ble_eq_true rfl⟩ (as := [.int s2, .int s3, .int (v8 - (1 : Int32))]) (rest := [.int s1, .ref o]) rfl rfl (Nat.le_of_ble_eq_true rfl) ⟨(Nat.le_refl _), (Nat.le_refl _)⟩ dX6_envyCycleMember_37) (fun H locs hI => ?_)
  refine lv_if_ne (tgt := 47) hx hb dX6_envyCycleMember_40 (by decide) (fun c9 => ?_) (fun c9 => ?_)
  · replace hr := gIf_f c9 hr
    exact w_X6_envyCycleMember_J47 X hr hI (lv_sub hl [0, 1] rfl)
  · replace hr := gIf_t c9 hr
    refine lv_iconst (v := 1) hx hb dX6_envyCycleMember_43 (by decide) ?_
    refine lv_goto (tgt := 48) hx hb dX6_envyCycleMember_44 (by decide) ?_
    exact w_X6_envyCycleMember_J48 X hr hI (lv_sub hl [0, 1] rfl)
set_option maxHeartbeats 2000000 in
theorem w_X6_envyCycleMember_J16 {h : gH} {n : Nat} {o : Nat} {aM : (Nat → Int32)} {aS : (Nat → Int32)} {iU : Int32} {aB : (Nat → Int32)} {iL : Int32} {iE : Int32} {iP : Int32} {aR : (Nat → Int32)} {iW : Int32} {iT : Int32} {aT : (Nat → Int32)} {aC : (Nat → Int32)} {aH : (Nat → Int32)} {aE : (Nat → Int32)} {aQ : (Nat → Int32)} {iA : Int32} {iY : Int32} {iF : Int32} {iV : Int32} {aK : (Nat → Int32)} {z1 : Int32} {z2 : Int32} {z3 : Int32} {s1 : Int32} {res : Int32 × Int32 × (Nat → Int32) × (Nat → Int32)} (X : gXX x base RX6 cX6_envyCycleMember 4 (some .int) p l s m args meth c) {H : Heap} {locs : List Loc} {ls : Array Slot} (hr : f_X6_envyCycleMember_J16 z1 z2 z3 s1 aM iT aT aC = some res) (hI : gI x base s.heap (mH h o aM aS iU aB iL iE iP aR iW iT aT aC aH aE aQ iA iY iF iV aK) n H locs) (hl : lv_has ls 4 [(0, .ref o), (1, .int z1), (2, .int z2), (3, .int z3)]) : W p l e rm_X6_envyCycleMember s m args below meth c H locs 0 0 (MQ below (gQ x base (some (.int res.1)) (mH h o aM aS iU aB iL iE iP aR iW res.2.1 res.2.2.1 res.2.2.2 aH aE aQ iA iY iF iV aK) n) args s 0 0 (fun q => base ≤ q)) (F0 m 16 ls [.int s1, .ref o]) := by
  have hx := X.1
  have hb := X.2.1
  unfold f_X6_envyCycleMember_J16 at hr
  refine lv_iload_n hx hb dX6_envyCycleMember_16 rfl (lv_at hl 3 rfl) ?_
  refine lv_if_eq (tgt := 47) hx hb dX6_envyCycleMember_17 (by decide) (fun c9 => ?_) (fun c9 => ?_)
  · replace hr := gIf_t c9 hr
    exact w_X6_envyCycleMember_J47 X hr hI (lv_sub hl [0, 2] rfl)
  · replace hr := gIf_f c9 hr
    refine lv_iload_n hx hb dX6_envyCycleMember_20 rfl (lv_at hl 2 rfl) ?_
    refine lv_iconst (v := 0) hx hb dX6_envyCycleMember_21 (by decide) ?_
    refine lv_aload_n hx hb dX6_envyCycleMember_22 rfl (lv_at hl 0 rfl) ?_
    refine lv_iload_n hx hb dX6_envyCycleMember_23 rfl (lv_at hl 3 rfl) ?_
    refine lv_if_eq (tgt := 31) hx hb dX6_envyCycleMember_24 (by decide) (fun c9 => ?_) (fun c9 => ?_)
    · replace hr := gIf_t c9 hr
      refine lv_iconst (v := 0) hx hb dX6_envyCycleMember_31 (by decide) ?_
      exact w_X6_envyCycleMember_J32 X hr hI (lv_sub hl [0, 2] rfl)
    · replace hr := gIf_f c9 hr
      refine lv_iload_n hx hb dX6_envyCycleMember_27 rfl (lv_at hl 1 rfl) ?_
      refine lv_goto (tgt := 32) hx hb dX6_envyCycleMember_28 (by decide) ?_
      exact w_X6_envyCycleMember_J32 X hr hI (lv_sub hl [0, 2] rfl)
set_option maxHeartbeats 2000000 in
theorem w_X6_envyCycleMember {l : Launch} {x : gV} {base : Nat} {z1 : Int32} {z2 : Int32} {h : gH} {n : Nat} {o : Nat} {aM : (Nat → Int32)} {aS : (Nat → Int32)} {iU : Int32} {aB : (Nat → Int32)} {iL : Int32} {iE : Int32} {iP : Int32} {aR : (Nat → Int32)} {iW : Int32} {iT : Int32} {aT : (Nat → Int32)} {aC : (Nat → Int32)} {aH : (Nat → Int32)} {aE : (Nat → Int32)} {aQ : (Nat → Int32)} {iA : Int32} {iY : Int32} {iF : Int32} {iV : Int32} {aK : (Nat → Int32)} {res : Int32 × Int32 × (Nat → Int32) × (Nat → Int32)} (hr : f_X6_envyCycleMember z1 z2 aM iT aT aC = some res) : gM l yX6_envyCycleMember (ws_ yX6_envyCycleMember cX6_envyCycleMember 4 (some .int)) rm_X6_envyCycleMember x base [.ref o, .int z1, .int z2] (mH h o aM aS iU aB iL iE iP aR iW iT aT aC aH aE aQ iA iY iF iV aK) n (some (.int res.1)) (mH h o aM aS iU aB iL iE iP aR iW res.2.1 res.2.2.1 res.2.2.2 aH aE aQ iA iY iF iV aK) n 0 0 := by
  refine g_met (cc := cX6_envyCycleMember) (nL := 4) (ret := (some .int)) (by decide) (Nat.le_of_ble_eq_true rfl) (fun p e s m below meth c ls X hnm hl hI => ?_)
  have hl : lv_has ls 4 [(0, .ref o), (1, .int z1), (2, .int z2)] := hl
  have hx := X.1
  have hb := X.2.1
  unfold f_X6_envyCycleMember at hr
  refine lv_aload_n hx hb dX6_envyCycleMember_0 rfl (lv_at hl 0 rfl) ?_
  refine lv_iload_n hx hb dX6_envyCycleMember_1 rfl (lv_at hl 1 rfl) ?_
  obtain ⟨v2, hc1, hr⟩ := gB_i hr
  refine gRun_i (g_runV X hI (w_X6_isSibling hc1) (g_obj_s mH_0) rfl hl (lw_V q1896 q1898 qs79 q122 q1899) rfl rfl hd_X6_isSibling ⟨Nat.le_of_ble_eq_true rfl, Nat.le_of_ble_eq_true rfl⟩ (as := [.int z1]) (rest := []) rfl rfl (Nat.le_of_ble_eq_true rfl) ⟨(Nat.le_refl _), (Nat.le_refl _)⟩ dX6_envyCycleMember_2) (fun H locs hI => ?_)
  refine lv_istore_n (lv' := [(3, .int v2), (0, .ref o), (1, .int z1), (2, .int z2)]) hx hb dX6_envyCycleMember_5 rfl hl (by decide) rfl (fun ls hl => ?_)
  refine lv_aload_n hx hb dX6_envyCycleMember_6 rfl (lv_at hl 1 rfl) ?_
  refine lv_iload_n hx hb dX6_envyCycleMember_7 rfl (lv_at hl 0 rfl) ?_
  refine lv_if_ne (tgt := 15) hx hb dX6_envyCycleMember_8 (by decide) (fun c9 => ?_) (fun c9 => ?_)
  · replace hr := gIf_f c9 hr
    refine lv_iconst (v := 0) hx hb dX6_envyCycleMember_15 (by decide) ?_
    exact w_X6_envyCycleMember_J16 X hr hI (lv_sub hl [1, 2, 3, 0] rfl)
  · replace hr := gIf_t c9 hr
    refine lv_iconst (v := 1) hx hb dX6_envyCycleMember_11 (by decide) ?_
    refine lv_goto (tgt := 16) hx hb dX6_envyCycleMember_12 (by decide) ?_
    exact w_X6_envyCycleMember_J16 X hr hI (lv_sub hl [1, 2, 3, 0] rfl)
abbrev rm_X6_wouldSwap : Room := { frames := 4, cells := 0, slots := 0, locals := 89 }
theorem hd_X6_wouldSwap : yX6_wouldSwap.cls = RX6 ∧ yX6_wouldSwap.cls ≠ "java/lang/invoke/MethodHandle" ∧ yX6_wouldSwap.cls ≠ "java/lang/invoke/VarHandle" ∧ (parseMethodDescriptor yX6_wouldSwap.desc).map (fun d => d.parameters.length) = some 2 := by decide +kernel
set_option maxHeartbeats 2000000 in
theorem w_X6_wouldSwap_J15 {h : gH} {n : Nat} {o : Nat} {aM : (Nat → Int32)} {aS : (Nat → Int32)} {iU : Int32} {aB : (Nat → Int32)} {iL : Int32} {iE : Int32} {iP : Int32} {aR : (Nat → Int32)} {iW : Int32} {iT : Int32} {aT : (Nat → Int32)} {aC : (Nat → Int32)} {aH : (Nat → Int32)} {aE : (Nat → Int32)} {aQ : (Nat → Int32)} {iA : Int32} {iY : Int32} {iF : Int32} {iV : Int32} {aK : (Nat → Int32)} {z1 : Int32} {z2 : Int32} {s1 : Int32} {res : Int32 × Int32} (X : gXX x base RX6 cX6_wouldSwap 3 (some .boolean) p l s m args meth c) {H : Heap} {locs : List Loc} {ls : Array Slot} (hr : f_X6_wouldSwap_J15 z1 z2 s1 aM iT = some res) (hI : gI x base s.heap (mH h o aM aS iU aB iL iE iP aR iW iT aT aC aH aE aQ iA iY iF iV aK) n H locs) (hl : lv_has ls 3 [(0, .ref o), (1, .int z1), (2, .int z2)]) : W p l e rm_X6_wouldSwap s m args below meth c H locs 0 0 (MQ below (gQ x base (some (.int res.1)) (mH h o aM aS iU aB iL iE iP aR iW res.2 aT aC aH aE aQ iA iY iF iV aK) n) args s 0 0 (fun q => base ≤ q)) (F0 m 15 ls [.int s1, .ref o]) := by
  have hx := X.1
  have hb := X.2.1
  unfold f_X6_wouldSwap_J15 at hr
  refine lv_iconst (v := 0) hx hb dX6_wouldSwap_15 (by decide) ?_
  refine lv_iconst (v := 0) hx hb dX6_wouldSwap_16 (by decide) ?_
  obtain ⟨v4, iT_5, hc3, hr⟩ := gT2_i hr
  refine gRun_i (g_runV X hI (w_X6_fails hc3) (g_obj_s mH_0) rfl hl (lw_V q1717 q1719 qs45 q122 q1720) rfl rfl hd_X6_fails ⟨Nat.le_of_ble_eq_true rfl, Nat.le_of_ble_eq_true rfl⟩ (as := [.int s1, .int (0 : Int32), .int (0 : Int32)]) (rest := []) rfl rfl (Nat.le_of_ble_eq_true rfl) ⟨(Nat.le_refl _), (Nat.le_refl _)⟩ dX6_wouldSwap_17) (fun H locs hI => ?_)
  refine lv_if_eq (tgt := 25) hx hb dX6_wouldSwap_20 (by decide) (fun c9 => ?_) (fun c9 => ?_)
  · replace hr := gIf_t c9 hr
    refine lv_aload_n hx hb dX6_wouldSwap_25 rfl (lv_at hl 0 rfl) ?_
    refine lv_iload_n hx hb dX6_wouldSwap_26 rfl (lv_at hl 1 rfl) ?_
    refine lv_iload_n hx hb dX6_wouldSwap_27 rfl (lv_at hl 2 rfl) ?_
    obtain ⟨v7, hc6, hr⟩ := gB_i hr
    refine gRun_i (g_runV X hI (w_X6_hasEnvy hc6) (g_obj_s mH_0) rfl hl (lw_V q1796 q1798 qs59 q122 q1799) rfl rfl hd_X6_hasEnvy ⟨Nat.le_of_ble_eq_true rfl, Nat.le_of_ble_eq_true rfl⟩ (as := [.int z1, .int z2]) (rest := []) rfl rfl (Nat.le_of_ble_eq_true rfl) ⟨(Nat.le_refl _), (Nat.le_refl _)⟩ dX6_wouldSwap_28) (fun H locs hI => ?_)
    refine lv_if_eq (tgt := 47) hx hb dX6_wouldSwap_31 (by decide) (fun c9 => ?_) (fun c9 => ?_)
    · replace hr := gIf_t c9 hr
      refine lv_iconst (v := 0) hx hb dX6_wouldSwap_47 (by decide) ?_
      have hr := gS_i hr
      subst hr
      exact g_iret X hI (g_narZ (Or.inl rfl)) (Nat.le_refl _) (Nat.le_refl _) dX6_wouldSwap_48
    · replace hr := gIf_f c9 hr
      refine lv_aload_n hx hb dX6_wouldSwap_34 rfl (lv_at hl 0 rfl) ?_
      refine lv_iload_n hx hb dX6_wouldSwap_35 rfl (lv_at hl 2 rfl) ?_
      refine lv_iload_n hx hb dX6_wouldSwap_36 rfl (lv_at hl 1 rfl) ?_
      obtain ⟨v9, hc8, hr⟩ := gB_i hr
      refine gRun_i (g_runV X hI (w_X6_hasEnvy hc8) (g_obj_s mH_0) rfl hl (lw_V q1796 q1798 qs59 q122 q1799) rfl rfl hd_X6_hasEnvy ⟨Nat.le_of_ble_eq_true rfl, Nat.le_of_ble_eq_true rfl⟩ (as := [.int z2, .int z1]) (rest := []) rfl rfl (Nat.le_of_ble_eq_true rfl) ⟨(Nat.le_refl _), (Nat.le_refl _)⟩ dX6_wouldSwap_37) (fun H locs hI => ?_)
      refine lv_if_eq (tgt := 47) hx hb dX6_wouldSwap_40 (by decide) (fun c9 => ?_) (fun c9 => ?_)
      · replace hr := gIf_t c9 hr
        refine lv_iconst (v := 0) hx hb dX6_wouldSwap_47 (by decide) ?_
        have hr := gS_i hr
        subst hr
        exact g_iret X hI (g_narZ (Or.inl rfl)) (Nat.le_refl _) (Nat.le_refl _) dX6_wouldSwap_48
      · replace hr := gIf_f c9 hr
        refine lv_iconst (v := 1) hx hb dX6_wouldSwap_43 (by decide) ?_
        refine lv_goto (tgt := 48) hx hb dX6_wouldSwap_44 (by decide) ?_
        have hr := gS_i hr
        subst hr
        exact g_iret X hI (g_narZ (Or.inr rfl)) (Nat.le_refl _) (Nat.le_refl _) dX6_wouldSwap_48
  · replace hr := gIf_f c9 hr
    refine lv_iconst (v := 0) hx hb dX6_wouldSwap_23 (by decide) ?_
    have hr := gS_i hr
    subst hr
    exact g_iret X hI (g_narZ (Or.inl rfl)) (Nat.le_refl _) (Nat.le_refl _) dX6_wouldSwap_24
set_option maxHeartbeats 2000000 in
theorem w_X6_wouldSwap {l : Launch} {x : gV} {base : Nat} {z1 : Int32} {z2 : Int32} {h : gH} {n : Nat} {o : Nat} {aM : (Nat → Int32)} {aS : (Nat → Int32)} {iU : Int32} {aB : (Nat → Int32)} {iL : Int32} {iE : Int32} {iP : Int32} {aR : (Nat → Int32)} {iW : Int32} {iT : Int32} {aT : (Nat → Int32)} {aC : (Nat → Int32)} {aH : (Nat → Int32)} {aE : (Nat → Int32)} {aQ : (Nat → Int32)} {iA : Int32} {iY : Int32} {iF : Int32} {iV : Int32} {aK : (Nat → Int32)} {res : Int32 × Int32} (hr : f_X6_wouldSwap z1 z2 aM iT = some res) : gM l yX6_wouldSwap (ws_ yX6_wouldSwap cX6_wouldSwap 3 (some .boolean)) rm_X6_wouldSwap x base [.ref o, .int z1, .int z2] (mH h o aM aS iU aB iL iE iP aR iW iT aT aC aH aE aQ iA iY iF iV aK) n (some (.int res.1)) (mH h o aM aS iU aB iL iE iP aR iW res.2 aT aC aH aE aQ iA iY iF iV aK) n 0 0 := by
  refine g_met (cc := cX6_wouldSwap) (nL := 3) (ret := (some .boolean)) (by decide) (Nat.le_of_ble_eq_true rfl) (fun p e s m below meth c ls X hnm hl hI => ?_)
  have hl : lv_has ls 3 [(0, .ref o), (1, .int z1), (2, .int z2)] := hl
  have hx := X.1
  have hb := X.2.1
  unfold f_X6_wouldSwap at hr
  refine lv_aload_n hx hb dX6_wouldSwap_0 rfl (lv_at hl 0 rfl) ?_
  refine lv_aload_n hx hb dX6_wouldSwap_1 rfl (lv_at hl 0 rfl) ?_
  refine lv_iload_n hx hb dX6_wouldSwap_2 rfl (lv_at hl 1 rfl) ?_
  refine lv_iload_n hx hb dX6_wouldSwap_3 rfl (lv_at hl 2 rfl) ?_
  obtain ⟨v2, hc1, hr⟩ := gB_i hr
  refine gRun_i (g_runV X hI (w_X6_areSiblings hc1) (g_obj_s mH_0) rfl hl (lw_V q1924 q1926 qs80 q122 q1927) rfl rfl hd_X6_areSiblings ⟨Nat.le_of_ble_eq_true rfl, Nat.le_of_ble_eq_true rfl⟩ (as := [.int z1, .int z2]) (rest := [.ref o]) rfl rfl (Nat.le_of_ble_eq_true rfl) ⟨(Nat.le_refl _), (Nat.le_refl _)⟩ dX6_wouldSwap_4) (fun H locs hI => ?_)
  refine lv_if_ne (tgt := 14) hx hb dX6_wouldSwap_7 (by decide) (fun c9 => ?_) (fun c9 => ?_)
  · replace hr := gIf_f c9 hr
    refine lv_iconst (v := 0) hx hb dX6_wouldSwap_14 (by decide) ?_
    exact w_X6_wouldSwap_J15 X hr hI (lv_sub hl [0, 1, 2] rfl)
  · replace hr := gIf_t c9 hr
    refine lv_iconst (v := 1) hx hb dX6_wouldSwap_10 (by decide) ?_
    refine lv_goto (tgt := 15) hx hb dX6_wouldSwap_11 (by decide) ?_
    exact w_X6_wouldSwap_J15 X hr hI (lv_sub hl [0, 1, 2] rfl)
abbrev rm_X6_totalWelfare : Room := { frames := 3, cells := 0, slots := 0, locals := 67 }
theorem hd_X6_totalWelfare : yX6_totalWelfare.cls = RX6 ∧ yX6_totalWelfare.cls ≠ "java/lang/invoke/MethodHandle" ∧ yX6_totalWelfare.cls ≠ "java/lang/invoke/VarHandle" ∧ (parseMethodDescriptor yX6_totalWelfare.desc).map (fun d => d.parameters.length) = some 0 := by decide +kernel
set_option maxHeartbeats 2000000 in
theorem w_X6_totalWelfare_L9 {h : gH} {n : Nat} {o : Nat} {aM : (Nat → Int32)} {aS : (Nat → Int32)} {iU : Int32} {aB : (Nat → Int32)} {iL : Int32} {iE : Int32} {iP : Int32} {aR : (Nat → Int32)} {iW : Int32} {iT : Int32} {aT : (Nat → Int32)} {aC : (Nat → Int32)} {aH : (Nat → Int32)} {aE : (Nat → Int32)} {aQ : (Nat → Int32)} {iA : Int32} {iY : Int32} {iF : Int32} {iV : Int32} {aK : (Nat → Int32)} {res : Int32 × Int32} (X : gXX x base RX6 cX6_totalWelfare 3 (some .int) p l s m args meth c) : ∀ (k : Nat) {z1 : Int32} {z2 : Int32} {H : Heap} {locs : List Loc} {ls : Array Slot}, gL2 (f_X6_totalWelfare_L9 aM iT) k z1 z2 = some res → gI x base s.heap (mH h o aM aS iU aB iL iE iP aR iW iT aT aC aH aE aQ iA iY iF iV aK) n H locs → lv_has ls 3 [(0, .ref o), (1, .int z1), (2, .int z2)] → W p l e rm_X6_totalWelfare s m args below meth c H locs 0 0 (MQ below (gQ x base (some (.int res.1)) (mH h o aM aS iU aB iL iE iP aR iW res.2 aT aC aH aE aQ iA iY iF iV aK) n) args s 0 0 (fun q => base ≤ q)) (F0 m 9 ls []) := by
  have hx := X.1
  have hb := X.2.1
  intro k
  induction k with
  | zero =>
    intros
    rename_i hr _ _
    exact nomatch (show (none : Option _) = some _ from hr)
  | succ k ih =>
    intro z1 z2 H locs ls hr hI hl
    replace hr : f_X6_totalWelfare_L9 aM iT (gL2 (f_X6_totalWelfare_L9 aM iT) k) z1 z2 = some res := hr
    unfold f_X6_totalWelfare_L9 at hr
    refine lv_iload_n hx hb dX6_totalWelfare_9 rfl (lv_at hl 2 rfl) ?_
    refine lv_aload_n hx hb dX6_totalWelfare_10 rfl (lv_at hl 0 rfl) ?_
    refine m_get X hI mH_0 0 (by decide) q1652 rfl dX6_totalWelfare_11 ?_
    refine lv_iconst (v := 1) hx hb dX6_totalWelfare_14 (by decide) ?_
    refine m_iald X hI mH_aaM hr dX6_totalWelfare_15 (fun v1 hr => ?_)
    refine lv_icmp_ge (tgt := 33) hx hb dX6_totalWelfare_16 (by decide) (fun c9 => ?_) (fun c9 => ?_)
    · replace hr := gIf_t c9 hr
      refine lv_iload_n hx hb dX6_totalWelfare_33 rfl (lv_at hl 1 rfl) ?_
      have hr := gS_i hr
      subst hr
      exact g_iret X hI rfl (Nat.le_refl _) (Nat.le_refl _) dX6_totalWelfare_34
    · replace hr := gIf_f c9 hr
      refine lv_iload_n hx hb dX6_totalWelfare_19 rfl (lv_at hl 1 rfl) ?_
      refine lv_aload_n hx hb dX6_totalWelfare_20 rfl (lv_at hl 0 rfl) ?_
      refine lv_iload_n hx hb dX6_totalWelfare_21 rfl (lv_at hl 2 rfl) ?_
      obtain ⟨v3, hc2, hr⟩ := gB_i hr
      refine gRun_i (g_runV X hI (w_X6_welfareOf hc2) (g_obj_s mH_0) rfl hl (lw_V q1812 q1814 qs63 q122 q1815) rfl rfl hd_X6_welfareOf ⟨Nat.le_of_ble_eq_true rfl, Nat.le_of_ble_eq_true rfl⟩ (as := [.int z2]) (rest := [.int z1]) rfl rfl (Nat.le_of_ble_eq_true rfl) ⟨(Nat.le_refl _), (Nat.le_refl _)⟩ dX6_totalWelfare_22) (fun H locs hI => ?_)
      refine lv_iadd hx hb dX6_totalWelfare_25 ?_
      refine lv_istore_n (lv' := [(1, .int (z1 + v3)), (0, .ref o), (2, .int z2)]) hx hb dX6_totalWelfare_26 rfl hl (by decide) rfl (fun ls hl => ?_)
      refine lv_iinc (v := (z2 + (1 : Int32))) (lv' := [(2, .int (z2 + (1 : Int32))), (1, .int (z1 + v3)), (0, .ref o)]) hx hb dX6_totalWelfare_27 hl (k := 2) rfl (g_inc (by decide)) (by decide) rfl (fun ls hl => ?_)
      refine lv_goto (tgt := 9) hx hb dX6_totalWelfare_30 (by decide) ?_
      exact ih hr hI (lv_sub hl [2, 1, 0] rfl)
set_option maxHeartbeats 2000000 in
theorem w_X6_totalWelfare {l : Launch} {x : gV} {base : Nat} {h : gH} {n : Nat} {o : Nat} {aM : (Nat → Int32)} {aS : (Nat → Int32)} {iU : Int32} {aB : (Nat → Int32)} {iL : Int32} {iE : Int32} {iP : Int32} {aR : (Nat → Int32)} {iW : Int32} {iT : Int32} {aT : (Nat → Int32)} {aC : (Nat → Int32)} {aH : (Nat → Int32)} {aE : (Nat → Int32)} {aQ : (Nat → Int32)} {iA : Int32} {iY : Int32} {iF : Int32} {iV : Int32} {aK : (Nat → Int32)} {res : Int32 × Int32} (hr : f_X6_totalWelfare aM iT = some res) : gM l yX6_totalWelfare (ws_ yX6_totalWelfare cX6_totalWelfare 3 (some .int)) rm_X6_totalWelfare x base [.ref o] (mH h o aM aS iU aB iL iE iP aR iW iT aT aC aH aE aQ iA iY iF iV aK) n (some (.int res.1)) (mH h o aM aS iU aB iL iE iP aR iW res.2 aT aC aH aE aQ iA iY iF iV aK) n 0 0 := by
  refine g_met (cc := cX6_totalWelfare) (nL := 3) (ret := (some .int)) (by decide) (Nat.le_of_ble_eq_true rfl) (fun p e s m below meth c ls X hnm hl hI => ?_)
  have hl : lv_has ls 3 [(0, .ref o)] := hl
  have hx := X.1
  have hb := X.2.1
  unfold f_X6_totalWelfare at hr
  refine lv_aload_n hx hb dX6_totalWelfare_0 rfl (lv_at hl 0 rfl) ?_
  refine lv_iconst (v := 0) hx hb dX6_totalWelfare_1 (by decide) ?_
  refine m_put X hI mH_0 9 (by decide) q1661 rfl (by decide +kernel) (Nat.le_of_ble_eq_true rfl) rfl mH_iT dX6_totalWelfare_2 (fun H locs hI => ?_)
  refine lv_iconst (v := 0) hx hb dX6_totalWelfare_5 (by decide) ?_
  refine lv_istore_n (lv' := [(1, .int (0 : Int32)), (0, .ref o)]) hx hb dX6_totalWelfare_6 rfl hl (by decide) rfl (fun ls hl => ?_)
  refine lv_iconst (v := 0) hx hb dX6_totalWelfare_7 (by decide) ?_
  refine lv_istore_n (lv' := [(2, .int (0 : Int32)), (1, .int (0 : Int32)), (0, .ref o)]) hx hb dX6_totalWelfare_8 rfl hl (by decide) rfl (fun ls hl => ?_)
  exact w_X6_totalWelfare_L9 X gN hr hI (lv_sub hl [2, 1, 0] rfl)
abbrev rm_X6_least : Room := { frames := 3, cells := 0, slots := 0, locals := 67 }
theorem hd_X6_least : yX6_least.cls = RX6 ∧ yX6_least.cls ≠ "java/lang/invoke/MethodHandle" ∧ yX6_least.cls ≠ "java/lang/invoke/VarHandle" ∧ (parseMethodDescriptor yX6_least.desc).map (fun d => d.parameters.length) = some 0 := by decide +kernel
set_option maxHeartbeats 2000000 in
theorem w_X6_least_L8 {h : gH} {n : Nat} {o : Nat} {aM : (Nat → Int32)} {aS : (Nat → Int32)} {iU : Int32} {aB : (Nat → Int32)} {iL : Int32} {iE : Int32} {iP : Int32} {aR : (Nat → Int32)} {iW : Int32} {iT : Int32} {aT : (Nat → Int32)} {aC : (Nat → Int32)} {aH : (Nat → Int32)} {aE : (Nat → Int32)} {aQ : (Nat → Int32)} {iA : Int32} {iY : Int32} {iF : Int32} {iV : Int32} {aK : (Nat → Int32)} {res : Int32} (X : gXX x base RX6 cX6_least 3 (some .int) p l s m args meth c) : ∀ (k : Nat) {z1 : Int32} {z2 : Int32} {H : Heap} {locs : List Loc} {ls : Array Slot}, gL2 (f_X6_least_L8 aM) k z1 z2 = some res → gI x base s.heap (mH h o aM aS iU aB iL iE iP aR iW iT aT aC aH aE aQ iA iY iF iV aK) n H locs → lv_has ls 3 [(0, .ref o), (1, .int z1), (2, .int z2)] → W p l e rm_X6_least s m args below meth c H locs 0 0 (MQ below (gQ x base (some (.int res)) (mH h o aM aS iU aB iL iE iP aR iW iT aT aC aH aE aQ iA iY iF iV aK) n) args s 0 0 (fun q => base ≤ q)) (F0 m 8 ls []) := by
  have hx := X.1
  have hb := X.2.1
  intro k
  induction k with
  | zero =>
    intros
    rename_i hr _ _
    exact nomatch (show (none : Option _) = some _ from hr)
  | succ k ih =>
    intro z1 z2 H locs ls hr hI hl
    replace hr : f_X6_least_L8 aM (gL2 (f_X6_least_L8 aM) k) z1 z2 = some res := hr
    unfold f_X6_least_L8 at hr
    refine lv_iload_n hx hb dX6_least_8 rfl (lv_at hl 2 rfl) ?_
    refine lv_aload_n hx hb dX6_least_9 rfl (lv_at hl 0 rfl) ?_
    refine m_get X hI mH_0 0 (by decide) q1652 rfl dX6_least_10 ?_
    refine lv_iconst (v := 1) hx hb dX6_least_13 (by decide) ?_
    refine m_iald X hI mH_aaM hr dX6_least_14 (fun v3 hr => ?_)
    refine lv_icmp_ge (tgt := 43) hx hb dX6_least_15 (by decide) (fun c9 => ?_) (fun c9 => ?_)
    · replace hr := gIf_t c9 hr
      refine lv_iload_n hx hb dX6_least_43 rfl (lv_at hl 1 rfl) ?_
      have hr := gS_i hr
      subst hr
      exact g_iret X hI rfl (Nat.le_refl _) (Nat.le_refl _) dX6_least_44
    · replace hr := gIf_f c9 hr
      refine lv_aload_n hx hb dX6_least_18 rfl (lv_at hl 0 rfl) ?_
      refine lv_iload_n hx hb dX6_least_19 rfl (lv_at hl 2 rfl) ?_
      obtain ⟨v5, hc4, hr⟩ := gB_i hr
      refine gRun_i (g_runV X hI (w_X6_welfareOf hc4) (g_obj_s mH_0) rfl hl (lw_V q1812 q1814 qs63 q122 q1815) rfl rfl hd_X6_welfareOf ⟨Nat.le_of_ble_eq_true rfl, Nat.le_of_ble_eq_true rfl⟩ (as := [.int z2]) (rest := []) rfl rfl (Nat.le_of_ble_eq_true rfl) ⟨(Nat.le_refl _), (Nat.le_refl _)⟩ dX6_least_20) (fun H locs hI => ?_)
      refine lv_iload_n hx hb dX6_least_23 rfl (lv_at hl 1 rfl) ?_
      refine lv_icmp_ge (tgt := 35) hx hb dX6_least_24 (by decide) (fun c9 => ?_) (fun c9 => ?_)
      · replace hr := gIf_t c9 hr
        refine lv_iload_n hx hb dX6_least_35 rfl (lv_at hl 1 rfl) ?_
        refine lv_istore_n (lv' := [(1, .int z1), (0, .ref o), (2, .int z2)]) hx hb dX6_least_36 rfl hl (by decide) rfl (fun ls hl => ?_)
        refine lv_iinc (v := (z2 + (1 : Int32))) (lv' := [(2, .int (z2 + (1 : Int32))), (1, .int z1), (0, .ref o)]) hx hb dX6_least_37 hl (k := 2) rfl (g_inc (by decide)) (by decide) rfl (fun ls hl => ?_)
        refine lv_goto (tgt := 8) hx hb dX6_least_40 (by decide) ?_
        exact ih hr hI (lv_sub hl [2, 1, 0] rfl)
      · replace hr := gIf_f c9 hr
        refine lv_aload_n hx hb dX6_least_27 rfl (lv_at hl 0 rfl) ?_
        refine lv_iload_n hx hb dX6_least_28 rfl (lv_at hl 2 rfl) ?_
        obtain ⟨v7, hc6, hr⟩ := gB_i hr
        refine gRun_i (g_runV X hI (w_X6_welfareOf hc6) (g_obj_s mH_0) rfl hl (lw_V q1812 q1814 qs63 q122 q1815) rfl rfl hd_X6_welfareOf ⟨Nat.le_of_ble_eq_true rfl, Nat.le_of_ble_eq_true rfl⟩ (as := [.int z2]) (rest := []) rfl rfl (Nat.le_of_ble_eq_true rfl) ⟨(Nat.le_refl _), (Nat.le_refl _)⟩ dX6_least_29) (fun H locs hI => ?_)
        refine lv_goto (tgt := 36) hx hb dX6_least_32 (by decide) ?_
        refine lv_istore_n (lv' := [(1, .int v7), (0, .ref o), (2, .int z2)]) hx hb dX6_least_36 rfl hl (by decide) rfl (fun ls hl => ?_)
        refine lv_iinc (v := (z2 + (1 : Int32))) (lv' := [(2, .int (z2 + (1 : Int32))), (1, .int v7), (0, .ref o)]) hx hb dX6_least_37 hl (k := 2) rfl (g_inc (by decide)) (by decide) rfl (fun ls hl => ?_)
        refine lv_goto (tgt := 8) hx hb dX6_least_40 (by decide) ?_
        exact ih hr hI (lv_sub hl [2, 1, 0] rfl)
set_option maxHeartbeats 2000000 in
theorem w_X6_least {l : Launch} {x : gV} {base : Nat} {h : gH} {n : Nat} {o : Nat} {aM : (Nat → Int32)} {aS : (Nat → Int32)} {iU : Int32} {aB : (Nat → Int32)} {iL : Int32} {iE : Int32} {iP : Int32} {aR : (Nat → Int32)} {iW : Int32} {iT : Int32} {aT : (Nat → Int32)} {aC : (Nat → Int32)} {aH : (Nat → Int32)} {aE : (Nat → Int32)} {aQ : (Nat → Int32)} {iA : Int32} {iY : Int32} {iF : Int32} {iV : Int32} {aK : (Nat → Int32)} {res : Int32} (hr : f_X6_least aM = some res) : gM l yX6_least (ws_ yX6_least cX6_least 3 (some .int)) rm_X6_least x base [.ref o] (mH h o aM aS iU aB iL iE iP aR iW iT aT aC aH aE aQ iA iY iF iV aK) n (some (.int res)) (mH h o aM aS iU aB iL iE iP aR iW iT aT aC aH aE aQ iA iY iF iV aK) n 0 0 := by
  refine g_met (cc := cX6_least) (nL := 3) (ret := (some .int)) (by decide) (Nat.le_of_ble_eq_true rfl) (fun p e s m below meth c ls X hnm hl hI => ?_)
  have hl : lv_has ls 3 [(0, .ref o)] := hl
  have hx := X.1
  have hb := X.2.1
  unfold f_X6_least at hr
  refine lv_aload_n hx hb dX6_least_0 rfl (lv_at hl 0 rfl) ?_
  refine lv_iconst (v := 0) hx hb dX6_least_1 (by decide) ?_
  obtain ⟨v2, hc1, hr⟩ := gB_i hr
  refine gRun_i (g_runV X hI (w_X6_welfareOf hc1) (g_obj_s mH_0) rfl hl (lw_V q1812 q1814 qs63 q122 q1815) rfl rfl hd_X6_welfareOf ⟨Nat.le_of_ble_eq_true rfl, Nat.le_of_ble_eq_true rfl⟩ (as := [.int (0 : Int32)]) (rest := []) rfl rfl (Nat.le_of_ble_eq_true rfl) ⟨(Nat.le_refl _), (Nat.le_refl _)⟩ dX6_least_2) (fun H locs hI => ?_)
  refine lv_istore_n (lv' := [(1, .int v2), (0, .ref o)]) hx hb dX6_least_5 rfl hl (by decide) rfl (fun ls hl => ?_)
  refine lv_iconst (v := 1) hx hb dX6_least_6 (by decide) ?_
  refine lv_istore_n (lv' := [(2, .int (1 : Int32)), (1, .int v2), (0, .ref o)]) hx hb dX6_least_7 rfl hl (by decide) rfl (fun ls hl => ?_)
  exact w_X6_least_L8 X gN hr hI (lv_sub hl [2, 1, 0] rfl)
abbrev rm_X6_leastWelfare : Room := { frames := 4, cells := 0, slots := 0, locals := 89 }
theorem hd_X6_leastWelfare : yX6_leastWelfare.cls = RX6 ∧ yX6_leastWelfare.cls ≠ "java/lang/invoke/MethodHandle" ∧ yX6_leastWelfare.cls ≠ "java/lang/invoke/VarHandle" ∧ (parseMethodDescriptor yX6_leastWelfare.desc).map (fun d => d.parameters.length) = some 0 := by decide +kernel
set_option maxHeartbeats 2000000 in
theorem w_X6_leastWelfare {l : Launch} {x : gV} {base : Nat} {h : gH} {n : Nat} {o : Nat} {aM : (Nat → Int32)} {aS : (Nat → Int32)} {iU : Int32} {aB : (Nat → Int32)} {iL : Int32} {iE : Int32} {iP : Int32} {aR : (Nat → Int32)} {iW : Int32} {iT : Int32} {aT : (Nat → Int32)} {aC : (Nat → Int32)} {aH : (Nat → Int32)} {aE : (Nat → Int32)} {aQ : (Nat → Int32)} {iA : Int32} {iY : Int32} {iF : Int32} {iV : Int32} {aK : (Nat → Int32)} {res : Int32 × Int32} (hr : f_X6_leastWelfare aM iT = some res) : gM l yX6_leastWelfare (ws_ yX6_leastWelfare cX6_leastWelfare 1 (some .int)) rm_X6_leastWelfare x base [.ref o] (mH h o aM aS iU aB iL iE iP aR iW iT aT aC aH aE aQ iA iY iF iV aK) n (some (.int res.1)) (mH h o aM aS iU aB iL iE iP aR iW res.2 aT aC aH aE aQ iA iY iF iV aK) n 0 0 := by
  refine g_met (cc := cX6_leastWelfare) (nL := 1) (ret := (some .int)) (by decide) (Nat.le_of_ble_eq_true rfl) (fun p e s m below meth c ls X hnm hl hI => ?_)
  have hl : lv_has ls 1 [(0, .ref o)] := hl
  have hx := X.1
  have hb := X.2.1
  unfold f_X6_leastWelfare at hr
  refine lv_aload_n hx hb dX6_leastWelfare_0 rfl (lv_at hl 0 rfl) ?_
  refine lv_aload_n hx hb dX6_leastWelfare_1 rfl (lv_at hl 0 rfl) ?_
  obtain ⟨v2, hc1, hr⟩ := gB_i hr
  refine gRun_i (g_runV X hI (w_X6_least hc1) (g_obj_s mH_0) rfl hl (lw_V q2016 q2018 qs86 q122 q2019) rfl rfl hd_X6_least ⟨Nat.le_of_ble_eq_true rfl, Nat.le_of_ble_eq_true rfl⟩ (as := []) (rest := [.ref o]) rfl rfl (Nat.le_of_ble_eq_true rfl) ⟨(Nat.le_refl _), (Nat.le_refl _)⟩ dX6_leastWelfare_2) (fun H locs hI => ?_)
  obtain ⟨v4, iT_5, hc3, hr⟩ := gT2_i hr
  refine gRun_i (g_runV X hI (w_X6_plain hc3) (g_obj_s mH_0) rfl hl (lw_V q1884 q1886 qs78 q122 q1887) rfl rfl hd_X6_plain ⟨Nat.le_of_ble_eq_true rfl, Nat.le_of_ble_eq_true rfl⟩ (as := [.int v2]) (rest := []) rfl rfl (Nat.le_of_ble_eq_true rfl) ⟨(Nat.le_refl _), (Nat.le_refl _)⟩ dX6_leastWelfare_5) (fun H locs hI => ?_)
  have hr := gS_i hr
  subst hr
  exact g_iret X hI rfl (Nat.le_refl _) (Nat.le_refl _) dX6_leastWelfare_8
abbrev rm_X6_welfareProduct : Room := { frames := 3, cells := 0, slots := 0, locals := 67 }
theorem hd_X6_welfareProduct : yX6_welfareProduct.cls = RX6 ∧ yX6_welfareProduct.cls ≠ "java/lang/invoke/MethodHandle" ∧ yX6_welfareProduct.cls ≠ "java/lang/invoke/VarHandle" ∧ (parseMethodDescriptor yX6_welfareProduct.desc).map (fun d => d.parameters.length) = some 0 := by decide +kernel
set_option maxHeartbeats 2000000 in
theorem w_X6_welfareProduct_L9 {h : gH} {n : Nat} {o : Nat} {aM : (Nat → Int32)} {aS : (Nat → Int32)} {iU : Int32} {aB : (Nat → Int32)} {iL : Int32} {iE : Int32} {iP : Int32} {aR : (Nat → Int32)} {iW : Int32} {iT : Int32} {aT : (Nat → Int32)} {aC : (Nat → Int32)} {aH : (Nat → Int32)} {aE : (Nat → Int32)} {aQ : (Nat → Int32)} {iA : Int32} {iY : Int32} {iF : Int32} {iV : Int32} {aK : (Nat → Int32)} {res : Int64 × Int32} (X : gXX x base RX6 cX6_welfareProduct 4 (some .long) p l s m args meth c) : ∀ (k : Nat) {z1 : Int64} {z3 : Int32} {H : Heap} {locs : List Loc} {ls : Array Slot}, gL2 (f_X6_welfareProduct_L9 aM iT) k z1 z3 = some res → gI x base s.heap (mH h o aM aS iU aB iL iE iP aR iW iT aT aC aH aE aQ iA iY iF iV aK) n H locs → lv_has ls 4 [(0, .ref o), (1, .long z1), (3, .int z3)] → W p l e rm_X6_welfareProduct s m args below meth c H locs 0 0 (MQ below (gQ x base (some (.long res.1)) (mH h o aM aS iU aB iL iE iP aR iW res.2 aT aC aH aE aQ iA iY iF iV aK) n) args s 0 0 (fun q => base ≤ q)) (F0 m 9 ls []) := by
  have hx := X.1
  have hb := X.2.1
  intro k
  induction k with
  | zero =>
    intros
    rename_i hr _ _
    exact nomatch (show (none : Option _) = some _ from hr)
  | succ k ih =>
    intro z1 z3 H locs ls hr hI hl
    replace hr : f_X6_welfareProduct_L9 aM iT (gL2 (f_X6_welfareProduct_L9 aM iT) k) z1 z3 = some res := hr
    unfold f_X6_welfareProduct_L9 at hr
    refine lv_iload_n hx hb dX6_welfareProduct_9 rfl (lv_at hl 2 rfl) ?_
    refine lv_aload_n hx hb dX6_welfareProduct_10 rfl (lv_at hl 0 rfl) ?_
    refine m_get X hI mH_0 0 (by decide) q1652 rfl dX6_welfareProduct_11 ?_
    refine lv_iconst (v := 1) hx hb dX6_welfareProduct_14 (by decide) ?_
    refine m_iald X hI mH_aaM hr dX6_welfareProduct_15 (fun v1 hr => ?_)
    refine lv_icmp_ge (tgt := 34) hx hb dX6_welfareProduct_16 (by decide) (fun c9 => ?_) (fun c9 => ?_)
    · replace hr := gIf_t c9 hr
      refine lv_lload_n hx hb dX6_welfareProduct_34 rfl (lv_at hl 1 rfl) ?_
      have hr := gS_i hr
      subst hr
      exact g_lret X hI (Nat.le_refl _) (Nat.le_refl _) dX6_welfareProduct_35
    · replace hr := gIf_f c9 hr
      refine lv_lload_n hx hb dX6_welfareProduct_19 rfl (lv_at hl 1 rfl) ?_
      refine lv_aload_n hx hb dX6_welfareProduct_20 rfl (lv_at hl 0 rfl) ?_
      refine lv_iload_n hx hb dX6_welfareProduct_21 rfl (lv_at hl 2 rfl) ?_
      obtain ⟨v3, hc2, hr⟩ := gB_i hr
      refine gRun_i (g_runV X hI (w_X6_welfareOf hc2) (g_obj_s mH_0) rfl hl (lw_V q1812 q1814 qs63 q122 q1815) rfl rfl hd_X6_welfareOf ⟨Nat.le_of_ble_eq_true rfl, Nat.le_of_ble_eq_true rfl⟩ (as := [.int z3]) (rest := [.long z1]) rfl rfl (Nat.le_of_ble_eq_true rfl) ⟨(Nat.le_refl _), (Nat.le_refl _)⟩ dX6_welfareProduct_22) (fun H locs hI => ?_)
      refine lv_i2l hx hb dX6_welfareProduct_25 rfl ?_
      refine lv_lmul hx hb dX6_welfareProduct_26 ?_
      refine lv_lstore_n (lv' := [(1, .long (z1 * v3.toInt64)), (0, .ref o), (3, .int z3)]) hx hb dX6_welfareProduct_27 rfl hl (by decide) rfl (fun ls hl => ?_)
      refine lv_iinc (v := (z3 + (1 : Int32))) (lv' := [(3, .int (z3 + (1 : Int32))), (1, .long (z1 * v3.toInt64)), (0, .ref o)]) hx hb dX6_welfareProduct_28 hl (k := 2) rfl (g_inc (by decide)) (by decide) rfl (fun ls hl => ?_)
      refine lv_goto (tgt := 9) hx hb dX6_welfareProduct_31 (by decide) ?_
      exact ih hr hI (lv_sub hl [2, 1, 0] rfl)
set_option maxHeartbeats 2000000 in
theorem w_X6_welfareProduct {l : Launch} {x : gV} {base : Nat} {h : gH} {n : Nat} {o : Nat} {aM : (Nat → Int32)} {aS : (Nat → Int32)} {iU : Int32} {aB : (Nat → Int32)} {iL : Int32} {iE : Int32} {iP : Int32} {aR : (Nat → Int32)} {iW : Int32} {iT : Int32} {aT : (Nat → Int32)} {aC : (Nat → Int32)} {aH : (Nat → Int32)} {aE : (Nat → Int32)} {aQ : (Nat → Int32)} {iA : Int32} {iY : Int32} {iF : Int32} {iV : Int32} {aK : (Nat → Int32)} {res : Int64 × Int32} (hr : f_X6_welfareProduct aM iT = some res) : gM l yX6_welfareProduct (ws_ yX6_welfareProduct cX6_welfareProduct 4 (some .long)) rm_X6_welfareProduct x base [.ref o] (mH h o aM aS iU aB iL iE iP aR iW iT aT aC aH aE aQ iA iY iF iV aK) n (some (.long res.1)) (mH h o aM aS iU aB iL iE iP aR iW res.2 aT aC aH aE aQ iA iY iF iV aK) n 0 0 := by
  refine g_met (cc := cX6_welfareProduct) (nL := 4) (ret := (some .long)) (by decide) (Nat.le_of_ble_eq_true rfl) (fun p e s m below meth c ls X hnm hl hI => ?_)
  have hl : lv_has ls 4 [(0, .ref o)] := hl
  have hx := X.1
  have hb := X.2.1
  unfold f_X6_welfareProduct at hr
  refine lv_aload_n hx hb dX6_welfareProduct_0 rfl (lv_at hl 0 rfl) ?_
  refine lv_iconst (v := 0) hx hb dX6_welfareProduct_1 (by decide) ?_
  refine m_put X hI mH_0 9 (by decide) q1661 rfl (by decide +kernel) (Nat.le_of_ble_eq_true rfl) rfl mH_iT dX6_welfareProduct_2 (fun H locs hI => ?_)
  refine lv_lconst (v := 1) hx hb dX6_welfareProduct_5 (by decide) ?_
  refine lv_lstore_n (lv' := [(1, .long (1 : Int64)), (0, .ref o)]) hx hb dX6_welfareProduct_6 rfl hl (by decide) rfl (fun ls hl => ?_)
  refine lv_iconst (v := 0) hx hb dX6_welfareProduct_7 (by decide) ?_
  refine lv_istore_n (lv' := [(3, .int (0 : Int32)), (1, .long (1 : Int64)), (0, .ref o)]) hx hb dX6_welfareProduct_8 rfl hl (by decide) rfl (fun ls hl => ?_)
  exact w_X6_welfareProduct_L9 X gN hr hI (lv_sub hl [2, 1, 0] rfl)
abbrev rm_X6_greatestTotalWelfare : Room := { frames := 1, cells := 0, slots := 0, locals := 22 }
theorem hd_X6_greatestTotalWelfare : yX6_greatestTotalWelfare.cls = RX6 ∧ yX6_greatestTotalWelfare.cls ≠ "java/lang/invoke/MethodHandle" ∧ yX6_greatestTotalWelfare.cls ≠ "java/lang/invoke/VarHandle" ∧ (parseMethodDescriptor yX6_greatestTotalWelfare.desc).map (fun d => d.parameters.length) = some 0 := by decide +kernel
set_option maxHeartbeats 2000000 in
theorem w_X6_greatestTotalWelfare_L24 {h : gH} {n : Nat} {o : Nat} {aM : (Nat → Int32)} {aS : (Nat → Int32)} {iU : Int32} {aB : (Nat → Int32)} {iL : Int32} {iE : Int32} {iP : Int32} {aR : (Nat → Int32)} {iW : Int32} {iT : Int32} {aT : (Nat → Int32)} {aC : (Nat → Int32)} {aH : (Nat → Int32)} {aE : (Nat → Int32)} {aQ : (Nat → Int32)} {iA : Int32} {iY : Int32} {iF : Int32} {iV : Int32} {aK : (Nat → Int32)} {r9 : Int32 → Int32 → Option (Int32 × Int32)} {z1 : Int32} {z2 : Int32} {res : Int32 × Int32} (X : gXX x base RX6 cX6_greatestTotalWelfare 5 (some .int) p l s m args meth c) (Hr9 : ∀ {z1 : Int32} {z2 : Int32} {H : Heap} {locs : List Loc} {ls : Array Slot}, r9 z1 z2 = some res → gI x base s.heap (mH h o aM aS iU aB iL iE iP aR iW iT aT aC aH aE aQ iA iY iF iV aK) n H locs → lv_has ls 5 [(0, .ref o), (1, .int z1), (2, .int z2)] → W p l e rm_X6_greatestTotalWelfare s m args below meth c H locs 0 0 (MQ below (gQ x base (some (.int res.1)) (mH h o aM aS iU aB iL iE iP aR iW res.2 aT aC aH aE aQ iA iY iF iV aK) n) args s 0 0 (fun q => base ≤ q)) (F0 m 9 ls [])) : ∀ (k : Nat) {z3 : Int32} {z4 : Int32} {H : Heap} {locs : List Loc} {ls : Array Slot}, gL2 (f_X6_greatestTotalWelfare_L24 r9 z1 z2 aM iT) k z3 z4 = some res → gI x base s.heap (mH h o aM aS iU aB iL iE iP aR iW iT aT aC aH aE aQ iA iY iF iV aK) n H locs → lv_has ls 5 [(0, .ref o), (1, .int z1), (2, .int z2), (3, .int z3), (4, .int z4)] → W p l e rm_X6_greatestTotalWelfare s m args below meth c H locs 0 0 (MQ below (gQ x base (some (.int res.1)) (mH h o aM aS iU aB iL iE iP aR iW res.2 aT aC aH aE aQ iA iY iF iV aK) n) args s 0 0 (fun q => base ≤ q)) (F0 m 24 ls []) := by
  have hx := X.1
  have hb := X.2.1
  intro k
  induction k with
  | zero =>
    intros
    rename_i hr _ _
    exact nomatch (show (none : Option _) = some _ from hr)
  | succ k ih =>
    intro z3 z4 H locs ls hr hI hl
    replace hr : f_X6_greatestTotalWelfare_L24 r9 z1 z2 aM iT (gL2 (f_X6_greatestTotalWelfare_L24 r9 z1 z2 aM iT) k) z3 z4 = some res := hr
    unfold f_X6_greatestTotalWelfare_L24 at hr
    refine lv_iload hx hb dX6_greatestTotalWelfare_24 (lv_at hl 4 rfl) ?_
    refine lv_aload_n hx hb dX6_greatestTotalWelfare_26 rfl (lv_at hl 0 rfl) ?_
    refine m_get X hI mH_0 0 (by decide) q1652 rfl dX6_greatestTotalWelfare_27 ?_
    refine lv_iconst (v := 1) hx hb dX6_greatestTotalWelfare_30 (by decide) ?_
    refine m_iald X hI mH_aaM hr dX6_greatestTotalWelfare_31 (fun v2 hr => ?_)
    refine lv_icmp_ge (tgt := 64) hx hb dX6_greatestTotalWelfare_32 (by decide) (fun c9 => ?_) (fun c9 => ?_)
    · replace hr := gIf_t c9 hr
      refine lv_iload_n hx hb dX6_greatestTotalWelfare_64 rfl (lv_at hl 1 rfl) ?_
      refine lv_iload_n hx hb dX6_greatestTotalWelfare_65 rfl (lv_at hl 3 rfl) ?_
      refine lv_iadd hx hb dX6_greatestTotalWelfare_66 ?_
      refine lv_istore_n (lv' := [(1, .int (z1 + z3)), (0, .ref o), (2, .int z2), (3, .int z3), (4, .int z4)]) hx hb dX6_greatestTotalWelfare_67 rfl hl (by decide) rfl (fun ls hl => ?_)
      refine lv_iinc (v := (z2 + (1 : Int32))) (lv' := [(2, .int (z2 + (1 : Int32))), (1, .int (z1 + z3)), (0, .ref o), (3, .int z3), (4, .int z4)]) hx hb dX6_greatestTotalWelfare_68 hl (k := 2) rfl (g_inc (by decide)) (by decide) rfl (fun ls hl => ?_)
      refine lv_goto (tgt := 9) hx hb dX6_greatestTotalWelfare_71 (by decide) ?_
      exact Hr9 hr hI (lv_sub hl [2, 1, 0] rfl)
    · replace hr := gIf_f c9 hr
      refine lv_aload_n hx hb dX6_greatestTotalWelfare_35 rfl (lv_at hl 0 rfl) ?_
      refine lv_iload hx hb dX6_greatestTotalWelfare_36 (lv_at hl 4 rfl) ?_
      refine lv_iload_n hx hb dX6_greatestTotalWelfare_38 rfl (lv_at hl 2 rfl) ?_
      obtain ⟨v4, hc3, hr⟩ := gB_i hr
      refine gRun_i (g_runV X hI (w_X6_valueOf hc3) (g_obj_s mH_0) rfl hl (lw_V q1808 q1810 qs62 q122 q1811) rfl rfl hd_X6_valueOf ⟨Nat.le_of_ble_eq_true rfl, Nat.le_of_ble_eq_true rfl⟩ (as := [.int z4, .int z2]) (rest := []) rfl rfl (Nat.le_of_ble_eq_true rfl) ⟨(Nat.le_refl _), (Nat.le_refl _)⟩ dX6_greatestTotalWelfare_39) (fun H locs hI => ?_)
      refine lv_iload_n hx hb dX6_greatestTotalWelfare_42 rfl (lv_at hl 3 rfl) ?_
      refine lv_icmp_le (tgt := 56) hx hb dX6_greatestTotalWelfare_43 (by decide) (fun c9 => ?_) (fun c9 => ?_)
      · replace hr := gIf_t c9 hr
        refine lv_iload_n hx hb dX6_greatestTotalWelfare_56 rfl (lv_at hl 3 rfl) ?_
        refine lv_istore_n (lv' := [(3, .int z3), (0, .ref o), (1, .int z1), (2, .int z2), (4, .int z4)]) hx hb dX6_greatestTotalWelfare_57 rfl hl (by decide) rfl (fun ls hl => ?_)
        refine lv_iinc (v := (z4 + (1 : Int32))) (lv' := [(4, .int (z4 + (1 : Int32))), (3, .int z3), (0, .ref o), (1, .int z1), (2, .int z2)]) hx hb dX6_greatestTotalWelfare_58 hl (k := 4) rfl (g_inc (by decide)) (by decide) rfl (fun ls hl => ?_)
        refine lv_goto (tgt := 24) hx hb dX6_greatestTotalWelfare_61 (by decide) ?_
        exact ih hr hI (lv_sub hl [2, 3, 4, 1, 0] rfl)
      · replace hr := gIf_f c9 hr
        refine lv_aload_n hx hb dX6_greatestTotalWelfare_46 rfl (lv_at hl 0 rfl) ?_
        refine lv_iload hx hb dX6_greatestTotalWelfare_47 (lv_at hl 4 rfl) ?_
        refine lv_iload_n hx hb dX6_greatestTotalWelfare_49 rfl (lv_at hl 2 rfl) ?_
        obtain ⟨v6, hc5, hr⟩ := gB_i hr
        refine gRun_i (g_runV X hI (w_X6_valueOf hc5) (g_obj_s mH_0) rfl hl (lw_V q1808 q1810 qs62 q122 q1811) rfl rfl hd_X6_valueOf ⟨Nat.le_of_ble_eq_true rfl, Nat.le_of_ble_eq_true rfl⟩ (as := [.int z4, .int z2]) (rest := []) rfl rfl (Nat.le_of_ble_eq_true rfl) ⟨(Nat.le_refl _), (Nat.le_refl _)⟩ dX6_greatestTotalWelfare_50) (fun H locs hI => ?_)
        refine lv_goto (tgt := 57) hx hb dX6_greatestTotalWelfare_53 (by decide) ?_
        refine lv_istore_n (lv' := [(3, .int v6), (0, .ref o), (1, .int z1), (2, .int z2), (4, .int z4)]) hx hb dX6_greatestTotalWelfare_57 rfl hl (by decide) rfl (fun ls hl => ?_)
        refine lv_iinc (v := (z4 + (1 : Int32))) (lv' := [(4, .int (z4 + (1 : Int32))), (3, .int v6), (0, .ref o), (1, .int z1), (2, .int z2)]) hx hb dX6_greatestTotalWelfare_58 hl (k := 4) rfl (g_inc (by decide)) (by decide) rfl (fun ls hl => ?_)
        refine lv_goto (tgt := 24) hx hb dX6_greatestTotalWelfare_61 (by decide) ?_
        exact ih hr hI (lv_sub hl [2, 3, 4, 1, 0] rfl)
set_option maxHeartbeats 2000000 in
theorem w_X6_greatestTotalWelfare_L9 {h : gH} {n : Nat} {o : Nat} {aM : (Nat → Int32)} {aS : (Nat → Int32)} {iU : Int32} {aB : (Nat → Int32)} {iL : Int32} {iE : Int32} {iP : Int32} {aR : (Nat → Int32)} {iW : Int32} {iT : Int32} {aT : (Nat → Int32)} {aC : (Nat → Int32)} {aH : (Nat → Int32)} {aE : (Nat → Int32)} {aQ : (Nat → Int32)} {iA : Int32} {iY : Int32} {iF : Int32} {iV : Int32} {aK : (Nat → Int32)} {res : Int32 × Int32} (X : gXX x base RX6 cX6_greatestTotalWelfare 5 (some .int) p l s m args meth c) : ∀ (k : Nat) {z1 : Int32} {z2 : Int32} {H : Heap} {locs : List Loc} {ls : Array Slot}, gL2 (f_X6_greatestTotalWelfare_L9 aM iT) k z1 z2 = some res → gI x base s.heap (mH h o aM aS iU aB iL iE iP aR iW iT aT aC aH aE aQ iA iY iF iV aK) n H locs → lv_has ls 5 [(0, .ref o), (1, .int z1), (2, .int z2)] → W p l e rm_X6_greatestTotalWelfare s m args below meth c H locs 0 0 (MQ below (gQ x base (some (.int res.1)) (mH h o aM aS iU aB iL iE iP aR iW res.2 aT aC aH aE aQ iA iY iF iV aK) n) args s 0 0 (fun q => base ≤ q)) (F0 m 9 ls []) := by
  have hx := X.1
  have hb := X.2.1
  intro k
  induction k with
  | zero =>
    intros
    rename_i hr _ _
    exact nomatch (show (none : Option _) = some _ from hr)
  | succ k ih =>
    intro z1 z2 H locs ls hr hI hl
    replace hr : f_X6_greatestTotalWelfare_L9 aM iT (gL2 (f_X6_greatestTotalWelfare_L9 aM iT) k) z1 z2 = some res := hr
    unfold f_X6_greatestTotalWelfare_L9 at hr
    refine lv_iload_n hx hb dX6_greatestTotalWelfare_9 rfl (lv_at hl 2 rfl) ?_
    refine lv_aload_n hx hb dX6_greatestTotalWelfare_10 rfl (lv_at hl 0 rfl) ?_
    refine m_get X hI mH_0 0 (by decide) q1652 rfl dX6_greatestTotalWelfare_11 ?_
    refine lv_iconst (v := 0) hx hb dX6_greatestTotalWelfare_14 (by decide) ?_
    refine m_iald X hI mH_aaM hr dX6_greatestTotalWelfare_15 (fun v1 hr => ?_)
    refine lv_icmp_ge (tgt := 74) hx hb dX6_greatestTotalWelfare_16 (by decide) (fun c9 => ?_) (fun c9 => ?_)
    · replace hr := gIf_t c9 hr
      refine lv_iload_n hx hb dX6_greatestTotalWelfare_74 rfl (lv_at hl 1 rfl) ?_
      have hr := gS_i hr
      subst hr
      exact g_iret X hI rfl (Nat.le_refl _) (Nat.le_refl _) dX6_greatestTotalWelfare_75
    · replace hr := gIf_f c9 hr
      refine lv_iconst (v := 0) hx hb dX6_greatestTotalWelfare_19 (by decide) ?_
      refine lv_istore_n (lv' := [(3, .int (0 : Int32)), (0, .ref o), (1, .int z1), (2, .int z2)]) hx hb dX6_greatestTotalWelfare_20 rfl hl (by decide) rfl (fun ls hl => ?_)
      refine lv_iconst (v := 0) hx hb dX6_greatestTotalWelfare_21 (by decide) ?_
      refine lv_istore (lv' := [(4, .int (0 : Int32)), (3, .int (0 : Int32)), (0, .ref o), (1, .int z1), (2, .int z2)]) hx hb dX6_greatestTotalWelfare_22 hl (by decide) rfl (fun ls hl => ?_)
      exact w_X6_greatestTotalWelfare_L24 X ih gN hr hI (lv_sub hl [2, 3, 4, 1, 0] rfl)
set_option maxHeartbeats 2000000 in
theorem w_X6_greatestTotalWelfare {l : Launch} {x : gV} {base : Nat} {h : gH} {n : Nat} {o : Nat} {aM : (Nat → Int32)} {aS : (Nat → Int32)} {iU : Int32} {aB : (Nat → Int32)} {iL : Int32} {iE : Int32} {iP : Int32} {aR : (Nat → Int32)} {iW : Int32} {iT : Int32} {aT : (Nat → Int32)} {aC : (Nat → Int32)} {aH : (Nat → Int32)} {aE : (Nat → Int32)} {aQ : (Nat → Int32)} {iA : Int32} {iY : Int32} {iF : Int32} {iV : Int32} {aK : (Nat → Int32)} {res : Int32 × Int32} (hr : f_X6_greatestTotalWelfare aM iT = some res) : gM l yX6_greatestTotalWelfare (ws_ yX6_greatestTotalWelfare cX6_greatestTotalWelfare 5 (some .int)) rm_X6_greatestTotalWelfare x base [.ref o] (mH h o aM aS iU aB iL iE iP aR iW iT aT aC aH aE aQ iA iY iF iV aK) n (some (.int res.1)) (mH h o aM aS iU aB iL iE iP aR iW res.2 aT aC aH aE aQ iA iY iF iV aK) n 0 0 := by
  refine g_met (cc := cX6_greatestTotalWelfare) (nL := 5) (ret := (some .int)) (by decide) (Nat.le_of_ble_eq_true rfl) (fun p e s m below meth c ls X hnm hl hI => ?_)
  have hl : lv_has ls 5 [(0, .ref o)] := hl
  have hx := X.1
  have hb := X.2.1
  unfold f_X6_greatestTotalWelfare at hr
  refine lv_aload_n hx hb dX6_greatestTotalWelfare_0 rfl (lv_at hl 0 rfl) ?_
  refine lv_iconst (v := 0) hx hb dX6_greatestTotalWelfare_1 (by decide) ?_
  refine m_put X hI mH_0 9 (by decide) q1661 rfl (by decide +kernel) (Nat.le_of_ble_eq_true rfl) rfl mH_iT dX6_greatestTotalWelfare_2 (fun H locs hI => ?_)
  refine lv_iconst (v := 0) hx hb dX6_greatestTotalWelfare_5 (by decide) ?_
  refine lv_istore_n (lv' := [(1, .int (0 : Int32)), (0, .ref o)]) hx hb dX6_greatestTotalWelfare_6 rfl hl (by decide) rfl (fun ls hl => ?_)
  refine lv_iconst (v := 0) hx hb dX6_greatestTotalWelfare_7 (by decide) ?_
  refine lv_istore_n (lv' := [(2, .int (0 : Int32)), (1, .int (0 : Int32)), (0, .ref o)]) hx hb dX6_greatestTotalWelfare_8 rfl hl (by decide) rfl (fun ls hl => ?_)
  exact w_X6_greatestTotalWelfare_L9 X gN hr hI (lv_sub hl [2, 1, 0] rfl)
abbrev rm_X6_extend : Room := { frames := 1, cells := 0, slots := 0, locals := 22 }
theorem hd_X6_extend : yX6_extend.cls = RX6 ∧ yX6_extend.cls ≠ "java/lang/invoke/MethodHandle" ∧ yX6_extend.cls ≠ "java/lang/invoke/VarHandle" ∧ (parseMethodDescriptor yX6_extend.desc).map (fun d => d.parameters.length) = some 3 := by decide +kernel
set_option maxHeartbeats 2000000 in
theorem w_X6_extend_J76 {h : gH} {n : Nat} {o : Nat} {aM : (Nat → Int32)} {aS : (Nat → Int32)} {iU : Int32} {aB : (Nat → Int32)} {iL : Int32} {iE : Int32} {iP : Int32} {aR : (Nat → Int32)} {iW : Int32} {iT : Int32} {aT : (Nat → Int32)} {aC : (Nat → Int32)} {aH : (Nat → Int32)} {aE : (Nat → Int32)} {aQ : (Nat → Int32)} {iA : Int32} {iY : Int32} {iF : Int32} {iV : Int32} {aK : (Nat → Int32)} {r3 : Int32 → (Nat → Int32) → Option (Nat → Int32)} {z1 : Int32} {z2 : Int32} {z3 : Int32} {r44 : Int32 → Int32 → (Nat → Int32) → Option (Nat → Int32)} {z4 : Int32} {z5 : Int32} {z6 : Int32} {z7 : Int32} {res : (Nat → Int32)} (X : gXX x base RX6 cX6_extend 9 none p l s m args meth c) (Hr3 : ∀ {z4 : Int32} {aE : (Nat → Int32)} {H : Heap} {locs : List Loc} {ls : Array Slot}, r3 z4 aE = some res → gI x base s.heap (mH h o aM aS iU aB iL iE iP aR iW iT aT aC aH aE aQ iA iY iF iV aK) n H locs → lv_has ls 9 [(0, .ref o), (1, .int z1), (2, .int z2), (3, .int z3), (4, .int z4)] → W p l e rm_X6_extend s m args below meth c H locs 0 0 (MQ below (gQ x base none (mH h o aM aS iU aB iL iE iP aR iW iT aT aC aH res aQ iA iY iF iV aK) n) args s 0 0 (fun q => base ≤ q)) (F0 m 3 ls [])) (Hr44 : ∀ {z6 : Int32} {z7 : Int32} {aE : (Nat → Int32)} {H : Heap} {locs : List Loc} {ls : Array Slot}, r44 z6 z7 aE = some res → gI x base s.heap (mH h o aM aS iU aB iL iE iP aR iW iT aT aC aH aE aQ iA iY iF iV aK) n H locs → lv_has ls 9 [(0, .ref o), (1, .int z1), (2, .int z2), (3, .int z3), (4, .int z4), (5, .int z5), (6, .int z6), (7, .int z7)] → W p l e rm_X6_extend s m args below meth c H locs 0 0 (MQ below (gQ x base none (mH h o aM aS iU aB iL iE iP aR iW iT aT aC aH res aQ iA iY iF iV aK) n) args s 0 0 (fun q => base ≤ q)) (F0 m 44 ls [])) {H : Heap} {locs : List Loc} {ls : Array Slot} (hr : f_X6_extend_J76 r3 r44 z1 z2 z3 z4 z5 z6 z7 aM aE = some res) (hI : gI x base s.heap (mH h o aM aS iU aB iL iE iP aR iW iT aT aC aH aE aQ iA iY iF iV aK) n H locs) (hl : lv_has ls 9 [(0, .ref o), (1, .int z1), (2, .int z2), (3, .int z3), (4, .int z4), (5, .int z5), (6, .int z6), (7, .int z7)]) : W p l e rm_X6_extend s m args below meth c H locs 0 0 (MQ below (gQ x base none (mH h o aM aS iU aB iL iE iP aR iW iT aT aC aH res aQ iA iY iF iV aK) n) args s 0 0 (fun q => base ≤ q)) (F0 m 76 ls []) := by
  have hx := X.1
  have hb := X.2.1
  unfold f_X6_extend_J76 at hr
  refine lv_iload_n hx hb dX6_extend_76 rfl (lv_at hl 1 rfl) ?_
  refine lv_bipush (v := 25) hx hb dX6_extend_77 (by decide) ?_
  refine lv_imul hx hb dX6_extend_79 ?_
  refine lv_iload hx hb dX6_extend_80 (lv_at hl 7 rfl) ?_
  refine lv_iadd hx hb dX6_extend_82 ?_
  refine lv_istore (lv' := [(8, .int ((z1 * (25 : Int32)) + z7)), (0, .ref o), (1, .int z1), (2, .int z2), (3, .int z3), (4, .int z4), (5, .int z5), (6, .int z6), (7, .int z7)]) hx hb dX6_extend_83 hl (by decide) rfl (fun ls hl => ?_)
  refine lv_iload hx hb dX6_extend_85 (lv_at hl 6 rfl) ?_
  refine lv_iload hx hb dX6_extend_87 (lv_at hl 7 rfl) ?_
  refine lv_iadd hx hb dX6_extend_89 ?_
  refine lv_aload_n hx hb dX6_extend_90 rfl (lv_at hl 1 rfl) ?_
  refine m_get X hI mH_0 13 (by decide) q1665 rfl dX6_extend_91 ?_
  refine lv_iload hx hb dX6_extend_94 (lv_at hl 0 rfl) ?_
  refine m_iald X hI mH_aaE hr dX6_extend_96 (fun v4 hr => ?_)
  refine lv_icmp_le (tgt := 112) hx hb dX6_extend_97 (by decide) (fun c9 => ?_) (fun c9 => ?_)
  · replace hr := gIf_t c9 hr
    refine lv_iinc (v := (z7 + (1 : Int32))) (lv' := [(7, .int (z7 + (1 : Int32))), (8, .int ((z1 * (25 : Int32)) + z7)), (0, .ref o), (1, .int z1), (2, .int z2), (3, .int z3), (4, .int z4), (5, .int z5), (6, .int z6)]) hx hb dX6_extend_112 hl (k := 8) rfl (g_inc (by decide)) (by decide) rfl (fun ls hl => ?_)
    refine lv_goto (tgt := 44) hx hb dX6_extend_115 (by decide) ?_
    exact Hr44 hr hI (lv_sub hl [2, 3, 4, 5, 6, 7, 8, 0] rfl)
  · replace hr := gIf_f c9 hr
    refine lv_aload_n hx hb dX6_extend_100 rfl (lv_at hl 1 rfl) ?_
    refine m_get X hI mH_0 13 (by decide) q1665 rfl dX6_extend_101 ?_
    refine lv_iload hx hb dX6_extend_104 (lv_at hl 0 rfl) ?_
    refine lv_iload hx hb dX6_extend_106 (lv_at hl 6 rfl) ?_
    refine lv_iload hx hb dX6_extend_108 (lv_at hl 7 rfl) ?_
    refine lv_iadd hx hb dX6_extend_110 ?_
    refine m_iast X hI mH_aaE mH_saE hr dX6_extend_111 (fun aE_5 H locs hI hr => ?_)
    refine lv_iinc (v := (z7 + (1 : Int32))) (lv' := [(7, .int (z7 + (1 : Int32))), (8, .int ((z1 * (25 : Int32)) + z7)), (0, .ref o), (1, .int z1), (2, .int z2), (3, .int z3), (4, .int z4), (5, .int z5), (6, .int z6)]) hx hb dX6_extend_112 hl (k := 8) rfl (g_inc (by decide)) (by decide) rfl (fun ls hl => ?_)
    refine lv_goto (tgt := 44) hx hb dX6_extend_115 (by decide) ?_
    exact Hr44 hr hI (lv_sub hl [2, 3, 4, 5, 6, 7, 8, 0] rfl)
set_option maxHeartbeats 2000000 in
theorem w_X6_extend_L44 {h : gH} {n : Nat} {o : Nat} {aM : (Nat → Int32)} {aS : (Nat → Int32)} {iU : Int32} {aB : (Nat → Int32)} {iL : Int32} {iE : Int32} {iP : Int32} {aR : (Nat → Int32)} {iW : Int32} {iT : Int32} {aT : (Nat → Int32)} {aC : (Nat → Int32)} {aH : (Nat → Int32)} {aQ : (Nat → Int32)} {iA : Int32} {iY : Int32} {iF : Int32} {iV : Int32} {aK : (Nat → Int32)} {r3 : Int32 → (Nat → Int32) → Option (Nat → Int32)} {z1 : Int32} {z2 : Int32} {z3 : Int32} {z4 : Int32} {z5 : Int32} {res : (Nat → Int32)} (X : gXX x base RX6 cX6_extend 9 none p l s m args meth c) (Hr3 : ∀ {z4 : Int32} {aE : (Nat → Int32)} {H : Heap} {locs : List Loc} {ls : Array Slot}, r3 z4 aE = some res → gI x base s.heap (mH h o aM aS iU aB iL iE iP aR iW iT aT aC aH aE aQ iA iY iF iV aK) n H locs → lv_has ls 9 [(0, .ref o), (1, .int z1), (2, .int z2), (3, .int z3), (4, .int z4)] → W p l e rm_X6_extend s m args below meth c H locs 0 0 (MQ below (gQ x base none (mH h o aM aS iU aB iL iE iP aR iW iT aT aC aH res aQ iA iY iF iV aK) n) args s 0 0 (fun q => base ≤ q)) (F0 m 3 ls [])) : ∀ (k : Nat) {z6 : Int32} {z7 : Int32} {aE : (Nat → Int32)} {H : Heap} {locs : List Loc} {ls : Array Slot}, gL3 (f_X6_extend_L44 r3 z1 z2 z3 z4 z5 aM) k z6 z7 aE = some res → gI x base s.heap (mH h o aM aS iU aB iL iE iP aR iW iT aT aC aH aE aQ iA iY iF iV aK) n H locs → lv_has ls 9 [(0, .ref o), (1, .int z1), (2, .int z2), (3, .int z3), (4, .int z4), (5, .int z5), (6, .int z6), (7, .int z7)] → W p l e rm_X6_extend s m args below meth c H locs 0 0 (MQ below (gQ x base none (mH h o aM aS iU aB iL iE iP aR iW iT aT aC aH res aQ iA iY iF iV aK) n) args s 0 0 (fun q => base ≤ q)) (F0 m 44 ls []) := by
  have hx := X.1
  have hb := X.2.1
  intro k
  induction k with
  | zero =>
    intros
    rename_i hr _ _
    exact nomatch (show (none : Option _) = some _ from hr)
  | succ k ih =>
    intro z6 z7 aE H locs ls hr hI hl
    replace hr : f_X6_extend_L44 r3 z1 z2 z3 z4 z5 aM (gL3 (f_X6_extend_L44 r3 z1 z2 z3 z4 z5 aM) k) z6 z7 aE = some res := hr
    unfold f_X6_extend_L44 at hr
    refine lv_iload hx hb dX6_extend_44 (lv_at hl 7 rfl) ?_
    refine lv_aload_n hx hb dX6_extend_46 rfl (lv_at hl 0 rfl) ?_
    refine m_get X hI mH_0 0 (by decide) q1652 rfl dX6_extend_47 ?_
    refine lv_iconst (v := 0) hx hb dX6_extend_50 (by decide) ?_
    refine m_iald X hI mH_aaM hr dX6_extend_51 (fun v3 hr => ?_)
    refine lv_icmp_gt (tgt := 118) hx hb dX6_extend_52 (by decide) (fun c9 => ?_) (fun c9 => ?_)
    · replace hr := gIf_t c9 hr
      refine lv_iinc (v := (z4 + (1 : Int32))) (lv' := [(4, .int (z4 + (1 : Int32))), (0, .ref o), (1, .int z1), (2, .int z2), (3, .int z3), (5, .int z5), (6, .int z6), (7, .int z7)]) hx hb dX6_extend_118 hl (k := 4) rfl (g_inc (by decide)) (by decide) rfl (fun ls hl => ?_)
      refine lv_goto (tgt := 3) hx hb dX6_extend_121 (by decide) ?_
      exact Hr3 hr hI (lv_sub hl [1, 2, 3, 4, 0] rfl)
    · replace hr := gIf_f c9 hr
      refine lv_iload hx hb dX6_extend_55 (lv_at hl 7 rfl) ?_
      refine lv_iload hx hb dX6_extend_57 (lv_at hl 4 rfl) ?_
      refine lv_icmp_le (tgt := 76) hx hb dX6_extend_59 (by decide) (fun c9 => ?_) (fun c9 => ?_)
      · replace hr := gIf_t c9 hr
        exact w_X6_extend_J76 X Hr3 ih hr hI (lv_sub hl [0, 1, 2, 3, 4, 5, 6, 7] rfl)
      · replace hr := gIf_f c9 hr
        refine lv_iload hx hb dX6_extend_62 (lv_at hl 6 rfl) ?_
        refine lv_aload_n hx hb dX6_extend_64 rfl (lv_at hl 0 rfl) ?_
        refine lv_iload_n hx hb dX6_extend_65 rfl (lv_at hl 3 rfl) ?_
        refine lv_iload hx hb dX6_extend_66 (lv_at hl 7 rfl) ?_
        refine lv_iconst (v := 1) hx hb dX6_extend_68 (by decide) ?_
        refine lv_isub hx hb dX6_extend_69 ?_
        obtain ⟨v7, hc6, hr⟩ := gB_i hr
        refine gRun_i (g_runV X hI (w_X6_valueOf hc6) (g_obj_s mH_0) rfl hl (lw_V q1808 q1810 qs62 q122 q1811) rfl rfl hd_X6_valueOf ⟨Nat.le_of_ble_eq_true rfl, Nat.le_of_ble_eq_true rfl⟩ (as := [.int z3, .int (z7 - (1 : Int32))]) (rest := [.int z6]) rfl rfl (Nat.le_of_ble_eq_true rfl) ⟨(Nat.le_refl _), (Nat.le_refl _)⟩ dX6_extend_70) (fun H locs hI => ?_)
        refine lv_iadd hx hb dX6_extend_73 ?_
        refine lv_istore (lv' := [(6, .int (z6 + v7)), (0, .ref o), (1, .int z1), (2, .int z2), (3, .int z3), (4, .int z4), (5, .int z5), (7, .int z7)]) hx hb dX6_extend_74 hl (by decide) rfl (fun ls hl => ?_)
        exact w_X6_extend_J76 X Hr3 ih hr hI (lv_sub hl [1, 2, 3, 4, 5, 6, 0, 7] rfl)
set_option maxHeartbeats 2000000 in
theorem w_X6_extend_L3 {h : gH} {n : Nat} {o : Nat} {aM : (Nat → Int32)} {aS : (Nat → Int32)} {iU : Int32} {aB : (Nat → Int32)} {iL : Int32} {iE : Int32} {iP : Int32} {aR : (Nat → Int32)} {iW : Int32} {iT : Int32} {aT : (Nat → Int32)} {aC : (Nat → Int32)} {aH : (Nat → Int32)} {aQ : (Nat → Int32)} {iA : Int32} {iY : Int32} {iF : Int32} {iV : Int32} {aK : (Nat → Int32)} {z1 : Int32} {z2 : Int32} {z3 : Int32} {res : (Nat → Int32)} (X : gXX x base RX6 cX6_extend 9 none p l s m args meth c) : ∀ (k : Nat) {z4 : Int32} {aE : (Nat → Int32)} {H : Heap} {locs : List Loc} {ls : Array Slot}, gL2 (f_X6_extend_L3 z1 z2 z3 aM) k z4 aE = some res → gI x base s.heap (mH h o aM aS iU aB iL iE iP aR iW iT aT aC aH aE aQ iA iY iF iV aK) n H locs → lv_has ls 9 [(0, .ref o), (1, .int z1), (2, .int z2), (3, .int z3), (4, .int z4)] → W p l e rm_X6_extend s m args below meth c H locs 0 0 (MQ below (gQ x base none (mH h o aM aS iU aB iL iE iP aR iW iT aT aC aH res aQ iA iY iF iV aK) n) args s 0 0 (fun q => base ≤ q)) (F0 m 3 ls []) := by
  have hx := X.1
  have hb := X.2.1
  intro k
  induction k with
  | zero =>
    intros
    rename_i hr _ _
    exact nomatch (show (none : Option _) = some _ from hr)
  | succ k ih =>
    intro z4 aE H locs ls hr hI hl
    replace hr : f_X6_extend_L3 z1 z2 z3 aM (gL2 (f_X6_extend_L3 z1 z2 z3 aM) k) z4 aE = some res := hr
    unfold f_X6_extend_L3 at hr
    refine lv_iload hx hb dX6_extend_3 (lv_at hl 4 rfl) ?_
    refine lv_aload_n hx hb dX6_extend_5 rfl (lv_at hl 0 rfl) ?_
    refine m_get X hI mH_0 0 (by decide) q1652 rfl dX6_extend_6 ?_
    refine lv_iconst (v := 0) hx hb dX6_extend_9 (by decide) ?_
    refine m_iald X hI mH_aaM hr dX6_extend_10 (fun v1 hr => ?_)
    refine lv_icmp_gt (tgt := 124) hx hb dX6_extend_11 (by decide) (fun c9 => ?_) (fun c9 => ?_)
    · replace hr := gIf_t c9 hr
      have hr := gS_i hr
      subst hr
      exact g_vret X hI (Nat.le_refl _) (Nat.le_refl _) dX6_extend_124
    · replace hr := gIf_f c9 hr
      refine lv_aload_n hx hb dX6_extend_14 rfl (lv_at hl 0 rfl) ?_
      refine m_get X hI mH_0 13 (by decide) q1665 rfl dX6_extend_15 ?_
      refine lv_iload_n hx hb dX6_extend_18 rfl (lv_at hl 2 rfl) ?_
      refine lv_bipush (v := 25) hx hb dX6_extend_19 (by decide) ?_
      refine lv_imul hx hb dX6_extend_21 ?_
      refine lv_iload hx hb dX6_extend_22 (lv_at hl 4 rfl) ?_
      refine lv_iadd hx hb dX6_extend_24 ?_
      refine m_iald X hI mH_aaE hr dX6_extend_25 (fun v2 hr => ?_)
      refine lv_istore (lv' := [(5, .int v2), (0, .ref o), (1, .int z1), (2, .int z2), (3, .int z3), (4, .int z4)]) hx hb dX6_extend_26 hl (by decide) rfl (fun ls hl => ?_)
      refine lv_iload hx hb dX6_extend_28 (lv_at hl 0 rfl) ?_
      refine lv_iconst (v := (-1)) hx hb dX6_extend_30 (by decide) ?_
      refine lv_icmp_ne (tgt := 37) hx hb dX6_extend_31 (by decide) (fun c9 => ?_) (fun c9 => ?_)
      · replace hr := gIf_f c9 hr
        refine lv_iconst (v := 0) hx hb dX6_extend_37 (by decide) ?_
        refine lv_istore (lv' := [(6, .int (0 : Int32)), (5, .int v2), (0, .ref o), (1, .int z1), (2, .int z2), (3, .int z3), (4, .int z4)]) hx hb dX6_extend_38 hl (by decide) rfl (fun ls hl => ?_)
        refine lv_iload hx hb dX6_extend_40 (lv_at hl 6 rfl) ?_
        refine lv_istore (lv' := [(7, .int z4), (6, .int (0 : Int32)), (5, .int v2), (0, .ref o), (1, .int z1), (2, .int z2), (3, .int z3), (4, .int z4)]) hx hb dX6_extend_42 hl (by decide) rfl (fun ls hl => ?_)
        exact w_X6_extend_L44 X ih gN hr hI (lv_sub hl [3, 4, 5, 6, 7, 2, 1, 0] rfl)
      · replace hr := gIf_t c9 hr
        refine lv_goto (tgt := 118) hx hb dX6_extend_34 (by decide) ?_
        refine lv_iinc (v := (z4 + (1 : Int32))) (lv' := [(4, .int (z4 + (1 : Int32))), (5, .int v2), (0, .ref o), (1, .int z1), (2, .int z2), (3, .int z3)]) hx hb dX6_extend_118 hl (k := 5) rfl (g_inc (by decide)) (by decide) rfl (fun ls hl => ?_)
        refine lv_goto (tgt := 3) hx hb dX6_extend_121 (by decide) ?_
        exact ih hr hI (lv_sub hl [2, 3, 4, 5, 0] rfl)
set_option maxHeartbeats 2000000 in
theorem w_X6_extend {l : Launch} {x : gV} {base : Nat} {z1 : Int32} {z2 : Int32} {z3 : Int32} {h : gH} {n : Nat} {o : Nat} {aM : (Nat → Int32)} {aS : (Nat → Int32)} {iU : Int32} {aB : (Nat → Int32)} {iL : Int32} {iE : Int32} {iP : Int32} {aR : (Nat → Int32)} {iW : Int32} {iT : Int32} {aT : (Nat → Int32)} {aC : (Nat → Int32)} {aH : (Nat → Int32)} {aE : (Nat → Int32)} {aQ : (Nat → Int32)} {iA : Int32} {iY : Int32} {iF : Int32} {iV : Int32} {aK : (Nat → Int32)} {res : (Nat → Int32)} (hr : f_X6_extend z1 z2 z3 aM aE = some res) : gM l yX6_extend (ws_ yX6_extend cX6_extend 9 none) rm_X6_extend x base [.ref o, .int z1, .int z2, .int z3] (mH h o aM aS iU aB iL iE iP aR iW iT aT aC aH aE aQ iA iY iF iV aK) n none (mH h o aM aS iU aB iL iE iP aR iW iT aT aC aH res aQ iA iY iF iV aK) n 0 0 := by
  refine g_met (cc := cX6_extend) (nL := 9) (ret := none) (by decide) (Nat.le_of_ble_eq_true rfl) (fun p e s m below meth c ls X hnm hl hI => ?_)
  have hl : lv_has ls 9 [(0, .ref o), (1, .int z1), (2, .int z2), (3, .int z3)] := hl
  have hx := X.1
  have hb := X.2.1
  unfold f_X6_extend at hr
  refine lv_iconst (v := 0) hx hb dX6_extend_0 (by decide) ?_
  refine lv_istore (lv' := [(4, .int (0 : Int32)), (0, .ref o), (1, .int z1), (2, .int z2), (3, .int z3)]) hx hb dX6_extend_1 hl (by decide) rfl (fun ls hl => ?_)
  exact w_X6_extend_L3 X gN hr hI (lv_sub hl [1, 2, 3, 4, 0] rfl)
abbrev rm_X6_contiguousWelfare : Room := { frames := 2, cells := 0, slots := 0, locals := 50 }
theorem hd_X6_contiguousWelfare : yX6_contiguousWelfare.cls = RX6 ∧ yX6_contiguousWelfare.cls ≠ "java/lang/invoke/MethodHandle" ∧ yX6_contiguousWelfare.cls ≠ "java/lang/invoke/VarHandle" ∧ (parseMethodDescriptor yX6_contiguousWelfare.desc).map (fun d => d.parameters.length) = some 0 := by decide +kernel
set_option maxHeartbeats 2000000 in
theorem w_X6_contiguousWelfare_J104 {h : gH} {n : Nat} {o : Nat} {aM : (Nat → Int32)} {aS : (Nat → Int32)} {iU : Int32} {aB : (Nat → Int32)} {iL : Int32} {iE : Int32} {iP : Int32} {aR : (Nat → Int32)} {iW : Int32} {iT : Int32} {aT : (Nat → Int32)} {aC : (Nat → Int32)} {aH : (Nat → Int32)} {aE : (Nat → Int32)} {aQ : (Nat → Int32)} {iA : Int32} {iY : Int32} {iF : Int32} {iV : Int32} {aK : (Nat → Int32)} {z1 : Int32} {res : Int32 × (Nat → Int32)} (X : gXX x base RX6 cX6_contiguousWelfare 4 (some .int) p l s m args meth c) {H : Heap} {locs : List Loc} {ls : Array Slot} (hr : f_X6_contiguousWelfare_J104 z1 aM aE = some res) (hI : gI x base s.heap (mH h o aM aS iU aB iL iE iP aR iW iT aT aC aH aE aQ iA iY iF iV aK) n H locs) (hl : lv_has ls 4 [(0, .ref o), (1, .int z1)]) : W p l e rm_X6_contiguousWelfare s m args below meth c H locs 0 0 (MQ below (gQ x base (some (.int res.1)) (mH h o aM aS iU aB iL iE iP aR iW iT aT aC aH res.2 aQ iA iY iF iV aK) n) args s 0 0 (fun q => base ≤ q)) (F0 m 104 ls []) := by
  have hx := X.1
  have hb := X.2.1
  unfold f_X6_contiguousWelfare_J104 at hr
  refine lv_aload_n hx hb dX6_contiguousWelfare_104 rfl (lv_at hl 0 rfl) ?_
  refine m_get X hI mH_0 13 (by decide) q1665 rfl dX6_contiguousWelfare_105 ?_
  refine lv_iload_n hx hb dX6_contiguousWelfare_108 rfl (lv_at hl 1 rfl) ?_
  refine lv_iconst (v := 1) hx hb dX6_contiguousWelfare_109 (by decide) ?_
  refine lv_isub hx hb dX6_contiguousWelfare_110 ?_
  refine lv_bipush (v := 25) hx hb dX6_contiguousWelfare_111 (by decide) ?_
  refine lv_imul hx hb dX6_contiguousWelfare_113 ?_
  refine lv_aload_n hx hb dX6_contiguousWelfare_114 rfl (lv_at hl 0 rfl) ?_
  refine m_get X hI mH_0 0 (by decide) q1652 rfl dX6_contiguousWelfare_115 ?_
  refine lv_iconst (v := 0) hx hb dX6_contiguousWelfare_118 (by decide) ?_
  refine m_iald X hI mH_aaM hr dX6_contiguousWelfare_119 (fun v2 hr => ?_)
  refine lv_iadd hx hb dX6_contiguousWelfare_120 ?_
  refine m_iald X hI mH_aaE hr dX6_contiguousWelfare_121 (fun v3 hr => ?_)
  have hr := gS_i hr
  subst hr
  exact g_iret X hI rfl (Nat.le_refl _) (Nat.le_refl _) dX6_contiguousWelfare_122
set_option maxHeartbeats 2000000 in
theorem w_X6_contiguousWelfare_L60 {h : gH} {n : Nat} {o : Nat} {aM : (Nat → Int32)} {aS : (Nat → Int32)} {iU : Int32} {aB : (Nat → Int32)} {iL : Int32} {iE : Int32} {iP : Int32} {aR : (Nat → Int32)} {iW : Int32} {iT : Int32} {aT : (Nat → Int32)} {aC : (Nat → Int32)} {aH : (Nat → Int32)} {aQ : (Nat → Int32)} {iA : Int32} {iY : Int32} {iF : Int32} {iV : Int32} {aK : (Nat → Int32)} {r11 : Int32 → (Nat → Int32) → Option (Int32 × (Nat → Int32))} {z1 : Int32} {z2 : Int32} {res : Int32 × (Nat → Int32)} (X : gXX x base RX6 cX6_contiguousWelfare 4 (some .int) p l s m args meth c) (Hr11 : ∀ {z2 : Int32} {aE : (Nat → Int32)} {H : Heap} {locs : List Loc} {ls : Array Slot}, r11 z2 aE = some res → gI x base s.heap (mH h o aM aS iU aB iL iE iP aR iW iT aT aC aH aE aQ iA iY iF iV aK) n H locs → lv_has ls 4 [(0, .ref o), (1, .int z1), (2, .int z2)] → W p l e rm_X6_contiguousWelfare s m args below meth c H locs 0 0 (MQ below (gQ x base (some (.int res.1)) (mH h o aM aS iU aB iL iE iP aR iW iT aT aC aH res.2 aQ iA iY iF iV aK) n) args s 0 0 (fun q => base ≤ q)) (F0 m 11 ls [])) : ∀ (k : Nat) {z3 : Int32} {aE : (Nat → Int32)} {H : Heap} {locs : List Loc} {ls : Array Slot}, gL2 (f_X6_contiguousWelfare_L60 r11 z1 z2 aM) k z3 aE = some res → gI x base s.heap (mH h o aM aS iU aB iL iE iP aR iW iT aT aC aH aE aQ iA iY iF iV aK) n H locs → lv_has ls 4 [(0, .ref o), (1, .int z1), (2, .int z2), (3, .int z3)] → W p l e rm_X6_contiguousWelfare s m args below meth c H locs 0 0 (MQ below (gQ x base (some (.int res.1)) (mH h o aM aS iU aB iL iE iP aR iW iT aT aC aH res.2 aQ iA iY iF iV aK) n) args s 0 0 (fun q => base ≤ q)) (F0 m 60 ls []) := by
  have hx := X.1
  have hb := X.2.1
  intro k
  induction k with
  | zero =>
    intros
    rename_i hr _ _
    exact nomatch (show (none : Option _) = some _ from hr)
  | succ k ih =>
    intro z3 aE H locs ls hr hI hl
    replace hr : f_X6_contiguousWelfare_L60 r11 z1 z2 aM (gL2 (f_X6_contiguousWelfare_L60 r11 z1 z2 aM) k) z3 aE = some res := hr
    unfold f_X6_contiguousWelfare_L60 at hr
    refine lv_iload_n hx hb dX6_contiguousWelfare_60 rfl (lv_at hl 3 rfl) ?_
    refine lv_aload_n hx hb dX6_contiguousWelfare_61 rfl (lv_at hl 0 rfl) ?_
    refine m_get X hI mH_0 0 (by decide) q1652 rfl dX6_contiguousWelfare_62 ?_
    refine lv_iconst (v := 1) hx hb dX6_contiguousWelfare_65 (by decide) ?_
    refine m_iald X hI mH_aaM hr dX6_contiguousWelfare_66 (fun v5 hr => ?_)
    refine lv_icmp_ge (tgt := 98) hx hb dX6_contiguousWelfare_67 (by decide) (fun c9 => ?_) (fun c9 => ?_)
    · replace hr := gIf_t c9 hr
      refine lv_iinc (v := (z2 + (1 : Int32))) (lv' := [(2, .int (z2 + (1 : Int32))), (0, .ref o), (1, .int z1), (3, .int z3)]) hx hb dX6_contiguousWelfare_98 hl (k := 2) rfl (g_inc (by decide)) (by decide) rfl (fun ls hl => ?_)
      refine lv_goto (tgt := 11) hx hb dX6_contiguousWelfare_101 (by decide) ?_
      exact Hr11 hr hI (lv_sub hl [1, 2, 0] rfl)
    · replace hr := gIf_f c9 hr
      refine lv_iload_n hx hb dX6_contiguousWelfare_70 rfl (lv_at hl 2 rfl) ?_
      refine lv_iload_n hx hb dX6_contiguousWelfare_71 rfl (lv_at hl 3 rfl) ?_
      refine lv_ishr hx hb dX6_contiguousWelfare_72 ?_
      refine lv_iconst (v := 1) hx hb dX6_contiguousWelfare_73 (by decide) ?_
      refine lv_iand hx hb dX6_contiguousWelfare_74 ?_
      refine lv_iconst (v := 1) hx hb dX6_contiguousWelfare_75 (by decide) ?_
      refine lv_icmp_ne (tgt := 92) hx hb dX6_contiguousWelfare_76 (by decide) (fun c9 => ?_) (fun c9 => ?_)
      · replace hr := gIf_f c9 hr
        refine lv_iinc (v := (z3 + (1 : Int32))) (lv' := [(3, .int (z3 + (1 : Int32))), (0, .ref o), (1, .int z1), (2, .int z2)]) hx hb dX6_contiguousWelfare_92 hl (k := 3) rfl (g_inc (by decide)) (by decide) rfl (fun ls hl => ?_)
        refine lv_goto (tgt := 60) hx hb dX6_contiguousWelfare_95 (by decide) ?_
        exact ih hr hI (lv_sub hl [1, 2, 3, 0] rfl)
      · replace hr := gIf_t c9 hr
        refine lv_aload_n hx hb dX6_contiguousWelfare_79 rfl (lv_at hl 0 rfl) ?_
        refine lv_iload_n hx hb dX6_contiguousWelfare_80 rfl (lv_at hl 2 rfl) ?_
        refine lv_iload_n hx hb dX6_contiguousWelfare_81 rfl (lv_at hl 2 rfl) ?_
        refine lv_iconst (v := 1) hx hb dX6_contiguousWelfare_82 (by decide) ?_
        refine lv_iload_n hx hb dX6_contiguousWelfare_83 rfl (lv_at hl 3 rfl) ?_
        refine lv_ishl hx hb dX6_contiguousWelfare_84 ?_
        refine lv_iconst (v := (-1)) hx hb dX6_contiguousWelfare_85 (by decide) ?_
        refine lv_ixor hx hb dX6_contiguousWelfare_86 ?_
        refine lv_iand hx hb dX6_contiguousWelfare_87 ?_
        refine lv_iload_n hx hb dX6_contiguousWelfare_88 rfl (lv_at hl 3 rfl) ?_
        obtain ⟨aE_7, hc6, hr⟩ := gB_i hr
        refine gRun_v (g_runV X hI (w_X6_extend hc6) (g_obj_s mH_0) rfl hl (lw_V q2036 q2038 qs88 q122 q2039) rfl rfl hd_X6_extend ⟨Nat.le_of_ble_eq_true rfl, Nat.le_of_ble_eq_true rfl⟩ (as := [.int z2, .int (z2 &&& (((1 : Int32) <<< (z3 &&& 31)) ^^^ (-1 : Int32))), .int z3]) (rest := []) rfl rfl (Nat.le_of_ble_eq_true rfl) ⟨(Nat.le_refl _), (Nat.le_refl _)⟩ dX6_contiguousWelfare_89) (fun H locs hI => ?_)
        refine lv_iinc (v := (z3 + (1 : Int32))) (lv' := [(3, .int (z3 + (1 : Int32))), (0, .ref o), (1, .int z1), (2, .int z2)]) hx hb dX6_contiguousWelfare_92 hl (k := 3) rfl (g_inc (by decide)) (by decide) rfl (fun ls hl => ?_)
        refine lv_goto (tgt := 60) hx hb dX6_contiguousWelfare_95 (by decide) ?_
        exact ih hr hI (lv_sub hl [1, 2, 3, 0] rfl)
set_option maxHeartbeats 2000000 in
theorem w_X6_contiguousWelfare_J58 {h : gH} {n : Nat} {o : Nat} {aM : (Nat → Int32)} {aS : (Nat → Int32)} {iU : Int32} {aB : (Nat → Int32)} {iL : Int32} {iE : Int32} {iP : Int32} {aR : (Nat → Int32)} {iW : Int32} {iT : Int32} {aT : (Nat → Int32)} {aC : (Nat → Int32)} {aH : (Nat → Int32)} {aE : (Nat → Int32)} {aQ : (Nat → Int32)} {iA : Int32} {iY : Int32} {iF : Int32} {iV : Int32} {aK : (Nat → Int32)} {r11 : Int32 → (Nat → Int32) → Option (Int32 × (Nat → Int32))} {z1 : Int32} {z2 : Int32} {res : Int32 × (Nat → Int32)} (X : gXX x base RX6 cX6_contiguousWelfare 4 (some .int) p l s m args meth c) (Hr11 : ∀ {z2 : Int32} {aE : (Nat → Int32)} {H : Heap} {locs : List Loc} {ls : Array Slot}, r11 z2 aE = some res → gI x base s.heap (mH h o aM aS iU aB iL iE iP aR iW iT aT aC aH aE aQ iA iY iF iV aK) n H locs → lv_has ls 4 [(0, .ref o), (1, .int z1), (2, .int z2)] → W p l e rm_X6_contiguousWelfare s m args below meth c H locs 0 0 (MQ below (gQ x base (some (.int res.1)) (mH h o aM aS iU aB iL iE iP aR iW iT aT aC aH res.2 aQ iA iY iF iV aK) n) args s 0 0 (fun q => base ≤ q)) (F0 m 11 ls [])) {H : Heap} {locs : List Loc} {ls : Array Slot} (hr : f_X6_contiguousWelfare_J58 r11 z1 z2 aM aE = some res) (hI : gI x base s.heap (mH h o aM aS iU aB iL iE iP aR iW iT aT aC aH aE aQ iA iY iF iV aK) n H locs) (hl : lv_has ls 4 [(0, .ref o), (1, .int z1), (2, .int z2)]) : W p l e rm_X6_contiguousWelfare s m args below meth c H locs 0 0 (MQ below (gQ x base (some (.int res.1)) (mH h o aM aS iU aB iL iE iP aR iW iT aT aC aH res.2 aQ iA iY iF iV aK) n) args s 0 0 (fun q => base ≤ q)) (F0 m 58 ls []) := by
  have hx := X.1
  have hb := X.2.1
  unfold f_X6_contiguousWelfare_J58 at hr
  refine lv_iconst (v := 0) hx hb dX6_contiguousWelfare_58 (by decide) ?_
  refine lv_istore_n (lv' := [(3, .int (0 : Int32)), (0, .ref o), (1, .int z1), (2, .int z2)]) hx hb dX6_contiguousWelfare_59 rfl hl (by decide) rfl (fun ls hl => ?_)
  exact w_X6_contiguousWelfare_L60 X Hr11 gN hr hI (lv_sub hl [1, 2, 3, 0] rfl)
set_option maxHeartbeats 2000000 in
theorem w_X6_contiguousWelfare_L18 {h : gH} {n : Nat} {o : Nat} {aM : (Nat → Int32)} {aS : (Nat → Int32)} {iU : Int32} {aB : (Nat → Int32)} {iL : Int32} {iE : Int32} {iP : Int32} {aR : (Nat → Int32)} {iW : Int32} {iT : Int32} {aT : (Nat → Int32)} {aC : (Nat → Int32)} {aH : (Nat → Int32)} {aQ : (Nat → Int32)} {iA : Int32} {iY : Int32} {iF : Int32} {iV : Int32} {aK : (Nat → Int32)} {r11 : Int32 → (Nat → Int32) → Option (Int32 × (Nat → Int32))} {z1 : Int32} {z2 : Int32} {res : Int32 × (Nat → Int32)} (X : gXX x base RX6 cX6_contiguousWelfare 4 (some .int) p l s m args meth c) (Hr11 : ∀ {z2 : Int32} {aE : (Nat → Int32)} {H : Heap} {locs : List Loc} {ls : Array Slot}, r11 z2 aE = some res → gI x base s.heap (mH h o aM aS iU aB iL iE iP aR iW iT aT aC aH aE aQ iA iY iF iV aK) n H locs → lv_has ls 4 [(0, .ref o), (1, .int z1), (2, .int z2)] → W p l e rm_X6_contiguousWelfare s m args below meth c H locs 0 0 (MQ below (gQ x base (some (.int res.1)) (mH h o aM aS iU aB iL iE iP aR iW iT aT aC aH res.2 aQ iA iY iF iV aK) n) args s 0 0 (fun q => base ≤ q)) (F0 m 11 ls [])) : ∀ (k : Nat) {z3 : Int32} {aE : (Nat → Int32)} {H : Heap} {locs : List Loc} {ls : Array Slot}, gL2 (f_X6_contiguousWelfare_L18 r11 z1 z2 aM) k z3 aE = some res → gI x base s.heap (mH h o aM aS iU aB iL iE iP aR iW iT aT aC aH aE aQ iA iY iF iV aK) n H locs → lv_has ls 4 [(0, .ref o), (1, .int z1), (2, .int z2), (3, .int z3)] → W p l e rm_X6_contiguousWelfare s m args below meth c H locs 0 0 (MQ below (gQ x base (some (.int res.1)) (mH h o aM aS iU aB iL iE iP aR iW iT aT aC aH res.2 aQ iA iY iF iV aK) n) args s 0 0 (fun q => base ≤ q)) (F0 m 18 ls []) := by
  have hx := X.1
  have hb := X.2.1
  intro k
  induction k with
  | zero =>
    intros
    rename_i hr _ _
    exact nomatch (show (none : Option _) = some _ from hr)
  | succ k ih =>
    intro z3 aE H locs ls hr hI hl
    replace hr : f_X6_contiguousWelfare_L18 r11 z1 z2 aM (gL2 (f_X6_contiguousWelfare_L18 r11 z1 z2 aM) k) z3 aE = some res := hr
    unfold f_X6_contiguousWelfare_L18 at hr
    refine lv_iload_n hx hb dX6_contiguousWelfare_18 rfl (lv_at hl 3 rfl) ?_
    refine lv_aload_n hx hb dX6_contiguousWelfare_19 rfl (lv_at hl 0 rfl) ?_
    refine m_get X hI mH_0 0 (by decide) q1652 rfl dX6_contiguousWelfare_20 ?_
    refine lv_iconst (v := 0) hx hb dX6_contiguousWelfare_23 (by decide) ?_
    refine m_iald X hI mH_aaM hr dX6_contiguousWelfare_24 (fun v4 hr => ?_)
    refine lv_icmp_gt (tgt := 58) hx hb dX6_contiguousWelfare_25 (by decide) (fun c9 => ?_) (fun c9 => ?_)
    · replace hr := gIf_t c9 hr
      exact w_X6_contiguousWelfare_J58 X Hr11 hr hI (lv_sub hl [0, 1, 2] rfl)
    · replace hr := gIf_f c9 hr
      refine lv_aload_n hx hb dX6_contiguousWelfare_28 rfl (lv_at hl 0 rfl) ?_
      refine m_get X hI mH_0 13 (by decide) q1665 rfl dX6_contiguousWelfare_29 ?_
      refine lv_iload_n hx hb dX6_contiguousWelfare_32 rfl (lv_at hl 2 rfl) ?_
      refine lv_bipush (v := 25) hx hb dX6_contiguousWelfare_33 (by decide) ?_
      refine lv_imul hx hb dX6_contiguousWelfare_35 ?_
      refine lv_iload_n hx hb dX6_contiguousWelfare_36 rfl (lv_at hl 3 rfl) ?_
      refine lv_iadd hx hb dX6_contiguousWelfare_37 ?_
      refine lv_iload_n hx hb dX6_contiguousWelfare_38 rfl (lv_at hl 2 rfl) ?_
      refine lv_if_ne (tgt := 50) hx hb dX6_contiguousWelfare_39 (by decide) (fun c9 => ?_) (fun c9 => ?_)
      · replace hr := gIf_f c9 hr
        refine lv_iconst (v := 0) hx hb dX6_contiguousWelfare_50 (by decide) ?_
        refine m_iast X hI mH_aaE mH_saE hr dX6_contiguousWelfare_51 (fun aE_8 H locs hI hr => ?_)
        refine lv_iinc (v := (z3 + (1 : Int32))) (lv' := [(3, .int (z3 + (1 : Int32))), (0, .ref o), (1, .int z1), (2, .int z2)]) hx hb dX6_contiguousWelfare_52 hl (k := 3) rfl (g_inc (by decide)) (by decide) rfl (fun ls hl => ?_)
        refine lv_goto (tgt := 18) hx hb dX6_contiguousWelfare_55 (by decide) ?_
        exact ih hr hI (lv_sub hl [1, 2, 3, 0] rfl)
      · replace hr := gIf_t c9 hr
        refine lv_iload_n hx hb dX6_contiguousWelfare_42 rfl (lv_at hl 3 rfl) ?_
        refine lv_if_le (tgt := 50) hx hb dX6_contiguousWelfare_43 (by decide) (fun c9 => ?_) (fun c9 => ?_)
        · replace hr := gIf_t c9 hr
          refine lv_iconst (v := 0) hx hb dX6_contiguousWelfare_50 (by decide) ?_
          refine m_iast X hI mH_aaE mH_saE hr dX6_contiguousWelfare_51 (fun aE_9 H locs hI hr => ?_)
          refine lv_iinc (v := (z3 + (1 : Int32))) (lv' := [(3, .int (z3 + (1 : Int32))), (0, .ref o), (1, .int z1), (2, .int z2)]) hx hb dX6_contiguousWelfare_52 hl (k := 3) rfl (g_inc (by decide)) (by decide) rfl (fun ls hl => ?_)
          refine lv_goto (tgt := 18) hx hb dX6_contiguousWelfare_55 (by decide) ?_
          exact ih hr hI (lv_sub hl [1, 2, 3, 0] rfl)
        · replace hr := gIf_f c9 hr
          refine lv_iconst (v := (-1)) hx hb dX6_contiguousWelfare_46 (by decide) ?_
          refine lv_goto (tgt := 51) hx hb dX6_contiguousWelfare_47 (by decide) ?_
          refine m_iast X hI mH_aaE mH_saE hr dX6_contiguousWelfare_51 (fun aE_10 H locs hI hr => ?_)
          refine lv_iinc (v := (z3 + (1 : Int32))) (lv' := [(3, .int (z3 + (1 : Int32))), (0, .ref o), (1, .int z1), (2, .int z2)]) hx hb dX6_contiguousWelfare_52 hl (k := 3) rfl (g_inc (by decide)) (by decide) rfl (fun ls hl => ?_)
          refine lv_goto (tgt := 18) hx hb dX6_contiguousWelfare_55 (by decide) ?_
          exact ih hr hI (lv_sub hl [1, 2, 3, 0] rfl)
set_option maxHeartbeats 2000000 in
theorem w_X6_contiguousWelfare_L11 {h : gH} {n : Nat} {o : Nat} {aM : (Nat → Int32)} {aS : (Nat → Int32)} {iU : Int32} {aB : (Nat → Int32)} {iL : Int32} {iE : Int32} {iP : Int32} {aR : (Nat → Int32)} {iW : Int32} {iT : Int32} {aT : (Nat → Int32)} {aC : (Nat → Int32)} {aH : (Nat → Int32)} {aQ : (Nat → Int32)} {iA : Int32} {iY : Int32} {iF : Int32} {iV : Int32} {aK : (Nat → Int32)} {z1 : Int32} {res : Int32 × (Nat → Int32)} (X : gXX x base RX6 cX6_contiguousWelfare 4 (some .int) p l s m args meth c) : ∀ (k : Nat) {z2 : Int32} {aE : (Nat → Int32)} {H : Heap} {locs : List Loc} {ls : Array Slot}, gL2 (f_X6_contiguousWelfare_L11 z1 aM) k z2 aE = some res → gI x base s.heap (mH h o aM aS iU aB iL iE iP aR iW iT aT aC aH aE aQ iA iY iF iV aK) n H locs → lv_has ls 4 [(0, .ref o), (1, .int z1), (2, .int z2)] → W p l e rm_X6_contiguousWelfare s m args below meth c H locs 0 0 (MQ below (gQ x base (some (.int res.1)) (mH h o aM aS iU aB iL iE iP aR iW iT aT aC aH res.2 aQ iA iY iF iV aK) n) args s 0 0 (fun q => base ≤ q)) (F0 m 11 ls []) := by
  have hx := X.1
  have hb := X.2.1
  intro k
  induction k with
  | zero =>
    intros
    rename_i hr _ _
    exact nomatch (show (none : Option _) = some _ from hr)
  | succ k ih =>
    intro z2 aE H locs ls hr hI hl
    replace hr : f_X6_contiguousWelfare_L11 z1 aM (gL2 (f_X6_contiguousWelfare_L11 z1 aM) k) z2 aE = some res := hr
    unfold f_X6_contiguousWelfare_L11 at hr
    refine lv_iload_n hx hb dX6_contiguousWelfare_11 rfl (lv_at hl 2 rfl) ?_
    refine lv_iload_n hx hb dX6_contiguousWelfare_12 rfl (lv_at hl 1 rfl) ?_
    refine lv_icmp_ge (tgt := 104) hx hb dX6_contiguousWelfare_13 (by decide) (fun c9 => ?_) (fun c9 => ?_)
    · replace hr := gIf_t c9 hr
      exact w_X6_contiguousWelfare_J104 X hr hI (lv_sub hl [0, 1] rfl)
    · replace hr := gIf_f c9 hr
      refine lv_iconst (v := 0) hx hb dX6_contiguousWelfare_16 (by decide) ?_
      refine lv_istore_n (lv' := [(3, .int (0 : Int32)), (0, .ref o), (1, .int z1), (2, .int z2)]) hx hb dX6_contiguousWelfare_17 rfl hl (by decide) rfl (fun ls hl => ?_)
      exact w_X6_contiguousWelfare_L18 X ih gN hr hI (lv_sub hl [1, 2, 3, 0] rfl)
set_option maxHeartbeats 2000000 in
theorem w_X6_contiguousWelfare {l : Launch} {x : gV} {base : Nat} {h : gH} {n : Nat} {o : Nat} {aM : (Nat → Int32)} {aS : (Nat → Int32)} {iU : Int32} {aB : (Nat → Int32)} {iL : Int32} {iE : Int32} {iP : Int32} {aR : (Nat → Int32)} {iW : Int32} {iT : Int32} {aT : (Nat → Int32)} {aC : (Nat → Int32)} {aH : (Nat → Int32)} {aE : (Nat → Int32)} {aQ : (Nat → Int32)} {iA : Int32} {iY : Int32} {iF : Int32} {iV : Int32} {aK : (Nat → Int32)} {res : Int32 × (Nat → Int32)} (hr : f_X6_contiguousWelfare aM aE = some res) : gM l yX6_contiguousWelfare (ws_ yX6_contiguousWelfare cX6_contiguousWelfare 4 (some .int)) rm_X6_contiguousWelfare x base [.ref o] (mH h o aM aS iU aB iL iE iP aR iW iT aT aC aH aE aQ iA iY iF iV aK) n (some (.int res.1)) (mH h o aM aS iU aB iL iE iP aR iW iT aT aC aH res.2 aQ iA iY iF iV aK) n 0 0 := by
  refine g_met (cc := cX6_contiguousWelfare) (nL := 4) (ret := (some .int)) (by decide) (Nat.le_of_ble_eq_true rfl) (fun p e s m below meth c ls X hnm hl hI => ?_)
  have hl : lv_has ls 4 [(0, .ref o)] := hl
  have hx := X.1
  have hb := X.2.1
  unfold f_X6_contiguousWelfare at hr
  refine lv_iconst (v := 1) hx hb dX6_contiguousWelfare_0 (by decide) ?_
  refine lv_aload_n hx hb dX6_contiguousWelfare_1 rfl (lv_at hl 0 rfl) ?_
  refine m_get X hI mH_0 0 (by decide) q1652 rfl dX6_contiguousWelfare_2 ?_
  refine lv_iconst (v := 1) hx hb dX6_contiguousWelfare_5 (by decide) ?_
  refine m_iald X hI mH_aaM hr dX6_contiguousWelfare_6 (fun v1 hr => ?_)
  refine lv_ishl hx hb dX6_contiguousWelfare_7 ?_
  refine lv_istore_n (lv' := [(1, .int ((1 : Int32) <<< (v1 &&& 31))), (0, .ref o)]) hx hb dX6_contiguousWelfare_8 rfl hl (by decide) rfl (fun ls hl => ?_)
  refine lv_iconst (v := 0) hx hb dX6_contiguousWelfare_9 (by decide) ?_
  refine lv_istore_n (lv' := [(2, .int (0 : Int32)), (1, .int ((1 : Int32) <<< (v1 &&& 31))), (0, .ref o)]) hx hb dX6_contiguousWelfare_10 rfl hl (by decide) rfl (fun ls hl => ?_)
  exact w_X6_contiguousWelfare_L11 X gN hr hI (lv_sub hl [2, 1, 0] rfl)
abbrev rm_X6_greatestContiguousWelfare : Room := { frames := 3, cells := 0, slots := 0, locals := 73 }
theorem hd_X6_greatestContiguousWelfare : yX6_greatestContiguousWelfare.cls = RX6 ∧ yX6_greatestContiguousWelfare.cls ≠ "java/lang/invoke/MethodHandle" ∧ yX6_greatestContiguousWelfare.cls ≠ "java/lang/invoke/VarHandle" ∧ (parseMethodDescriptor yX6_greatestContiguousWelfare.desc).map (fun d => d.parameters.length) = some 0 := by decide +kernel
set_option maxHeartbeats 2000000 in
theorem w_X6_greatestContiguousWelfare {l : Launch} {x : gV} {base : Nat} {h : gH} {n : Nat} {o : Nat} {aM : (Nat → Int32)} {aS : (Nat → Int32)} {iU : Int32} {aB : (Nat → Int32)} {iL : Int32} {iE : Int32} {iP : Int32} {aR : (Nat → Int32)} {iW : Int32} {iT : Int32} {aT : (Nat → Int32)} {aC : (Nat → Int32)} {aH : (Nat → Int32)} {aE : (Nat → Int32)} {aQ : (Nat → Int32)} {iA : Int32} {iY : Int32} {iF : Int32} {iV : Int32} {aK : (Nat → Int32)} {res : Int32 × Int32 × (Nat → Int32)} (hr : f_X6_greatestContiguousWelfare aM iT aE = some res) : gM l yX6_greatestContiguousWelfare (ws_ yX6_greatestContiguousWelfare cX6_greatestContiguousWelfare 1 (some .int)) rm_X6_greatestContiguousWelfare x base [.ref o] (mH h o aM aS iU aB iL iE iP aR iW iT aT aC aH aE aQ iA iY iF iV aK) n (some (.int res.1)) (mH h o aM aS iU aB iL iE iP aR iW res.2.1 aT aC aH res.2.2 aQ iA iY iF iV aK) n 0 0 := by
  refine g_met (cc := cX6_greatestContiguousWelfare) (nL := 1) (ret := (some .int)) (by decide) (Nat.le_of_ble_eq_true rfl) (fun p e s m below meth c ls X hnm hl hI => ?_)
  have hl : lv_has ls 1 [(0, .ref o)] := hl
  have hx := X.1
  have hb := X.2.1
  unfold f_X6_greatestContiguousWelfare at hr
  refine lv_aload_n hx hb dX6_greatestContiguousWelfare_0 rfl (lv_at hl 0 rfl) ?_
  refine lv_aload_n hx hb dX6_greatestContiguousWelfare_1 rfl (lv_at hl 0 rfl) ?_
  obtain ⟨v2, aE_3, hc1, hr⟩ := gT2_i hr
  refine gRun_i (g_runV X hI (w_X6_contiguousWelfare hc1) (g_obj_s mH_0) rfl hl (lw_V q2032 q2034 qs87 q122 q2035) rfl rfl hd_X6_contiguousWelfare ⟨Nat.le_of_ble_eq_true rfl, Nat.le_of_ble_eq_true rfl⟩ (as := []) (rest := [.ref o]) rfl rfl (Nat.le_of_ble_eq_true rfl) ⟨(Nat.le_refl _), (Nat.le_refl _)⟩ dX6_greatestContiguousWelfare_2) (fun H locs hI => ?_)
  obtain ⟨v5, iT_6, hc4, hr⟩ := gT2_i hr
  refine gRun_i (g_runV X hI (w_X6_plain hc4) (g_obj_s mH_0) rfl hl (lw_V q1884 q1886 qs78 q122 q1887) rfl rfl hd_X6_plain ⟨Nat.le_of_ble_eq_true rfl, Nat.le_of_ble_eq_true rfl⟩ (as := [.int v2]) (rest := []) rfl rfl (Nat.le_of_ble_eq_true rfl) ⟨(Nat.le_refl _), (Nat.le_refl _)⟩ dX6_greatestContiguousWelfare_5) (fun H locs hI => ?_)
  have hr := gS_i hr
  subst hr
  exact g_iret X hI rfl (Nat.le_refl _) (Nat.le_refl _) dX6_greatestContiguousWelfare_8
abbrev rm_X6_reaches : Room := { frames := 1, cells := 0, slots := 0, locals := 22 }
theorem hd_X6_reaches : yX6_reaches.cls = RX6 ∧ yX6_reaches.cls ≠ "java/lang/invoke/MethodHandle" ∧ yX6_reaches.cls ≠ "java/lang/invoke/VarHandle" ∧ (parseMethodDescriptor yX6_reaches.desc).map (fun d => d.parameters.length) = some 1 := by decide +kernel
set_option maxHeartbeats 2000000 in
theorem w_X6_reaches_L17 {h : gH} {n : Nat} {o : Nat} {aM : (Nat → Int32)} {aS : (Nat → Int32)} {iU : Int32} {aB : (Nat → Int32)} {iL : Int32} {iE : Int32} {iP : Int32} {aR : (Nat → Int32)} {iW : Int32} {iT : Int32} {aT : (Nat → Int32)} {aC : (Nat → Int32)} {aH : (Nat → Int32)} {aE : (Nat → Int32)} {aQ : (Nat → Int32)} {iA : Int32} {iY : Int32} {iF : Int32} {iV : Int32} {aK : (Nat → Int32)} {r4 : Int32 → Int32 → Option Int32} {z1 : Int32} {z3 : Int32} {res : Int32} (X : gXX x base RX6 cX6_reaches 5 (some .boolean) p l s m args meth c) (Hr4 : ∀ {z2 : Int32} {z3 : Int32} {H : Heap} {locs : List Loc} {ls : Array Slot}, r4 z2 z3 = some res → gI x base s.heap (mH h o aM aS iU aB iL iE iP aR iW iT aT aC aH aE aQ iA iY iF iV aK) n H locs → lv_has ls 5 [(0, .ref o), (1, .int z1), (2, .int z2), (3, .int z3)] → W p l e rm_X6_reaches s m args below meth c H locs 0 0 (MQ below (gQ x base (some (.int res)) (mH h o aM aS iU aB iL iE iP aR iW iT aT aC aH aE aQ iA iY iF iV aK) n) args s 0 0 (fun q => base ≤ q)) (F0 m 4 ls [])) : ∀ (k : Nat) {z2 : Int32} {z4 : Int32} {H : Heap} {locs : List Loc} {ls : Array Slot}, gL2 (f_X6_reaches_L17 r4 z1 z3 aM aQ) k z2 z4 = some res → gI x base s.heap (mH h o aM aS iU aB iL iE iP aR iW iT aT aC aH aE aQ iA iY iF iV aK) n H locs → lv_has ls 5 [(0, .ref o), (1, .int z1), (2, .int z2), (3, .int z3), (4, .int z4)] → W p l e rm_X6_reaches s m args below meth c H locs 0 0 (MQ below (gQ x base (some (.int res)) (mH h o aM aS iU aB iL iE iP aR iW iT aT aC aH aE aQ iA iY iF iV aK) n) args s 0 0 (fun q => base ≤ q)) (F0 m 17 ls []) := by
  have hx := X.1
  have hb := X.2.1
  intro k
  induction k with
  | zero =>
    intros
    rename_i hr _ _
    exact nomatch (show (none : Option _) = some _ from hr)
  | succ k ih =>
    intro z2 z4 H locs ls hr hI hl
    replace hr : f_X6_reaches_L17 r4 z1 z3 aM aQ (gL2 (f_X6_reaches_L17 r4 z1 z3 aM aQ) k) z2 z4 = some res := hr
    unfold f_X6_reaches_L17 at hr
    refine lv_iload hx hb dX6_reaches_17 (lv_at hl 4 rfl) ?_
    refine lv_iload_n hx hb dX6_reaches_19 rfl (lv_at hl 1 rfl) ?_
    refine lv_icmp_ge (tgt := 55) hx hb dX6_reaches_20 (by decide) (fun c9 => ?_) (fun c9 => ?_)
    · replace hr := gIf_t c9 hr
      refine lv_iload hx hb dX6_reaches_55 (lv_at hl 4 rfl) ?_
      refine lv_iload_n hx hb dX6_reaches_57 rfl (lv_at hl 1 rfl) ?_
      refine lv_icmp_ge (tgt := 63) hx hb dX6_reaches_58 (by decide) (fun c9 => ?_) (fun c9 => ?_)
      · replace hr := gIf_t c9 hr
        refine lv_iinc (v := (z3 + (1 : Int32))) (lv' := [(3, .int (z3 + (1 : Int32))), (0, .ref o), (1, .int z1), (2, .int z2), (4, .int z4)]) hx hb dX6_reaches_63 hl (k := 3) rfl (g_inc (by decide)) (by decide) rfl (fun ls hl => ?_)
        refine lv_goto (tgt := 4) hx hb dX6_reaches_66 (by decide) ?_
        exact Hr4 hr hI (lv_sub hl [1, 2, 3, 0] rfl)
      · replace hr := gIf_f c9 hr
        refine lv_iconst (v := 0) hx hb dX6_reaches_61 (by decide) ?_
        have hr := gS_i hr
        subst hr
        exact g_iret X hI (g_narZ (Or.inl rfl)) (Nat.le_refl _) (Nat.le_refl _) dX6_reaches_62
    · replace hr := gIf_f c9 hr
      refine lv_iload_n hx hb dX6_reaches_23 rfl (lv_at hl 2 rfl) ?_
      refine lv_aload_n hx hb dX6_reaches_24 rfl (lv_at hl 0 rfl) ?_
      refine m_get X hI mH_0 0 (by decide) q1652 rfl dX6_reaches_25 ?_
      refine lv_iconst (v := 0) hx hb dX6_reaches_28 (by decide) ?_
      refine m_iald X hI mH_aaM hr dX6_reaches_29 (fun v2 hr => ?_)
      refine lv_icmp_ge (tgt := 55) hx hb dX6_reaches_30 (by decide) (fun c9 => ?_) (fun c9 => ?_)
      · replace hr := gIf_t c9 hr
        refine lv_iload hx hb dX6_reaches_55 (lv_at hl 4 rfl) ?_
        refine lv_iload_n hx hb dX6_reaches_57 rfl (lv_at hl 1 rfl) ?_
        refine lv_icmp_ge (tgt := 63) hx hb dX6_reaches_58 (by decide) (fun c9 => ?_) (fun c9 => ?_)
        · replace hr := gIf_t c9 hr
          refine lv_iinc (v := (z3 + (1 : Int32))) (lv' := [(3, .int (z3 + (1 : Int32))), (0, .ref o), (1, .int z1), (2, .int z2), (4, .int z4)]) hx hb dX6_reaches_63 hl (k := 3) rfl (g_inc (by decide)) (by decide) rfl (fun ls hl => ?_)
          refine lv_goto (tgt := 4) hx hb dX6_reaches_66 (by decide) ?_
          exact Hr4 hr hI (lv_sub hl [1, 2, 3, 0] rfl)
        · replace hr := gIf_f c9 hr
          refine lv_iconst (v := 0) hx hb dX6_reaches_61 (by decide) ?_
          have hr := gS_i hr
          subst hr
          exact g_iret X hI (g_narZ (Or.inl rfl)) (Nat.le_refl _) (Nat.le_refl _) dX6_reaches_62
      · replace hr := gIf_f c9 hr
        refine lv_iload hx hb dX6_reaches_33 (lv_at hl 4 rfl) ?_
        refine lv_aload_n hx hb dX6_reaches_35 rfl (lv_at hl 0 rfl) ?_
        refine lv_aload_n hx hb dX6_reaches_36 rfl (lv_at hl 0 rfl) ?_
        refine m_get X hI mH_0 14 (by decide) q1666 rfl dX6_reaches_37 ?_
        refine lv_iload_n hx hb dX6_reaches_40 rfl (lv_at hl 3 rfl) ?_
        refine m_iald X hI mH_aaQ hr dX6_reaches_41 (fun v3 hr => ?_)
        refine lv_iload_n hx hb dX6_reaches_42 rfl (lv_at hl 2 rfl) ?_
        obtain ⟨v5, hc4, hr⟩ := gB_i hr
        refine gRun_i (g_runV X hI (w_X6_valueOf hc4) (g_obj_s mH_0) rfl hl (lw_V q1808 q1810 qs62 q122 q1811) rfl rfl hd_X6_valueOf ⟨Nat.le_of_ble_eq_true rfl, Nat.le_of_ble_eq_true rfl⟩ (as := [.int v3, .int z2]) (rest := [.int z4]) rfl rfl (Nat.le_of_ble_eq_true rfl) ⟨(Nat.le_refl _), (Nat.le_refl _)⟩ dX6_reaches_43) (fun H locs hI => ?_)
        refine lv_iadd hx hb dX6_reaches_46 ?_
        refine lv_istore (lv' := [(4, .int (z4 + v5)), (0, .ref o), (1, .int z1), (2, .int z2), (3, .int z3)]) hx hb dX6_reaches_47 hl (by decide) rfl (fun ls hl => ?_)
        refine lv_iinc (v := (z2 + (1 : Int32))) (lv' := [(2, .int (z2 + (1 : Int32))), (4, .int (z4 + v5)), (0, .ref o), (1, .int z1), (3, .int z3)]) hx hb dX6_reaches_49 hl (k := 3) rfl (g_inc (by decide)) (by decide) rfl (fun ls hl => ?_)
        refine lv_goto (tgt := 17) hx hb dX6_reaches_52 (by decide) ?_
        exact ih hr hI (lv_sub hl [2, 3, 0, 4, 1] rfl)
set_option maxHeartbeats 2000000 in
theorem w_X6_reaches_L4 {h : gH} {n : Nat} {o : Nat} {aM : (Nat → Int32)} {aS : (Nat → Int32)} {iU : Int32} {aB : (Nat → Int32)} {iL : Int32} {iE : Int32} {iP : Int32} {aR : (Nat → Int32)} {iW : Int32} {iT : Int32} {aT : (Nat → Int32)} {aC : (Nat → Int32)} {aH : (Nat → Int32)} {aE : (Nat → Int32)} {aQ : (Nat → Int32)} {iA : Int32} {iY : Int32} {iF : Int32} {iV : Int32} {aK : (Nat → Int32)} {z1 : Int32} {res : Int32} (X : gXX x base RX6 cX6_reaches 5 (some .boolean) p l s m args meth c) : ∀ (k : Nat) {z2 : Int32} {z3 : Int32} {H : Heap} {locs : List Loc} {ls : Array Slot}, gL2 (f_X6_reaches_L4 z1 aM aQ) k z2 z3 = some res → gI x base s.heap (mH h o aM aS iU aB iL iE iP aR iW iT aT aC aH aE aQ iA iY iF iV aK) n H locs → lv_has ls 5 [(0, .ref o), (1, .int z1), (2, .int z2), (3, .int z3)] → W p l e rm_X6_reaches s m args below meth c H locs 0 0 (MQ below (gQ x base (some (.int res)) (mH h o aM aS iU aB iL iE iP aR iW iT aT aC aH aE aQ iA iY iF iV aK) n) args s 0 0 (fun q => base ≤ q)) (F0 m 4 ls []) := by
  have hx := X.1
  have hb := X.2.1
  intro k
  induction k with
  | zero =>
    intros
    rename_i hr _ _
    exact nomatch (show (none : Option _) = some _ from hr)
  | succ k ih =>
    intro z2 z3 H locs ls hr hI hl
    replace hr : f_X6_reaches_L4 z1 aM aQ (gL2 (f_X6_reaches_L4 z1 aM aQ) k) z2 z3 = some res := hr
    unfold f_X6_reaches_L4 at hr
    refine lv_iload_n hx hb dX6_reaches_4 rfl (lv_at hl 3 rfl) ?_
    refine lv_aload_n hx hb dX6_reaches_5 rfl (lv_at hl 0 rfl) ?_
    refine m_get X hI mH_0 0 (by decide) q1652 rfl dX6_reaches_6 ?_
    refine lv_iconst (v := 1) hx hb dX6_reaches_9 (by decide) ?_
    refine m_iald X hI mH_aaM hr dX6_reaches_10 (fun v1 hr => ?_)
    refine lv_icmp_ge (tgt := 69) hx hb dX6_reaches_11 (by decide) (fun c9 => ?_) (fun c9 => ?_)
    · replace hr := gIf_t c9 hr
      refine lv_iconst (v := 1) hx hb dX6_reaches_69 (by decide) ?_
      have hr := gS_i hr
      subst hr
      exact g_iret X hI (g_narZ (Or.inr rfl)) (Nat.le_refl _) (Nat.le_refl _) dX6_reaches_70
    · replace hr := gIf_f c9 hr
      refine lv_iconst (v := 0) hx hb dX6_reaches_14 (by decide) ?_
      refine lv_istore (lv' := [(4, .int (0 : Int32)), (0, .ref o), (1, .int z1), (2, .int z2), (3, .int z3)]) hx hb dX6_reaches_15 hl (by decide) rfl (fun ls hl => ?_)
      exact w_X6_reaches_L17 X ih gN hr hI (lv_sub hl [1, 2, 3, 4, 0] rfl)
set_option maxHeartbeats 2000000 in
theorem w_X6_reaches {l : Launch} {x : gV} {base : Nat} {z1 : Int32} {h : gH} {n : Nat} {o : Nat} {aM : (Nat → Int32)} {aS : (Nat → Int32)} {iU : Int32} {aB : (Nat → Int32)} {iL : Int32} {iE : Int32} {iP : Int32} {aR : (Nat → Int32)} {iW : Int32} {iT : Int32} {aT : (Nat → Int32)} {aC : (Nat → Int32)} {aH : (Nat → Int32)} {aE : (Nat → Int32)} {aQ : (Nat → Int32)} {iA : Int32} {iY : Int32} {iF : Int32} {iV : Int32} {aK : (Nat → Int32)} {res : Int32} (hr : f_X6_reaches z1 aM aQ = some res) : gM l yX6_reaches (ws_ yX6_reaches cX6_reaches 5 (some .boolean)) rm_X6_reaches x base [.ref o, .int z1] (mH h o aM aS iU aB iL iE iP aR iW iT aT aC aH aE aQ iA iY iF iV aK) n (some (.int res)) (mH h o aM aS iU aB iL iE iP aR iW iT aT aC aH aE aQ iA iY iF iV aK) n 0 0 := by
  refine g_met (cc := cX6_reaches) (nL := 5) (ret := (some .boolean)) (by decide) (Nat.le_of_ble_eq_true rfl) (fun p e s m below meth c ls X hnm hl hI => ?_)
  have hl : lv_has ls 5 [(0, .ref o), (1, .int z1)] := hl
  have hx := X.1
  have hb := X.2.1
  unfold f_X6_reaches at hr
  refine lv_iconst (v := 0) hx hb dX6_reaches_0 (by decide) ?_
  refine lv_istore_n (lv' := [(2, .int (0 : Int32)), (0, .ref o), (1, .int z1)]) hx hb dX6_reaches_1 rfl hl (by decide) rfl (fun ls hl => ?_)
  refine lv_iconst (v := 0) hx hb dX6_reaches_2 (by decide) ?_
  refine lv_istore_n (lv' := [(3, .int (0 : Int32)), (2, .int (0 : Int32)), (0, .ref o), (1, .int z1)]) hx hb dX6_reaches_3 rfl hl (by decide) rfl (fun ls hl => ?_)
  exact w_X6_reaches_L4 X gN hr hI (lv_sub hl [2, 3, 1, 0] rfl)
abbrev rm_X6_swapSequence : Room := { frames := 0, cells := 0, slots := 0, locals := 0 }
theorem hd_X6_swapSequence : yX6_swapSequence.cls = RX6 ∧ yX6_swapSequence.cls ≠ "java/lang/invoke/MethodHandle" ∧ yX6_swapSequence.cls ≠ "java/lang/invoke/VarHandle" ∧ (parseMethodDescriptor yX6_swapSequence.desc).map (fun d => d.parameters.length) = some 2 := by decide +kernel
set_option maxHeartbeats 2000000 in
theorem w_X6_swapSequence {l : Launch} {x : gV} {base : Nat} {z1 : Int32} {z2 : Int32} {h : gH} {n : Nat} {o : Nat} {aM : (Nat → Int32)} {aS : (Nat → Int32)} {iU : Int32} {aB : (Nat → Int32)} {iL : Int32} {iE : Int32} {iP : Int32} {aR : (Nat → Int32)} {iW : Int32} {iT : Int32} {aT : (Nat → Int32)} {aC : (Nat → Int32)} {aH : (Nat → Int32)} {aE : (Nat → Int32)} {aQ : (Nat → Int32)} {iA : Int32} {iY : Int32} {iF : Int32} {iV : Int32} {aK : (Nat → Int32)} {res : (Nat → Int32)} (hr : f_X6_swapSequence z1 z2 aQ = some res) : gM l yX6_swapSequence (ws_ yX6_swapSequence cX6_swapSequence 4 none) rm_X6_swapSequence x base [.ref o, .int z1, .int z2] (mH h o aM aS iU aB iL iE iP aR iW iT aT aC aH aE aQ iA iY iF iV aK) n none (mH h o aM aS iU aB iL iE iP aR iW iT aT aC aH aE res iA iY iF iV aK) n 0 0 := by
  refine g_met (cc := cX6_swapSequence) (nL := 4) (ret := none) (by decide) (Nat.le_of_ble_eq_true rfl) (fun p e s m below meth c ls X hnm hl hI => ?_)
  have hl : lv_has ls 4 [(0, .ref o), (1, .int z1), (2, .int z2)] := hl
  have hx := X.1
  have hb := X.2.1
  unfold f_X6_swapSequence at hr
  refine lv_aload_n hx hb dX6_swapSequence_0 rfl (lv_at hl 0 rfl) ?_
  refine m_get X hI mH_0 14 (by decide) q1666 rfl dX6_swapSequence_1 ?_
  refine lv_iload_n hx hb dX6_swapSequence_4 rfl (lv_at hl 1 rfl) ?_
  refine m_iald X hI mH_aaQ hr dX6_swapSequence_5 (fun v1 hr => ?_)
  refine lv_istore_n (lv' := [(3, .int v1), (0, .ref o), (1, .int z1), (2, .int z2)]) hx hb dX6_swapSequence_6 rfl hl (by decide) rfl (fun ls hl => ?_)
  refine lv_aload_n hx hb dX6_swapSequence_7 rfl (lv_at hl 1 rfl) ?_
  refine m_get X hI mH_0 14 (by decide) q1666 rfl dX6_swapSequence_8 ?_
  refine lv_iload_n hx hb dX6_swapSequence_11 rfl (lv_at hl 2 rfl) ?_
  refine lv_aload_n hx hb dX6_swapSequence_12 rfl (lv_at hl 1 rfl) ?_
  refine m_get X hI mH_0 14 (by decide) q1666 rfl dX6_swapSequence_13 ?_
  refine lv_iload_n hx hb dX6_swapSequence_16 rfl (lv_at hl 3 rfl) ?_
  refine m_iald X hI mH_aaQ hr dX6_swapSequence_17 (fun v2 hr => ?_)
  refine m_iast X hI mH_aaQ mH_saQ hr dX6_swapSequence_18 (fun aQ_3 H locs hI hr => ?_)
  refine lv_aload_n hx hb dX6_swapSequence_19 rfl (lv_at hl 1 rfl) ?_
  refine m_get X hI mH_0 14 (by decide) q1666 rfl dX6_swapSequence_20 ?_
  refine lv_iload_n hx hb dX6_swapSequence_23 rfl (lv_at hl 3 rfl) ?_
  refine lv_iload_n hx hb dX6_swapSequence_24 rfl (lv_at hl 0 rfl) ?_
  refine m_iast X hI mH_aaQ mH_saQ hr dX6_swapSequence_25 (fun aQ_4 H locs hI hr => ?_)
  have hr := gS_i hr
  subst hr
  exact g_vret X hI (Nat.le_refl _) (Nat.le_refl _) dX6_swapSequence_26
abbrev rm_X6_advanceSequence : Room := { frames := 1, cells := 0, slots := 0, locals := 23 }
theorem hd_X6_advanceSequence : yX6_advanceSequence.cls = RX6 ∧ yX6_advanceSequence.cls ≠ "java/lang/invoke/MethodHandle" ∧ yX6_advanceSequence.cls ≠ "java/lang/invoke/VarHandle" ∧ (parseMethodDescriptor yX6_advanceSequence.desc).map (fun d => d.parameters.length) = some 0 := by decide +kernel
set_option maxHeartbeats 2000000 in
theorem w_X6_advanceSequence_L92 {h : gH} {n : Nat} {o : Nat} {aM : (Nat → Int32)} {aS : (Nat → Int32)} {iU : Int32} {aB : (Nat → Int32)} {iL : Int32} {iE : Int32} {iP : Int32} {aR : (Nat → Int32)} {iW : Int32} {iT : Int32} {aT : (Nat → Int32)} {aC : (Nat → Int32)} {aH : (Nat → Int32)} {aE : (Nat → Int32)} {iA : Int32} {iY : Int32} {iF : Int32} {iV : Int32} {aK : (Nat → Int32)} {res : Int32 × (Nat → Int32)} (X : gXX x base RX6 cX6_advanceSequence 5 (some .boolean) p l s m args meth c) : ∀ (k : Nat) {z3 : Int32} {z4 : Int32} {aQ : (Nat → Int32)} {H : Heap} {locs : List Loc} {ls : Array Slot}, gL3 (f_X6_advanceSequence_L92 aM) k z3 z4 aQ = some res → gI x base s.heap (mH h o aM aS iU aB iL iE iP aR iW iT aT aC aH aE aQ iA iY iF iV aK) n H locs → lv_has ls 5 [(0, .ref o), (3, .int z3), (4, .int z4)] → W p l e rm_X6_advanceSequence s m args below meth c H locs 0 0 (MQ below (gQ x base (some (.int res.1)) (mH h o aM aS iU aB iL iE iP aR iW iT aT aC aH aE res.2 iA iY iF iV aK) n) args s 0 0 (fun q => base ≤ q)) (F0 m 92 ls []) := by
  have hx := X.1
  have hb := X.2.1
  intro k
  induction k with
  | zero =>
    intros
    rename_i hr _ _
    exact nomatch (show (none : Option _) = some _ from hr)
  | succ k ih =>
    intro z3 z4 aQ H locs ls hr hI hl
    replace hr : f_X6_advanceSequence_L92 aM (gL3 (f_X6_advanceSequence_L92 aM) k) z3 z4 aQ = some res := hr
    unfold f_X6_advanceSequence_L92 at hr
    refine lv_iload_n hx hb dX6_advanceSequence_92 rfl (lv_at hl 1 rfl) ?_
    refine lv_iload hx hb dX6_advanceSequence_93 (lv_at hl 2 rfl) ?_
    refine lv_icmp_ge (tgt := 114) hx hb dX6_advanceSequence_95 (by decide) (fun c9 => ?_) (fun c9 => ?_)
    · replace hr := gIf_t c9 hr
      refine lv_iconst (v := 1) hx hb dX6_advanceSequence_114 (by decide) ?_
      have hr := gS_i hr
      subst hr
      exact g_iret X hI (g_narZ (Or.inr rfl)) (Nat.le_refl _) (Nat.le_refl _) dX6_advanceSequence_115
    · replace hr := gIf_f c9 hr
      refine lv_aload_n hx hb dX6_advanceSequence_98 rfl (lv_at hl 0 rfl) ?_
      refine lv_iload_n hx hb dX6_advanceSequence_99 rfl (lv_at hl 1 rfl) ?_
      refine lv_iload hx hb dX6_advanceSequence_100 (lv_at hl 2 rfl) ?_
      obtain ⟨aQ_9, hc8, hr⟩ := gB_i hr
      refine gRun_v (g_runV X hI (w_X6_swapSequence hc8) (g_obj_s mH_0) rfl hl (lw_V q2056 q2058 qs92 q122 q2059) rfl rfl hd_X6_swapSequence ⟨Nat.le_of_ble_eq_true rfl, Nat.le_of_ble_eq_true rfl⟩ (as := [.int z3, .int z4]) (rest := []) rfl rfl (Nat.le_of_ble_eq_true rfl) ⟨(Nat.le_refl _), (Nat.le_refl _)⟩ dX6_advanceSequence_102) (fun H locs hI => ?_)
      refine lv_iinc (v := (z3 + (1 : Int32))) (lv' := [(3, .int (z3 + (1 : Int32))), (0, .ref o), (4, .int z4)]) hx hb dX6_advanceSequence_105 hl (k := 1) rfl (g_inc (by decide)) (by decide) rfl (fun ls hl => ?_)
      refine lv_iinc (v := (z4 + (-1 : Int32))) (lv' := [(4, .int (z4 + (-1 : Int32))), (3, .int (z3 + (1 : Int32))), (0, .ref o)]) hx hb dX6_advanceSequence_108 hl (k := 2) rfl (g_inc (by decide)) (by decide) rfl (fun ls hl => ?_)
      refine lv_goto (tgt := 92) hx hb dX6_advanceSequence_111 (by decide) ?_
      exact ih hr hI (lv_sub hl [2, 1, 0] rfl)
set_option maxHeartbeats 2000000 in
theorem w_X6_advanceSequence_J72 {h : gH} {n : Nat} {o : Nat} {aM : (Nat → Int32)} {aS : (Nat → Int32)} {iU : Int32} {aB : (Nat → Int32)} {iL : Int32} {iE : Int32} {iP : Int32} {aR : (Nat → Int32)} {iW : Int32} {iT : Int32} {aT : (Nat → Int32)} {aC : (Nat → Int32)} {aH : (Nat → Int32)} {aE : (Nat → Int32)} {aQ : (Nat → Int32)} {iA : Int32} {iY : Int32} {iF : Int32} {iV : Int32} {aK : (Nat → Int32)} {z1 : Int32} {z2 : Int32} {res : Int32 × (Nat → Int32)} (X : gXX x base RX6 cX6_advanceSequence 5 (some .boolean) p l s m args meth c) {H : Heap} {locs : List Loc} {ls : Array Slot} (hr : f_X6_advanceSequence_J72 z1 z2 aM aQ = some res) (hI : gI x base s.heap (mH h o aM aS iU aB iL iE iP aR iW iT aT aC aH aE aQ iA iY iF iV aK) n H locs) (hl : lv_has ls 5 [(0, .ref o), (1, .int z1), (2, .int z2)]) : W p l e rm_X6_advanceSequence s m args below meth c H locs 0 0 (MQ below (gQ x base (some (.int res.1)) (mH h o aM aS iU aB iL iE iP aR iW iT aT aC aH aE res.2 iA iY iF iV aK) n) args s 0 0 (fun q => base ≤ q)) (F0 m 72 ls []) := by
  have hx := X.1
  have hb := X.2.1
  unfold f_X6_advanceSequence_J72 at hr
  refine lv_aload_n hx hb dX6_advanceSequence_72 rfl (lv_at hl 0 rfl) ?_
  refine lv_iload_n hx hb dX6_advanceSequence_73 rfl (lv_at hl 1 rfl) ?_
  refine lv_iload_n hx hb dX6_advanceSequence_74 rfl (lv_at hl 2 rfl) ?_
  obtain ⟨aQ_6, hc5, hr⟩ := gB_i hr
  refine gRun_v (g_runV X hI (w_X6_swapSequence hc5) (g_obj_s mH_0) rfl hl (lw_V q2056 q2058 qs92 q122 q2059) rfl rfl hd_X6_swapSequence ⟨Nat.le_of_ble_eq_true rfl, Nat.le_of_ble_eq_true rfl⟩ (as := [.int z1, .int z2]) (rest := []) rfl rfl (Nat.le_of_ble_eq_true rfl) ⟨(Nat.le_refl _), (Nat.le_refl _)⟩ dX6_advanceSequence_75) (fun H locs hI => ?_)
  refine lv_iload_n hx hb dX6_advanceSequence_78 rfl (lv_at hl 1 rfl) ?_
  refine lv_iconst (v := 1) hx hb dX6_advanceSequence_79 (by decide) ?_
  refine lv_iadd hx hb dX6_advanceSequence_80 ?_
  refine lv_istore_n (lv' := [(3, .int (z1 + (1 : Int32))), (0, .ref o), (1, .int z1), (2, .int z2)]) hx hb dX6_advanceSequence_81 rfl hl (by decide) rfl (fun ls hl => ?_)
  refine lv_aload_n hx hb dX6_advanceSequence_82 rfl (lv_at hl 1 rfl) ?_
  refine m_get X hI mH_0 0 (by decide) q1652 rfl dX6_advanceSequence_83 ?_
  refine lv_iconst (v := 1) hx hb dX6_advanceSequence_86 (by decide) ?_
  refine m_iald X hI mH_aaM hr dX6_advanceSequence_87 (fun v7 hr => ?_)
  refine lv_iconst (v := 1) hx hb dX6_advanceSequence_88 (by decide) ?_
  refine lv_isub hx hb dX6_advanceSequence_89 ?_
  refine lv_istore (lv' := [(4, .int (v7 - (1 : Int32))), (3, .int (z1 + (1 : Int32))), (0, .ref o), (1, .int z1), (2, .int z2)]) hx hb dX6_advanceSequence_90 hl (by decide) rfl (fun ls hl => ?_)
  exact w_X6_advanceSequence_L92 X gN hr hI (lv_sub hl [2, 1, 0] rfl)
set_option maxHeartbeats 2000000 in
theorem w_X6_advanceSequence_L51 {h : gH} {n : Nat} {o : Nat} {aM : (Nat → Int32)} {aS : (Nat → Int32)} {iU : Int32} {aB : (Nat → Int32)} {iL : Int32} {iE : Int32} {iP : Int32} {aR : (Nat → Int32)} {iW : Int32} {iT : Int32} {aT : (Nat → Int32)} {aC : (Nat → Int32)} {aH : (Nat → Int32)} {aE : (Nat → Int32)} {aQ : (Nat → Int32)} {iA : Int32} {iY : Int32} {iF : Int32} {iV : Int32} {aK : (Nat → Int32)} {z1 : Int32} {res : Int32 × (Nat → Int32)} (X : gXX x base RX6 cX6_advanceSequence 5 (some .boolean) p l s m args meth c) : ∀ (k : Nat) {z2 : Int32} {H : Heap} {locs : List Loc} {ls : Array Slot}, gL1 (f_X6_advanceSequence_L51 z1 aM aQ) k z2 = some res → gI x base s.heap (mH h o aM aS iU aB iL iE iP aR iW iT aT aC aH aE aQ iA iY iF iV aK) n H locs → lv_has ls 5 [(0, .ref o), (1, .int z1), (2, .int z2)] → W p l e rm_X6_advanceSequence s m args below meth c H locs 0 0 (MQ below (gQ x base (some (.int res.1)) (mH h o aM aS iU aB iL iE iP aR iW iT aT aC aH aE res.2 iA iY iF iV aK) n) args s 0 0 (fun q => base ≤ q)) (F0 m 51 ls []) := by
  have hx := X.1
  have hb := X.2.1
  intro k
  induction k with
  | zero =>
    intros
    rename_i hr _ _
    exact nomatch (show (none : Option _) = some _ from hr)
  | succ k ih =>
    intro z2 H locs ls hr hI hl
    replace hr : f_X6_advanceSequence_L51 z1 aM aQ (gL1 (f_X6_advanceSequence_L51 z1 aM aQ) k) z2 = some res := hr
    unfold f_X6_advanceSequence_L51 at hr
    refine lv_aload_n hx hb dX6_advanceSequence_51 rfl (lv_at hl 0 rfl) ?_
    refine m_get X hI mH_0 14 (by decide) q1666 rfl dX6_advanceSequence_52 ?_
    refine lv_iload_n hx hb dX6_advanceSequence_55 rfl (lv_at hl 2 rfl) ?_
    refine m_iald X hI mH_aaQ hr dX6_advanceSequence_56 (fun v3 hr => ?_)
    refine lv_aload_n hx hb dX6_advanceSequence_57 rfl (lv_at hl 0 rfl) ?_
    refine m_get X hI mH_0 14 (by decide) q1666 rfl dX6_advanceSequence_58 ?_
    refine lv_iload_n hx hb dX6_advanceSequence_61 rfl (lv_at hl 1 rfl) ?_
    refine m_iald X hI mH_aaQ hr dX6_advanceSequence_62 (fun v4 hr => ?_)
    refine lv_icmp_ge (tgt := 72) hx hb dX6_advanceSequence_63 (by decide) (fun c9 => ?_) (fun c9 => ?_)
    · replace hr := gIf_t c9 hr
      exact w_X6_advanceSequence_J72 X hr hI (lv_sub hl [0, 1, 2] rfl)
    · replace hr := gIf_f c9 hr
      refine lv_iinc (v := (z2 + (-1 : Int32))) (lv' := [(2, .int (z2 + (-1 : Int32))), (0, .ref o), (1, .int z1)]) hx hb dX6_advanceSequence_66 hl (k := 2) rfl (g_inc (by decide)) (by decide) rfl (fun ls hl => ?_)
      refine lv_goto (tgt := 51) hx hb dX6_advanceSequence_69 (by decide) ?_
      exact ih hr hI (lv_sub hl [1, 2, 0] rfl)
set_option maxHeartbeats 2000000 in
theorem w_X6_advanceSequence_J36 {h : gH} {n : Nat} {o : Nat} {aM : (Nat → Int32)} {aS : (Nat → Int32)} {iU : Int32} {aB : (Nat → Int32)} {iL : Int32} {iE : Int32} {iP : Int32} {aR : (Nat → Int32)} {iW : Int32} {iT : Int32} {aT : (Nat → Int32)} {aC : (Nat → Int32)} {aH : (Nat → Int32)} {aE : (Nat → Int32)} {aQ : (Nat → Int32)} {iA : Int32} {iY : Int32} {iF : Int32} {iV : Int32} {aK : (Nat → Int32)} {z1 : Int32} {res : Int32 × (Nat → Int32)} (X : gXX x base RX6 cX6_advanceSequence 5 (some .boolean) p l s m args meth c) {H : Heap} {locs : List Loc} {ls : Array Slot} (hr : f_X6_advanceSequence_J36 z1 aM aQ = some res) (hI : gI x base s.heap (mH h o aM aS iU aB iL iE iP aR iW iT aT aC aH aE aQ iA iY iF iV aK) n H locs) (hl : lv_has ls 5 [(0, .ref o), (1, .int z1)]) : W p l e rm_X6_advanceSequence s m args below meth c H locs 0 0 (MQ below (gQ x base (some (.int res.1)) (mH h o aM aS iU aB iL iE iP aR iW iT aT aC aH aE res.2 iA iY iF iV aK) n) args s 0 0 (fun q => base ≤ q)) (F0 m 36 ls []) := by
  have hx := X.1
  have hb := X.2.1
  unfold f_X6_advanceSequence_J36 at hr
  refine lv_iload_n hx hb dX6_advanceSequence_36 rfl (lv_at hl 1 rfl) ?_
  refine lv_if_ge (tgt := 42) hx hb dX6_advanceSequence_37 (by decide) (fun c9 => ?_) (fun c9 => ?_)
  · replace hr := gIf_t c9 hr
    refine lv_aload_n hx hb dX6_advanceSequence_42 rfl (lv_at hl 0 rfl) ?_
    refine m_get X hI mH_0 0 (by decide) q1652 rfl dX6_advanceSequence_43 ?_
    refine lv_iconst (v := 1) hx hb dX6_advanceSequence_46 (by decide) ?_
    refine m_iald X hI mH_aaM hr dX6_advanceSequence_47 (fun v2 hr => ?_)
    refine lv_iconst (v := 1) hx hb dX6_advanceSequence_48 (by decide) ?_
    refine lv_isub hx hb dX6_advanceSequence_49 ?_
    refine lv_istore_n (lv' := [(2, .int (v2 - (1 : Int32))), (0, .ref o), (1, .int z1)]) hx hb dX6_advanceSequence_50 rfl hl (by decide) rfl (fun ls hl => ?_)
    exact w_X6_advanceSequence_L51 X gN hr hI (lv_sub hl [1, 2, 0] rfl)
  · replace hr := gIf_f c9 hr
    refine lv_iconst (v := 0) hx hb dX6_advanceSequence_40 (by decide) ?_
    have hr := gS_i hr
    subst hr
    exact g_iret X hI (g_narZ (Or.inl rfl)) (Nat.le_refl _) (Nat.le_refl _) dX6_advanceSequence_41
set_option maxHeartbeats 2000000 in
theorem w_X6_advanceSequence_L9 {h : gH} {n : Nat} {o : Nat} {aM : (Nat → Int32)} {aS : (Nat → Int32)} {iU : Int32} {aB : (Nat → Int32)} {iL : Int32} {iE : Int32} {iP : Int32} {aR : (Nat → Int32)} {iW : Int32} {iT : Int32} {aT : (Nat → Int32)} {aC : (Nat → Int32)} {aH : (Nat → Int32)} {aE : (Nat → Int32)} {aQ : (Nat → Int32)} {iA : Int32} {iY : Int32} {iF : Int32} {iV : Int32} {aK : (Nat → Int32)} {res : Int32 × (Nat → Int32)} (X : gXX x base RX6 cX6_advanceSequence 5 (some .boolean) p l s m args meth c) : ∀ (k : Nat) {z1 : Int32} {H : Heap} {locs : List Loc} {ls : Array Slot}, gL1 (f_X6_advanceSequence_L9 aM aQ) k z1 = some res → gI x base s.heap (mH h o aM aS iU aB iL iE iP aR iW iT aT aC aH aE aQ iA iY iF iV aK) n H locs → lv_has ls 5 [(0, .ref o), (1, .int z1)] → W p l e rm_X6_advanceSequence s m args below meth c H locs 0 0 (MQ below (gQ x base (some (.int res.1)) (mH h o aM aS iU aB iL iE iP aR iW iT aT aC aH aE res.2 iA iY iF iV aK) n) args s 0 0 (fun q => base ≤ q)) (F0 m 9 ls []) := by
  have hx := X.1
  have hb := X.2.1
  intro k
  induction k with
  | zero =>
    intros
    rename_i hr _ _
    exact nomatch (show (none : Option _) = some _ from hr)
  | succ k ih =>
    intro z1 H locs ls hr hI hl
    replace hr : f_X6_advanceSequence_L9 aM aQ (gL1 (f_X6_advanceSequence_L9 aM aQ) k) z1 = some res := hr
    unfold f_X6_advanceSequence_L9 at hr
    refine lv_iload_n hx hb dX6_advanceSequence_9 rfl (lv_at hl 1 rfl) ?_
    refine lv_if_lt (tgt := 36) hx hb dX6_advanceSequence_10 (by decide) (fun c9 => ?_) (fun c9 => ?_)
    · replace hr := gIf_t c9 hr
      exact w_X6_advanceSequence_J36 X hr hI (lv_sub hl [0, 1] rfl)
    · replace hr := gIf_f c9 hr
      refine lv_aload_n hx hb dX6_advanceSequence_13 rfl (lv_at hl 0 rfl) ?_
      refine m_get X hI mH_0 14 (by decide) q1666 rfl dX6_advanceSequence_14 ?_
      refine lv_iload_n hx hb dX6_advanceSequence_17 rfl (lv_at hl 1 rfl) ?_
      refine m_iald X hI mH_aaQ hr dX6_advanceSequence_18 (fun v10 hr => ?_)
      refine lv_aload_n hx hb dX6_advanceSequence_19 rfl (lv_at hl 0 rfl) ?_
      refine m_get X hI mH_0 14 (by decide) q1666 rfl dX6_advanceSequence_20 ?_
      refine lv_iload_n hx hb dX6_advanceSequence_23 rfl (lv_at hl 1 rfl) ?_
      refine lv_iconst (v := 1) hx hb dX6_advanceSequence_24 (by decide) ?_
      refine lv_iadd hx hb dX6_advanceSequence_25 ?_
      refine m_iald X hI mH_aaQ hr dX6_advanceSequence_26 (fun v11 hr => ?_)
      refine lv_icmp_le (tgt := 36) hx hb dX6_advanceSequence_27 (by decide) (fun c9 => ?_) (fun c9 => ?_)
      · replace hr := gIf_t c9 hr
        exact w_X6_advanceSequence_J36 X hr hI (lv_sub hl [0, 1] rfl)
      · replace hr := gIf_f c9 hr
        refine lv_iinc (v := (z1 + (-1 : Int32))) (lv' := [(1, .int (z1 + (-1 : Int32))), (0, .ref o)]) hx hb dX6_advanceSequence_30 hl (k := 1) rfl (g_inc (by decide)) (by decide) rfl (fun ls hl => ?_)
        refine lv_goto (tgt := 9) hx hb dX6_advanceSequence_33 (by decide) ?_
        exact ih hr hI (lv_sub hl [1, 0] rfl)
set_option maxHeartbeats 2000000 in
theorem w_X6_advanceSequence {l : Launch} {x : gV} {base : Nat} {h : gH} {n : Nat} {o : Nat} {aM : (Nat → Int32)} {aS : (Nat → Int32)} {iU : Int32} {aB : (Nat → Int32)} {iL : Int32} {iE : Int32} {iP : Int32} {aR : (Nat → Int32)} {iW : Int32} {iT : Int32} {aT : (Nat → Int32)} {aC : (Nat → Int32)} {aH : (Nat → Int32)} {aE : (Nat → Int32)} {aQ : (Nat → Int32)} {iA : Int32} {iY : Int32} {iF : Int32} {iV : Int32} {aK : (Nat → Int32)} {res : Int32 × (Nat → Int32)} (hr : f_X6_advanceSequence aM aQ = some res) : gM l yX6_advanceSequence (ws_ yX6_advanceSequence cX6_advanceSequence 5 (some .boolean)) rm_X6_advanceSequence x base [.ref o] (mH h o aM aS iU aB iL iE iP aR iW iT aT aC aH aE aQ iA iY iF iV aK) n (some (.int res.1)) (mH h o aM aS iU aB iL iE iP aR iW iT aT aC aH aE res.2 iA iY iF iV aK) n 0 0 := by
  refine g_met (cc := cX6_advanceSequence) (nL := 5) (ret := (some .boolean)) (by decide) (Nat.le_of_ble_eq_true rfl) (fun p e s m below meth c ls X hnm hl hI => ?_)
  have hl : lv_has ls 5 [(0, .ref o)] := hl
  have hx := X.1
  have hb := X.2.1
  unfold f_X6_advanceSequence at hr
  refine lv_aload_n hx hb dX6_advanceSequence_0 rfl (lv_at hl 0 rfl) ?_
  refine m_get X hI mH_0 0 (by decide) q1652 rfl dX6_advanceSequence_1 ?_
  refine lv_iconst (v := 1) hx hb dX6_advanceSequence_4 (by decide) ?_
  refine m_iald X hI mH_aaM hr dX6_advanceSequence_5 (fun v1 hr => ?_)
  refine lv_iconst (v := 2) hx hb dX6_advanceSequence_6 (by decide) ?_
  refine lv_isub hx hb dX6_advanceSequence_7 ?_
  refine lv_istore_n (lv' := [(1, .int (v1 - (2 : Int32))), (0, .ref o)]) hx hb dX6_advanceSequence_8 rfl hl (by decide) rfl (fun ls hl => ?_)
  exact w_X6_advanceSequence_L9 X gN hr hI (lv_sub hl [1, 0] rfl)
end GENW
