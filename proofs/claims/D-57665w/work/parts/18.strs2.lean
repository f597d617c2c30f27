/-! String constants: length and charAt, walked; Preconditions.checkIndex -/
set_option maxRecDepth 100000
def f_J14_checkIndex (z0 : Int32) (z1 : Int32) (z2 : Option Nat) (h : gH) : Option Int32 :=
  (if z0 < 0 then none else (if z0 < z1 then some z0 else none))
section GSTR2
variable {p : Program} {l : Launch} {e : Env} {s : State} {m : MethodId} {args : Array Value} {below : List Frame} {meth : Method} {c : Code} {x : gV} {base : Nat}
variable {R : Room} {H : Heap} {locs : List Loc} {cells slots : Nat} {Q : State → Prop} {own : String} {cc : ByteArray} {nL : Nat} {ret : Option FieldType} {pc : Nat} {ls : Array Slot} {rest : List Value} {h : gH} {n : Nat} {a : Nat}
abbrev rm_J14_checkIndex : Room := { frames := 0, cells := 0, slots := 0, locals := 0 }
theorem hd_J14_checkIndex : yJ14_checkIndex.cls ≠ "java/lang/invoke/MethodHandle" ∧ yJ14_checkIndex.cls ≠ "java/lang/invoke/VarHandle" ∧ (parseMethodDescriptor yJ14_checkIndex.desc).map (fun d => d.parameters.length) = some 3 := by decide +kernel
set_option maxHeartbeats 2000000 in
theorem w_J14_checkIndex {l : Launch} {x : gV} {base : Nat} {z0 : Int32} {z1 : Int32} {z2 : Option Nat} {h : gH} {n : Nat} {res : Int32} (hr : f_J14_checkIndex z0 z1 z2 h = some res) : gM l yJ14_checkIndex (ws_ yJ14_checkIndex cJ14_checkIndex 3 (some .int)) rm_J14_checkIndex x base [.int z0, .int z1, va_rf z2] h n (some (.int res)) h n 0 0 := by
  refine g_met (cc := cJ14_checkIndex) (nL := 3) (ret := (some .int)) (by decide) (by cases z2 <;> exact Nat.le_of_ble_eq_true rfl) (fun p e s m below meth c ls X hnm hl hI => ?_)
  have hl : lv_has ls 3 [(0, .int z0), (1, .int z1), (2, va_rf z2)] := hl
  have hx := X.1
  have hb := X.2.1
  unfold f_J14_checkIndex at hr
  refine lv_iload_n hx hb dJ14_checkIndex_0 rfl (lv_at hl 0 rfl) ?_
  refine lv_if_lt (tgt := 9) hx hb dJ14_checkIndex_1 (by decide) (fun c9 => ?_) (fun c9 => ?_)
  · replace hr := gIf_t c9 hr
    exact nomatch hr
  · replace hr := gIf_f c9 hr
    refine lv_iload_n hx hb dJ14_checkIndex_4 rfl (lv_at hl 0 rfl) ?_
    refine lv_iload_n hx hb dJ14_checkIndex_5 rfl (lv_at hl 1 rfl) ?_
    refine lv_icmp_lt (tgt := 16) hx hb dJ14_checkIndex_6 (by decide) (fun c9 => ?_) (fun c9 => ?_)
    · replace hr := gIf_t c9 hr
      refine lv_iload_n hx hb dJ14_checkIndex_16 rfl (lv_at hl 0 rfl) ?_
      have hr := gS_i hr
      subst hr
      exact g_iret X hI rfl (Nat.le_refl _) (Nat.le_refl _) dJ14_checkIndex_17
    · replace hr := gIf_f c9 hr
      exact nomatch hr
theorem g_runVS {i index maxL n9 mc ms : Nat} {y : MethodName} {bytes : ByteArray} {rt : Option FieldType} {rm : Room} {as : List Value} {st0 : List Value} {v : Option Value} {h1 : gH} {n1 : Nat} (X : gXX x base own cc nL ret p l s m args meth c) (hI : gI x base s.heap h n H locs) (hM : gM l y (ws_ y bytes maxL rt) rm x base (.ref (x.2.2.1 i) :: as) h n v h1 n1 mc ms) (hi : i < g_tN) {lv' : List (Nat × Value)} (hl : lv_has ls nL lv') (hw : GoodIn lw_all (wsV own index "java/lang/String" y (ws_ y bytes maxL rt))) (hrc : rm.cells = mc) (hrs : rm.slots = ms) (hd : y.cls = "java/lang/String" ∧ y.cls ≠ "java/lang/invoke/MethodHandle" ∧ y.cls ≠ "java/lang/invoke/VarHandle" ∧ (parseMethodDescriptor y.desc).map (fun d => d.parameters.length) = some n9) (hR : rm.frames + 1 ≤ R.frames ∧ 8 + (maxL + 11) + rm.locals ≤ R.locals) (hn : as.length = n9) (hst : st0 = as.reverse ++ .ref (x.2.2.1 i) :: rest) (hW : (rest.map fun v => v.category).sum ≤ 8) (hf : cells + mc ≤ R.cells ∧ slots + ms ≤ R.slots) (hdg : decode cc pc = .ok (.invokevirtual index, 3)) : gRun p l e R s m args below meth c H locs cells slots mc ms (F0 m pc ls st0) rest x base v h1 n1 :=
  gRun.of hI (va_runV (As := as) ⟨X.1, X.2.1, X.2.2.1, X.2.2.2.2.1, X.2.2.2.2.2.1⟩ hM (cwV n9 X.2.2.2.2.2.1 hw rfl hrc hrs hd hR) ⟨gPre.blind, vk_recv X.2.2.2.2.2.2.1.2.2.2.2.2.2.2.1 hi hI.2.2.2.1, fun U hU hW => gPre.of X hI U hU hW⟩ rfl hn hl.1 hst (lv_room (m := m) (pc := pc) (ls := ls) (rest := []) hW) hdg hf)
abbrev rm_J9_coder : Room := { frames := 0, cells := 0, slots := 0, locals := 0 }
theorem hd_J9_coder : yJ9_coder.cls = RJ9 ∧ yJ9_coder.cls ≠ "java/lang/invoke/MethodHandle" ∧ yJ9_coder.cls ≠ "java/lang/invoke/VarHandle" ∧ (parseMethodDescriptor yJ9_coder.desc).map (fun d => d.parameters.length) = some 0 := by decide +kernel
theorem w_J9_coder {l : Launch} {x : gV} {base : Nat} {h : gH} {n : Nat} {i : Nat} (hi : i < g_tN) : gM l yJ9_coder (ws_ yJ9_coder cJ9_coder 1 (some .byte)) rm_J9_coder x base [.ref (x.2.2.1 i)] h n (some (.int 0)) h n 0 0 := by
  refine g_met (cc := cJ9_coder) (nL := 1) (ret := (some .byte)) (by decide) (Nat.le_of_ble_eq_true rfl) (fun p e s m below meth c ls X hnm hl hI => ?_)
  have hl : lv_has ls 1 [(0, .ref (x.2.2.1 i))] := hl
  have hx := X.1
  have hb := X.2.1
  have hS := hI.2.2.2.1
  refine va_gets hx hb X.2.2.2.2.2.2.1.2.2.2.2.2.2.2.2.1 hS X.2.2.2.2.1 (X.w q326) (fun _ h9 => h9) dJ9_coder_0 ?_
  refine lv_if_eq (tgt := 13) hx hb dJ9_coder_3 (by decide) (fun c9 => absurd c9 (by decide)) (fun c9 => ?_)
  refine lv_aload_n hx hb dJ9_coder_6 rfl (lv_at hl 0 rfl) ?_
  refine vk_getf hx hb (X.2.2.2.2.2.2.1.2.2.2.2.2.2.2.1.1 i hi).2.1 hS X.2.2.2.2.1 (X.w q468) (fun _ h9 => h9) dJ9_coder_7 ?_
  refine lv_goto (tgt := 14) hx hb dJ9_coder_10 (by decide) ?_
  exact g_iret X hI rfl (Nat.le_refl _) (Nat.le_refl _) dJ9_coder_14
theorem g_lenS : ∀ i, i < g_tN → Int32.ofNat (g_tL.getD i 0) >>> ((0 : Int32) &&& 31) = nI (g_tL.getD i 0) := by decide +kernel
abbrev rm_J9_length : Room := { frames := 1, cells := 0, slots := 0, locals := 28 }
theorem hd_J9_length : yJ9_length.cls = RJ9 ∧ yJ9_length.cls ≠ "java/lang/invoke/MethodHandle" ∧ yJ9_length.cls ≠ "java/lang/invoke/VarHandle" ∧ (parseMethodDescriptor yJ9_length.desc).map (fun d => d.parameters.length) = some 0 := by decide +kernel
theorem w_J9_length {l : Launch} {x : gV} {base : Nat} {h : gH} {n : Nat} {i : Nat} (hi : i < g_tN) : gM l yJ9_length (ws_ yJ9_length cJ9_length 1 (some .int)) rm_J9_length x base [.ref (x.2.2.1 i)] h n (some (.int (nI (g_tL.getD i 0)))) h n 0 0 := by
  refine g_met (cc := cJ9_length) (nL := 1) (ret := (some .int)) (by decide) (Nat.le_of_ble_eq_true rfl) (fun p e s m below meth c ls X hnm hl hI => ?_)
  have hl : lv_has ls 1 [(0, .ref (x.2.2.1 i))] := hl
  have hx := X.1
  have hb := X.2.1
  have hS := hI.2.2.2.1
  refine lv_aload_n hx hb dJ9_length_0 rfl (lv_at hl 0 rfl) ?_
  refine vk_getf hx hb (X.2.2.2.2.2.2.1.2.2.2.2.2.2.2.1.1 i hi).2.2.1 hS X.2.2.2.2.1 (X.w q467) (fun _ h9 => h9) dJ9_length_1 ?_
  refine va_tlen hx hb (X.2.2.2.2.2.2.1.2.2.2.2.2.2.2.1.1 i hi).2.2.2 hS rfl dJ9_length_4 ?_
  refine lv_aload_n hx hb dJ9_length_5 rfl (lv_at hl 0 rfl) ?_
  refine gRun_i (g_runVS X hI (w_J9_coder hi) hi hl (lw_V q322 q323 q324 q107 q325) rfl rfl hd_J9_coder ⟨Nat.le_of_ble_eq_true rfl, Nat.le_of_ble_eq_true rfl⟩ (as := []) (rest := [.int (Int32.ofNat (g_tL.getD i 0))]) rfl rfl (Nat.le_of_ble_eq_true rfl) ⟨Nat.le_refl _, Nat.le_refl _⟩ dJ9_length_6) (fun H locs hI => ?_)
  refine lv_ishr hx hb dJ9_length_9 ?_
  rw [g_lenS i hi]
  exact g_iret X hI rfl (Nat.le_refl _) (Nat.le_refl _) dJ9_length_10
abbrev rm_J9_isLatin1 : Room := { frames := 0, cells := 0, slots := 0, locals := 0 }
theorem hd_J9_isLatin1 : yJ9_isLatin1.cls = RJ9 ∧ yJ9_isLatin1.cls ≠ "java/lang/invoke/MethodHandle" ∧ yJ9_isLatin1.cls ≠ "java/lang/invoke/VarHandle" ∧ (parseMethodDescriptor yJ9_isLatin1.desc).map (fun d => d.parameters.length) = some 0 := by decide +kernel
theorem w_J9_isLatin1 {l : Launch} {x : gV} {base : Nat} {h : gH} {n : Nat} {i : Nat} (hi : i < g_tN) : gM l yJ9_isLatin1 (ws_ yJ9_isLatin1 cJ9_isLatin1 1 (some .boolean)) rm_J9_isLatin1 x base [.ref (x.2.2.1 i)] h n (some (.int 1)) h n 0 0 := by
  refine g_met (cc := cJ9_isLatin1) (nL := 1) (ret := (some .boolean)) (by decide) (Nat.le_of_ble_eq_true rfl) (fun p e s m below meth c ls X hnm hl hI => ?_)
  have hl : lv_has ls 1 [(0, .ref (x.2.2.1 i))] := hl
  have hx := X.1
  have hb := X.2.1
  have hS := hI.2.2.2.1
  refine va_gets hx hb X.2.2.2.2.2.2.1.2.2.2.2.2.2.2.2.1 hS X.2.2.2.2.1 (X.w q326) (fun _ h9 => h9) dJ9_isLatin1_0 ?_
  refine lv_if_eq (tgt := 17) hx hb dJ9_isLatin1_3 (by decide) (fun c9 => absurd c9 (by decide)) (fun c9 => ?_)
  refine lv_aload_n hx hb dJ9_isLatin1_6 rfl (lv_at hl 0 rfl) ?_
  refine vk_getf hx hb (X.2.2.2.2.2.2.1.2.2.2.2.2.2.2.1.1 i hi).2.1 hS X.2.2.2.2.1 (X.w q468) (fun _ h9 => h9) dJ9_isLatin1_7 ?_
  refine lv_if_ne (tgt := 17) hx hb dJ9_isLatin1_10 (by decide) (fun c9 => absurd rfl c9) (fun c9 => ?_)
  refine lv_iconst (v := 1) hx hb dJ9_isLatin1_13 (by decide) ?_
  refine lv_goto (tgt := 18) hx hb dJ9_isLatin1_14 (by decide) ?_
  exact g_iret X hI (g_narZ (Or.inr rfl)) (Nat.le_refl _) (Nat.le_refl _) dJ9_isLatin1_18
abbrev rm_J9_checkIndex : Room := { frames := 1, cells := 0, slots := 0, locals := 40 }
theorem hd_J9_checkIndex : yJ9_checkIndex.cls ≠ "java/lang/invoke/MethodHandle" ∧ yJ9_checkIndex.cls ≠ "java/lang/invoke/VarHandle" ∧ (parseMethodDescriptor yJ9_checkIndex.desc).map (fun d => d.parameters.length) = some 2 := by decide +kernel
theorem w_J9_checkIndex {l : Launch} {x : gV} {base : Nat} {h : gH} {n : Nat} {z0 z1 : Int32} (h0 : ¬ z0 < 0) (h1 : z0 < z1) : gM l yJ9_checkIndex (ws_ yJ9_checkIndex cJ9_checkIndex 2 none) rm_J9_checkIndex x base [.int z0, .int z1] h n none h n 0 0 := by
  refine g_met (cc := cJ9_checkIndex) (nL := 2) (ret := none) (by decide) (Nat.le_of_ble_eq_true rfl) (fun p e s m below meth c ls X hnm hl hI => ?_)
  have hl : lv_has ls 2 [(0, .int z0), (1, .int z1)] := hl
  have hx := X.1
  have hb := X.2.1
  have hS := hI.2.2.2.1
  refine lv_iload_n hx hb dJ9_checkIndex_0 rfl (lv_at hl 0 rfl) ?_
  refine lv_iload_n hx hb dJ9_checkIndex_1 rfl (lv_at hl 1 rfl) ?_
  rcases X.2.2.2.2.2.2.1.2.2.2.2.2.2.2.2.2.1 with hz | ⟨t9, hz⟩
  · refine va_gets hx hb hz hS X.2.2.2.2.1 (X.w q304) (fun _ h9 => h9) dJ9_checkIndex_2 ?_
    refine gRun_i (g_runS X hI (w_J14_checkIndex (z2 := none) (res := z0) (by unfold f_J14_checkIndex; rw [if_neg h0, if_pos h1])) hl (lw_S q546 q547 q113 q548) rfl rfl hd_J14_checkIndex ⟨Nat.le_of_ble_eq_true rfl, Nat.le_of_ble_eq_true rfl⟩ (as := [.int z0, .int z1, va_rf (none)]) (rest := []) rfl rfl (Nat.le_of_ble_eq_true rfl) ⟨Nat.le_refl _, Nat.le_refl _⟩ dJ9_checkIndex_5) (fun H locs hI => ?_)
    refine lv_pop hx hb dJ9_checkIndex_8 rfl ?_
    exact g_vret X hI (Nat.le_refl _) (Nat.le_refl _) dJ9_checkIndex_9
  · refine va_gets hx hb hz hS X.2.2.2.2.1 (X.w q304) (fun _ h9 => h9) dJ9_checkIndex_2 ?_
    refine gRun_i (g_runS X hI (w_J14_checkIndex (z2 := some t9) (res := z0) (by unfold f_J14_checkIndex; rw [if_neg h0, if_pos h1])) hl (lw_S q546 q547 q113 q548) rfl rfl hd_J14_checkIndex ⟨Nat.le_of_ble_eq_true rfl, Nat.le_of_ble_eq_true rfl⟩ (as := [.int z0, .int z1, va_rf (some t9)]) (rest := []) rfl rfl (Nat.le_of_ble_eq_true rfl) ⟨Nat.le_refl _, Nat.le_refl _⟩ dJ9_checkIndex_5) (fun H locs hI => ?_)
    refine lv_pop hx hb dJ9_checkIndex_8 rfl ?_
    exact g_vret X hI (Nat.le_refl _) (Nat.le_refl _) dJ9_checkIndex_9
theorem g_chr : ∀ i, i < g_tN → ∀ j, j < g_tL.getD i 0 → ((((g_tB.getD i []).getD j 0) &&& 255).toUInt32 % 65536).toInt32 = (g_tB.getD i []).getD j 0 ∧ narrow .char (.int ((g_tB.getD i []).getD j 0)) = .int ((g_tB.getD i []).getD j 0) := by decide +kernel
theorem g_tLs : ∀ i, i < g_tN → (Int32.ofNat (g_tL.getD i 0)).toNatClampNeg = g_tL.getD i 0 ∧ ¬ Int32.ofNat (g_tL.getD i 0) < 0 := by decide +kernel
theorem g_inlt {j : Int32} {i : Nat} (hi : i < g_tN) (hin : vp_in j (g_tL.getD i 0)) : ¬ j < 0 ∧ j < Int32.ofNat (g_tL.getD i 0) := by
  have h0 : ¬ j < 0 := fun q => hin (Or.inl q)
  refine ⟨h0, ?_⟩
  have h1 : j.toNatClampNeg < g_tL.getD i 0 := Nat.not_le.mp fun q => hin (Or.inr q)
  obtain ⟨k, hk, rfl⟩ := nI_of h0
  rw [nI_clamp hk] at h1
  have h2 : g_tL.getD i 0 < 2 ^ 31 := by revert h1; have := (show ∀ i, i < g_tN → g_tL.getD i 0 < 2 ^ 31 by decide +kernel) i hi; omega
  exact nI_lt h1 h2
abbrev rm_J15_charAt : Room := { frames := 2, cells := 0, slots := 0, locals := 80 }
theorem hd_J15_charAt : yJ15_charAt.cls ≠ "java/lang/invoke/MethodHandle" ∧ yJ15_charAt.cls ≠ "java/lang/invoke/VarHandle" ∧ (parseMethodDescriptor yJ15_charAt.desc).map (fun d => d.parameters.length) = some 2 := by decide +kernel
theorem w_J15_charAt {l : Launch} {x : gV} {base : Nat} {h : gH} {n : Nat} {i : Nat} {j : Int32} (hi : i < g_tN) (hin : vp_in j (g_tL.getD i 0)) : gM l yJ15_charAt (ws_ yJ15_charAt cJ15_charAt 2 (some .char)) rm_J15_charAt x base [.ref (x.2.2.2 i), .int j] h n (some (.int ((g_tB.getD i []).getD j.toNatClampNeg 0))) h n 0 0 := by
  refine g_met (cc := cJ15_charAt) (nL := 2) (ret := (some .char)) (by decide) (Nat.le_of_ble_eq_true rfl) (fun p e s m below meth c ls X hnm hl hI => ?_)
  have hl : lv_has ls 2 [(0, .ref (x.2.2.2 i)), (1, .int j)] := hl
  have hx := X.1
  have hb := X.2.1
  have hS := hI.2.2.2.1
  obtain ⟨h0, h1⟩ := g_inlt hi hin
  have h2 : j.toNatClampNeg < g_tL.getD i 0 := Nat.not_le.mp fun q => hin (Or.inr q)
  refine lv_iload_n hx hb dJ15_charAt_0 rfl (lv_at hl 1 rfl) ?_
  refine lv_aload_n hx hb dJ15_charAt_1 rfl (lv_at hl 0 rfl) ?_
  refine va_tlen hx hb (X.2.2.2.2.2.2.1.2.2.2.2.2.2.2.1.1 i hi).2.2.2 hS rfl dJ15_charAt_2 ?_
  refine gRun_v (g_runS X hI (w_J9_checkIndex h0 h1) hl (lw_S q543 q544 q107 q545) rfl rfl hd_J9_checkIndex ⟨Nat.le_of_ble_eq_true rfl, Nat.le_of_ble_eq_true rfl⟩ (as := [.int j, .int (Int32.ofNat (g_tL.getD i 0))]) (rest := []) rfl rfl (Nat.le_of_ble_eq_true rfl) ⟨Nat.le_refl _, Nat.le_refl _⟩ dJ15_charAt_3) (fun H locs hI => ?_)
  refine lv_aload_n hx hb dJ15_charAt_6 rfl (lv_at hl 0 rfl) ?_
  refine lv_iload_n hx hb dJ15_charAt_7 rfl (lv_at hl 1 rfl) ?_
  refine va_tb hx hb (X.2.2.2.2.2.2.1.2.2.2.2.2.2.2.1.1 i hi).2.2.2 hI.2.2.2.1 hin rfl dJ15_charAt_8 ?_
  refine lv_sipush (v := 255) hx hb dJ15_charAt_9 (by decide) ?_
  refine lv_iand hx hb dJ15_charAt_12 ?_
  refine lv_i2c hx hb dJ15_charAt_13 (g_chr i hi _ h2).1 ?_
  exact g_iret X hI (g_chr i hi _ h2).2 (Nat.le_refl _) (Nat.le_refl _) dJ15_charAt_14
abbrev rm_J9_charAt : Room := { frames := 3, cells := 0, slots := 0, locals := 120 }
theorem hd_J9_charAt : yJ9_charAt.cls = RJ9 ∧ yJ9_charAt.cls ≠ "java/lang/invoke/MethodHandle" ∧ yJ9_charAt.cls ≠ "java/lang/invoke/VarHandle" ∧ (parseMethodDescriptor yJ9_charAt.desc).map (fun d => d.parameters.length) = some 1 := by decide +kernel
theorem w_J9_charAt {l : Launch} {x : gV} {base : Nat} {h : gH} {n : Nat} {i : Nat} {j : Int32} (hi : i < g_tN) (hin : vp_in j (g_tL.getD i 0)) : gM l yJ9_charAt (ws_ yJ9_charAt cJ9_charAt 2 (some .char)) rm_J9_charAt x base [.ref (x.2.2.1 i), .int j] h n (some (.int ((g_tB.getD i []).getD j.toNatClampNeg 0))) h n 0 0 := by
  refine g_met (cc := cJ9_charAt) (nL := 2) (ret := (some .char)) (by decide) (Nat.le_of_ble_eq_true rfl) (fun p e s m below meth c ls X hnm hl hI => ?_)
  have hl : lv_has ls 2 [(0, .ref (x.2.2.1 i)), (1, .int j)] := hl
  have hx := X.1
  have hb := X.2.1
  have hS := hI.2.2.2.1
  have h2 : j.toNatClampNeg < g_tL.getD i 0 := Nat.not_le.mp fun q => hin (Or.inr q)
  refine lv_aload_n hx hb dJ9_charAt_0 rfl (lv_at hl 0 rfl) ?_
  refine gRun_i (g_runVS X hI (w_J9_isLatin1 hi) hi hl (lw_V q536 q537 q538 q107 q539) rfl rfl hd_J9_isLatin1 ⟨Nat.le_of_ble_eq_true rfl, Nat.le_of_ble_eq_true rfl⟩ (as := []) (rest := []) rfl rfl (Nat.le_of_ble_eq_true rfl) ⟨Nat.le_refl _, Nat.le_refl _⟩ dJ9_charAt_1) (fun H locs hI => ?_)
  refine lv_if_eq (tgt := 16) hx hb dJ9_charAt_4 (by decide) (fun c9 => absurd c9 (by decide)) (fun c9 => ?_)
  refine lv_aload_n hx hb dJ9_charAt_7 rfl (lv_at hl 0 rfl) ?_
  refine vk_getf hx hb (X.2.2.2.2.2.2.1.2.2.2.2.2.2.2.1.1 i hi).2.2.1 hI.2.2.2.1 X.2.2.2.2.1 (X.w q467) (fun _ h9 => h9) dJ9_charAt_8 ?_
  refine lv_iload_n hx hb dJ9_charAt_11 rfl (lv_at hl 1 rfl) ?_
  refine gRun_i (g_runS X hI (w_J15_charAt hi hin) hl (lw_S q540 q541 q114 q542) rfl rfl hd_J15_charAt ⟨Nat.le_of_ble_eq_true rfl, Nat.le_of_ble_eq_true rfl⟩ (as := [.ref (x.2.2.2 i), .int j]) (rest := []) rfl rfl (Nat.le_of_ble_eq_true rfl) ⟨Nat.le_refl _, Nat.le_refl _⟩ dJ9_charAt_12) (fun H locs hI => ?_)
  exact g_iret X hI (g_chr i hi _ h2).2 (Nat.le_refl _) (Nat.le_refl _) dJ9_charAt_15
theorem g_sIx_i {a i : Nat} (h : g_sIx x a = some i) : i < g_tN ∧ a = x.2.2.1 i := by
  unfold g_sIx at h
  have h1 := List.find?_some h
  have h2 := List.mem_of_find?_eq_some h
  exact ⟨List.mem_range.mp h2, (of_decide_eq_true h1).symm⟩
theorem g_runLen {index : Nat} {lv' : List (Nat × Value)} {st0 : List Value} {v : Int32} (X : gXX x base own cc nL ret p l s m args meth c) (hI : gI x base s.heap h n H locs) (hl : lv_has ls nL lv') (hc : f_J9_length x a = some v) (hlink : Cond.methodLink own index ⟨"java/lang/String", "length", "()I"⟩ ∈ lw_all) (hst : st0 = .ref a :: rest) (hW : (rest.map fun v => v.category).sum ≤ 8) (hR : 3 ≤ R.frames ∧ 200 ≤ R.locals) (hf : cells + 0 ≤ R.cells ∧ slots + 0 ≤ R.slots) (hdg : decode cc pc = .ok (.invokevirtual index, 3)) : gRun p l e R s m args below meth c H locs cells slots 0 0 (F0 m pc ls st0) rest x base (some (.int v)) h n := by
  obtain ⟨i, h1, h2⟩ := gB_i hc
  obtain ⟨hi, rfl⟩ := g_sIx_i h1
  cases h2
  exact g_runVS X hI (w_J9_length hi) hi hl (lw_V hlink q319 q320 q107 q321) rfl rfl hd_J9_length ⟨Nat.le_trans (show rm_J9_length.frames + 1 ≤ 3 from Nat.le_of_ble_eq_true rfl) hR.1, Nat.le_trans (show 8 + (1 + 11) + rm_J9_length.locals ≤ 200 from Nat.le_of_ble_eq_true rfl) hR.2⟩ (as := []) rfl hst hW hf hdg
theorem g_runAt {index : Nat} {lv' : List (Nat × Value)} {st0 : List Value} {v j : Int32} (X : gXX x base own cc nL ret p l s m args meth c) (hI : gI x base s.heap h n H locs) (hl : lv_has ls nL lv') (hc : f_J9_charAt x a j = some v) (hlink : Cond.methodLink own index ⟨"java/lang/String", "charAt", "(I)C"⟩ ∈ lw_all) (hst : st0 = .int j :: .ref a :: rest) (hW : (rest.map fun v => v.category).sum ≤ 8) (hR : 7 ≤ R.frames ∧ 400 ≤ R.locals) (hf : cells + 0 ≤ R.cells ∧ slots + 0 ≤ R.slots) (hdg : decode cc pc = .ok (.invokevirtual index, 3)) : gRun p l e R s m args below meth c H locs cells slots 0 0 (F0 m pc ls st0) rest x base (some (.int v)) h n := by
  obtain ⟨i, h1, h2⟩ := gB_i hc
  obtain ⟨hi, rfl⟩ := g_sIx_i h1
  obtain ⟨h3, h4⟩ := gIf_o h2
  cases h4
  exact g_runVS X hI (w_J9_charAt hi (g_in_vp h3)) hi hl (lw_V hlink q533 q534 q107 q535) rfl rfl hd_J9_charAt ⟨Nat.le_trans (show rm_J9_charAt.frames + 1 ≤ 7 from Nat.le_of_ble_eq_true rfl) hR.1, Nat.le_trans (show 8 + (2 + 11) + rm_J9_charAt.locals ≤ 400 from Nat.le_of_ble_eq_true rfl) hR.2⟩ (as := [.int j]) rfl hst hW hf hdg
end GSTR2
