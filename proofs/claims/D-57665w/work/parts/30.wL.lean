/-! printed: the walk of the law -/
set_option maxRecDepth 100000
section GENL
variable {p : Program} {l : Launch} {e : Env} {s : State} {m : MethodId} {args : Array Value} {below : List Frame} {meth : Method} {c : Code} {x : gV} {base : Nat} {zb zL : Nat} {zx : Nat → Int32}
set_option maxHeartbeats 2000000 in
theorem w_L_law_J2884 {h : gH} {n : Nat} {r28 : Int32 → gH → Nat → Option Int32} {z1 : Nat} {z2 : Nat} {z3 : Nat} {z4 : Nat} {b28 : Nat} {d28 : Nat} {z5 : Int32} (X : gXX x base RX0 cL_law 10 (some .boolean) p l s m args meth c) (hst : l.stackTraces = false) (hsc : va_X zb zL zx s s.heap) (hsb : zb < s.heap.size) (hbs : base = s.heap.size) (Hr28 : ∀ {z5 : Int32} {h : gH} {n : Nat} {H : Heap} {locs : List Loc} {ls : Array Slot} {cells slots : Nat}, r28 z5 h n = some (1 : Int32) → gI x base s.heap h n H locs → lv_has ls 10 [(0, .ref zb), (1, .ref z1), (2, .ref z2), (3, .ref z3), (4, .ref z4), (5, .int z5)] → (cells + b28 ≤ 1200144 ∧ slots + d28 ≤ 5496442) → W p l e room_1 s m args below meth c H locs cells slots (lw_Z below args s) (F0 m 28 ls [])) {H : Heap} {locs : List Loc} {ls : Array Slot} {cells slots : Nat} (hr : f_L_law_J2884 x zL zx r28 z1 z2 z3 z4 z5 h n = some (1 : Int32)) (hI : gI x base s.heap h n H locs) (hl : lv_has ls 10 [(0, .ref zb), (1, .ref z1), (2, .ref z2), (3, .ref z3), (4, .ref z4), (5, .int z5)]) (hcc : cells + (0 + b28) ≤ 1200144 ∧ slots + (0 + d28) ≤ 5496442) : W p l e room_1 s m args below meth c H locs cells slots (lw_Z below args s) (F0 m 2884 ls []) := by
  have hx := X.1
  have hb := X.2.1
  unfold f_L_law_J2884 at hr
  refine lv_iinc (v := (z5 + (6 : Int32))) (lv' := [(5, .int (z5 + (6 : Int32))), (0, .ref zb), (1, .ref z1), (2, .ref z2), (3, .ref z3), (4, .ref z4)]) hx hb dL_law_2884 hl (k := 5) rfl (g_inc (by decide)) (by decide) rfl (fun ls hl => ?_)
  refine lv_goto (tgt := 28) hx hb dL_law_2887 (by decide) ?_
  exact Hr28 hr hI (lv_sub hl [1, 2, 3, 4, 5, 0] rfl) (by omega)
set_option maxHeartbeats 2000000 in
theorem w_L_law_J288 {h : gH} {n : Nat} {r28 : Int32 → gH → Nat → Option Int32} {z1 : Nat} {z2 : Nat} {z3 : Nat} {z4 : Nat} {b28 : Nat} {d28 : Nat} {z5 : Int32} (X : gXX x base RX0 cL_law 10 (some .boolean) p l s m args meth c) (hst : l.stackTraces = false) (hsc : va_X zb zL zx s s.heap) (hsb : zb < s.heap.size) (hbs : base = s.heap.size) (Hr28 : ∀ {z5 : Int32} {h : gH} {n : Nat} {H : Heap} {locs : List Loc} {ls : Array Slot} {cells slots : Nat}, r28 z5 h n = some (1 : Int32) → gI x base s.heap h n H locs → lv_has ls 10 [(0, .ref zb), (1, .ref z1), (2, .ref z2), (3, .ref z3), (4, .ref z4), (5, .int z5)] → (cells + b28 ≤ 1200144 ∧ slots + d28 ≤ 5496442) → W p l e room_1 s m args below meth c H locs cells slots (lw_Z below args s) (F0 m 28 ls [])) {H : Heap} {locs : List Loc} {ls : Array Slot} {cells slots : Nat} (hr : f_L_law_J288 x zL zx r28 z1 z2 z3 z4 z5 h n = some (1 : Int32)) (hI : gI x base s.heap h n H locs) (hl : lv_has ls 10 [(0, .ref zb), (1, .ref z1), (2, .ref z2), (3, .ref z3), (4, .ref z4), (5, .int z5)]) (hcc : cells + (1 + b28) ≤ 1200144 ∧ slots + (6 + d28) ≤ 5496442) : W p l e room_1 s m args below meth c H locs cells slots (lw_Z below args s) (F0 m 288 ls []) := by
  have hx := X.1
  have hb := X.2.1
  unfold f_L_law_J288 at hr
  refine lv_aload_n hx hb dL_law_288 rfl (lv_at hl 1 rfl) ?_
  refine lv_aload_n hx hb dL_law_289 rfl (lv_at hl 0 rfl) ?_
  refine lv_iload hx hb dL_law_290 (lv_at hl 5 rfl) ?_
  refine lv_iconst (v := 1) hx hb dL_law_292 (by decide) ?_
  refine lv_iadd hx hb dL_law_293 ?_
  refine g_sld X hI hsc hsb hbs hr dL_law_294 (fun v26 hr => ?_)
  refine lv_aload_n hx hb dL_law_295 rfl (lv_at hl 0 rfl) ?_
  refine lv_iload hx hb dL_law_296 (lv_at hl 5 rfl) ?_
  refine lv_iconst (v := 2) hx hb dL_law_298 (by decide) ?_
  refine lv_iadd hx hb dL_law_299 ?_
  refine g_sld X hI hsc hsb hbs hr dL_law_300 (fun v27 hr => ?_)
  refine lv_aload_n hx hb dL_law_301 rfl (lv_at hl 0 rfl) ?_
  refine lv_iload hx hb dL_law_302 (lv_at hl 5 rfl) ?_
  refine lv_iconst (v := 3) hx hb dL_law_304 (by decide) ?_
  refine lv_iadd hx hb dL_law_305 ?_
  refine g_sld X hI hsc hsb hbs hr dL_law_306 (fun v28 hr => ?_)
  refine lv_aload_n hx hb dL_law_307 rfl (lv_at hl 0 rfl) ?_
  refine lv_iload hx hb dL_law_308 (lv_at hl 5 rfl) ?_
  refine lv_iconst (v := 4) hx hb dL_law_310 (by decide) ?_
  refine lv_iadd hx hb dL_law_311 ?_
  refine g_sld X hI hsc hsb hbs hr dL_law_312 (fun v29 hr => ?_)
  refine lv_aload_n hx hb dL_law_313 rfl (lv_at hl 0 rfl) ?_
  refine lv_iload hx hb dL_law_314 (lv_at hl 5 rfl) ?_
  refine lv_iconst (v := 5) hx hb dL_law_316 (by decide) ?_
  refine lv_iadd hx hb dL_law_317 ?_
  refine g_sld X hI hsc hsb hbs hr dL_law_318 (fun v30 hr => ?_)
  refine lv_aload_n hx hb dL_law_319 rfl (lv_at hl 3 rfl) ?_
  rcases gTX_i hr with ⟨v32, h34, n35, hc31, hr⟩ | ⟨q33, h36, n37, hc31, hr⟩
  · refine gXRet_i (g_wrunS X hI (w_X0_append hst hc31) hl (lw_SW q1096 q1097 q95 q1098) rfl rfl hd_X0_append ⟨Nat.le_of_ble_eq_true rfl, Nat.le_of_ble_eq_true rfl⟩ (as := [.ref z1, .int v26, .int v27, .int v28, .int v29, .int v30, .ref z3]) (rest := []) rfl rfl (Nat.le_of_ble_eq_true rfl) ⟨(show cells + 1 ≤ 1200144 from by omega), (show slots + 6 ≤ 5496442 from by omega)⟩ dL_law_320) (fun H locs hI => ?_)
    refine lv_istore (lv' := [(6, .int v32), (0, .ref zb), (1, .ref z1), (2, .ref z2), (3, .ref z3), (4, .ref z4), (5, .int z5)]) hx hb dL_law_323 hl (by decide) rfl (fun ls hl => ?_)
    refine lv_aload_n hx hb dL_law_325 rfl (lv_at hl 3 rfl) ?_
    refine lv_aload_n hx hb dL_law_326 rfl (lv_at hl 1 rfl) ?_
    refine lv_iload hx hb dL_law_327 (lv_at hl 6 rfl) ?_
    refine lv_iconst (v := 1) hx hb dL_law_329 (by decide) ?_
    refine lv_iadd hx hb dL_law_330 ?_
    refine g_sld X hI hsc hsb hbs hr dL_law_331 (fun v38 hr => ?_)
    refine lv_aload_n hx hb dL_law_332 rfl (lv_at hl 1 rfl) ?_
    refine lv_iload hx hb dL_law_333 (lv_at hl 6 rfl) ?_
    refine lv_iconst (v := 2) hx hb dL_law_335 (by decide) ?_
    refine lv_iadd hx hb dL_law_336 ?_
    refine g_sld X hI hsc hsb hbs hr dL_law_337 (fun v39 hr => ?_)
    refine lv_aload_n hx hb dL_law_338 rfl (lv_at hl 1 rfl) ?_
    refine lv_iload hx hb dL_law_339 (lv_at hl 6 rfl) ?_
    refine lv_iconst (v := 3) hx hb dL_law_341 (by decide) ?_
    refine lv_iadd hx hb dL_law_342 ?_
    refine g_sld X hI hsc hsb hbs hr dL_law_343 (fun v40 hr => ?_)
    refine lv_aload_n hx hb dL_law_344 rfl (lv_at hl 1 rfl) ?_
    refine lv_iload hx hb dL_law_345 (lv_at hl 6 rfl) ?_
    refine lv_iconst (v := 4) hx hb dL_law_347 (by decide) ?_
    refine lv_iadd hx hb dL_law_348 ?_
    refine g_sld X hI hsc hsb hbs hr dL_law_349 (fun v41 hr => ?_)
    refine lv_aload_n hx hb dL_law_350 rfl (lv_at hl 1 rfl) ?_
    refine lv_iload hx hb dL_law_351 (lv_at hl 6 rfl) ?_
    refine lv_iconst (v := 5) hx hb dL_law_353 (by decide) ?_
    refine lv_iadd hx hb dL_law_354 ?_
    refine g_sld X hI hsc hsb hbs hr dL_law_355 (fun v42 hr => ?_)
    obtain ⟨M43, hM44, hr⟩ := gB_i hr
    replace hI := hI.toM hM44
    obtain ⟨v46, aB_47, iL_48, iT_49, hc45, hr⟩ := gT4_i hr
    refine gRun_i (g_runV X hI (w_X6_append hc45) (g_obj_s mH_0) rfl hl (lw_V q1713 q1714 q1715 q122 q1716) rfl rfl hd_X6_append ⟨Nat.le_of_ble_eq_true rfl, Nat.le_of_ble_eq_true rfl⟩ (as := [.int v38, .int v39, .int v40, .int v41, .int v42]) (rest := []) rfl rfl (Nat.le_of_ble_eq_true rfl) ⟨(show (cells + 1) + 0 ≤ 1200144 from by omega), (show (slots + 6) + 0 ≤ 5496442 from by omega)⟩ dL_law_356) (fun H locs hI => ?_)
    refine lv_istore (lv' := [(7, .int v46), (6, .int v32), (0, .ref zb), (1, .ref z1), (2, .ref z2), (3, .ref z3), (4, .ref z4), (5, .int z5)]) hx hb dL_law_359 hl (by decide) rfl (fun ls hl => ?_)
    refine lv_aload_n hx hb dL_law_361 rfl (lv_at hl 4 rfl) ?_
    obtain ⟨v51, hc50, hr⟩ := gB_i hr
    refine gRun_i (g_runV X hI (w_X6_thrown hc50) (g_obj_s mH_0) rfl hl (lw_V q1584 q1585 q1586 q122 q1587) rfl rfl hd_X6_thrown ⟨Nat.le_of_ble_eq_true rfl, Nat.le_of_ble_eq_true rfl⟩ (as := []) (rest := []) rfl rfl (Nat.le_of_ble_eq_true rfl) ⟨(show ((cells + 1) + 0) + 0 ≤ 1200144 from by omega), (show ((slots + 6) + 0) + 0 ≤ 5496442 from by omega)⟩ dL_law_362) (fun H locs hI => ?_)
    refine lv_iload hx hb dL_law_365 (lv_at hl 1 rfl) ?_
    refine lv_icmp_eq (tgt := 372) hx hb dL_law_367 (by decide) (fun c9 => ?_) (fun c9 => ?_)
    · replace hr := gIf_t c9 hr
      refine lv_iload hx hb dL_law_372 (lv_at hl 1 rfl) ?_
      refine lv_if_ne (tgt := 389) hx hb dL_law_374 (by decide) (fun c9 => ?_) (fun c9 => ?_)
      · replace hr := gIf_f c9 hr
        refine lv_goto (tgt := 2884) hx hb dL_law_389 (by decide) ?_
        exact w_L_law_J2884 X hst hsc hsb hbs Hr28 hr hI (lv_sub hl [2, 3, 4, 5, 6, 7] rfl) (by omega)
      · replace hr := gIf_t c9 hr
        refine lv_aload_n hx hb dL_law_377 rfl (lv_at hl 5 rfl) ?_
        refine lv_iconst (v := 0) hx hb dL_law_378 (by decide) ?_
        refine g_lald X hI hr dL_law_379 (fun v52 hr => ?_)
        refine lv_iload hx hb dL_law_380 (lv_at hl 0 rfl) ?_
        refine lv_i2l hx hb dL_law_382 rfl ?_
        refine W.lcmp hx hb dL_law_383 ?_
        refine lv_if_eq (tgt := 389) hx hb dL_law_384 (by decide) (fun c9 => ?_) (fun c9 => ?_)
        · replace hr := gIf_t c9 hr
          refine lv_goto (tgt := 2884) hx hb dL_law_389 (by decide) ?_
          exact w_L_law_J2884 X hst hsc hsb hbs Hr28 hr hI (lv_sub hl [2, 3, 4, 5, 6, 7] rfl) (by omega)
        · replace hr := gIf_f c9 hr
          refine lv_iconst (v := 0) hx hb dL_law_387 (by decide) ?_
          exact absurd hr (by decide)
    · replace hr := gIf_f c9 hr
      refine lv_iconst (v := 0) hx hb dL_law_370 (by decide) ?_
      exact absurd hr (by decide)
  · exact nomatch hr
set_option maxHeartbeats 2000000 in
theorem w_L_law_J392 {h : gH} {n : Nat} {r28 : Int32 → gH → Nat → Option Int32} {z1 : Nat} {z2 : Nat} {z3 : Nat} {z4 : Nat} {b28 : Nat} {d28 : Nat} {z5 : Int32} (X : gXX x base RX0 cL_law 10 (some .boolean) p l s m args meth c) (hst : l.stackTraces = false) (hsc : va_X zb zL zx s s.heap) (hsb : zb < s.heap.size) (hbs : base = s.heap.size) (Hr28 : ∀ {z5 : Int32} {h : gH} {n : Nat} {H : Heap} {locs : List Loc} {ls : Array Slot} {cells slots : Nat}, r28 z5 h n = some (1 : Int32) → gI x base s.heap h n H locs → lv_has ls 10 [(0, .ref zb), (1, .ref z1), (2, .ref z2), (3, .ref z3), (4, .ref z4), (5, .int z5)] → (cells + b28 ≤ 1200144 ∧ slots + d28 ≤ 5496442) → W p l e room_1 s m args below meth c H locs cells slots (lw_Z below args s) (F0 m 28 ls [])) {H : Heap} {locs : List Loc} {ls : Array Slot} {cells slots : Nat} (hr : f_L_law_J392 x zL zx r28 z1 z2 z3 z4 z5 h n = some (1 : Int32)) (hI : gI x base s.heap h n H locs) (hl : lv_has ls 10 [(0, .ref zb), (1, .ref z1), (2, .ref z2), (3, .ref z3), (4, .ref z4), (5, .int z5)]) (hcc : cells + (1 + b28) ≤ 1200144 ∧ slots + (6 + d28) ≤ 5496442) : W p l e room_1 s m args below meth c H locs cells slots (lw_Z below args s) (F0 m 392 ls []) := by
  have hx := X.1
  have hb := X.2.1
  unfold f_L_law_J392 at hr
  refine lv_aload_n hx hb dL_law_392 rfl (lv_at hl 1 rfl) ?_
  refine lv_aload_n hx hb dL_law_393 rfl (lv_at hl 0 rfl) ?_
  refine lv_iload hx hb dL_law_394 (lv_at hl 5 rfl) ?_
  refine lv_iconst (v := 1) hx hb dL_law_396 (by decide) ?_
  refine lv_iadd hx hb dL_law_397 ?_
  refine g_sld X hI hsc hsb hbs hr dL_law_398 (fun v53 hr => ?_)
  refine lv_aload_n hx hb dL_law_399 rfl (lv_at hl 3 rfl) ?_
  rcases gTX_i hr with ⟨v55, h57, n58, hc54, hr⟩ | ⟨q56, h59, n60, hc54, hr⟩
  · refine gXRet_i (g_wrunS X hI (w_X0_truncate hst hc54) hl (lw_SW q1113 q1114 q95 q1115) rfl rfl hd_X0_truncate ⟨Nat.le_of_ble_eq_true rfl, Nat.le_of_ble_eq_true rfl⟩ (as := [.ref z1, .int v53, .ref z3]) (rest := []) rfl rfl (Nat.le_of_ble_eq_true rfl) ⟨(show cells + 1 ≤ 1200144 from by omega), (show slots + 6 ≤ 5496442 from by omega)⟩ dL_law_400) (fun H locs hI => ?_)
    refine lv_istore (lv' := [(6, .int v55), (0, .ref zb), (1, .ref z1), (2, .ref z2), (3, .ref z3), (4, .ref z4), (5, .int z5)]) hx hb dL_law_403 hl (by decide) rfl (fun ls hl => ?_)
    refine lv_aload_n hx hb dL_law_405 rfl (lv_at hl 3 rfl) ?_
    refine lv_aload_n hx hb dL_law_406 rfl (lv_at hl 1 rfl) ?_
    refine lv_iload hx hb dL_law_407 (lv_at hl 6 rfl) ?_
    refine lv_iconst (v := 1) hx hb dL_law_409 (by decide) ?_
    refine lv_iadd hx hb dL_law_410 ?_
    refine g_sld X hI hsc hsb hbs hr dL_law_411 (fun v61 hr => ?_)
    obtain ⟨M62, hM63, hr⟩ := gB_i hr
    replace hI := hI.toM hM63
    obtain ⟨v65, iL_66, iT_67, hc64, hr⟩ := gT3_i hr
    refine gRun_i (g_runV X hI (w_X6_truncate hc64) (g_obj_s mH_0) rfl hl (lw_V q1725 q1726 q1727 q122 q1728) rfl rfl hd_X6_truncate ⟨Nat.le_of_ble_eq_true rfl, Nat.le_of_ble_eq_true rfl⟩ (as := [.int v61]) (rest := []) rfl rfl (Nat.le_of_ble_eq_true rfl) ⟨(show (cells + 1) + 0 ≤ 1200144 from by omega), (show (slots + 6) + 0 ≤ 5496442 from by omega)⟩ dL_law_412) (fun H locs hI => ?_)
    refine lv_istore (lv' := [(7, .int v65), (6, .int v55), (0, .ref zb), (1, .ref z1), (2, .ref z2), (3, .ref z3), (4, .ref z4), (5, .int z5)]) hx hb dL_law_415 hl (by decide) rfl (fun ls hl => ?_)
    refine lv_aload_n hx hb dL_law_417 rfl (lv_at hl 4 rfl) ?_
    obtain ⟨v69, hc68, hr⟩ := gB_i hr
    refine gRun_i (g_runV X hI (w_X6_thrown hc68) (g_obj_s mH_0) rfl hl (lw_V q1584 q1585 q1586 q122 q1587) rfl rfl hd_X6_thrown ⟨Nat.le_of_ble_eq_true rfl, Nat.le_of_ble_eq_true rfl⟩ (as := []) (rest := []) rfl rfl (Nat.le_of_ble_eq_true rfl) ⟨(show ((cells + 1) + 0) + 0 ≤ 1200144 from by omega), (show ((slots + 6) + 0) + 0 ≤ 5496442 from by omega)⟩ dL_law_418) (fun H locs hI => ?_)
    refine lv_iload hx hb dL_law_421 (lv_at hl 1 rfl) ?_
    refine lv_icmp_eq (tgt := 428) hx hb dL_law_423 (by decide) (fun c9 => ?_) (fun c9 => ?_)
    · replace hr := gIf_t c9 hr
      refine lv_iload hx hb dL_law_428 (lv_at hl 1 rfl) ?_
      refine lv_if_ne (tgt := 445) hx hb dL_law_430 (by decide) (fun c9 => ?_) (fun c9 => ?_)
      · replace hr := gIf_f c9 hr
        refine lv_goto (tgt := 2884) hx hb dL_law_445 (by decide) ?_
        exact w_L_law_J2884 X hst hsc hsb hbs Hr28 hr hI (lv_sub hl [2, 3, 4, 5, 6, 7] rfl) (by omega)
      · replace hr := gIf_t c9 hr
        refine lv_aload_n hx hb dL_law_433 rfl (lv_at hl 5 rfl) ?_
        refine lv_iconst (v := 0) hx hb dL_law_434 (by decide) ?_
        refine g_lald X hI hr dL_law_435 (fun v70 hr => ?_)
        refine lv_iload hx hb dL_law_436 (lv_at hl 0 rfl) ?_
        refine lv_i2l hx hb dL_law_438 rfl ?_
        refine W.lcmp hx hb dL_law_439 ?_
        refine lv_if_eq (tgt := 445) hx hb dL_law_440 (by decide) (fun c9 => ?_) (fun c9 => ?_)
        · replace hr := gIf_t c9 hr
          refine lv_goto (tgt := 2884) hx hb dL_law_445 (by decide) ?_
          exact w_L_law_J2884 X hst hsc hsb hbs Hr28 hr hI (lv_sub hl [2, 3, 4, 5, 6, 7] rfl) (by omega)
        · replace hr := gIf_f c9 hr
          refine lv_iconst (v := 0) hx hb dL_law_443 (by decide) ?_
          exact absurd hr (by decide)
    · replace hr := gIf_f c9 hr
      refine lv_iconst (v := 0) hx hb dL_law_426 (by decide) ?_
      exact absurd hr (by decide)
  · exact nomatch hr
set_option maxHeartbeats 2000000 in
theorem w_L_law_J448 {h : gH} {n : Nat} {r28 : Int32 → gH → Nat → Option Int32} {z1 : Nat} {z2 : Nat} {z3 : Nat} {z4 : Nat} {b28 : Nat} {d28 : Nat} {z5 : Int32} (X : gXX x base RX0 cL_law 10 (some .boolean) p l s m args meth c) (hst : l.stackTraces = false) (hsc : va_X zb zL zx s s.heap) (hsb : zb < s.heap.size) (hbs : base = s.heap.size) (Hr28 : ∀ {z5 : Int32} {h : gH} {n : Nat} {H : Heap} {locs : List Loc} {ls : Array Slot} {cells slots : Nat}, r28 z5 h n = some (1 : Int32) → gI x base s.heap h n H locs → lv_has ls 10 [(0, .ref zb), (1, .ref z1), (2, .ref z2), (3, .ref z3), (4, .ref z4), (5, .int z5)] → (cells + b28 ≤ 1200144 ∧ slots + d28 ≤ 5496442) → W p l e room_1 s m args below meth c H locs cells slots (lw_Z below args s) (F0 m 28 ls [])) {H : Heap} {locs : List Loc} {ls : Array Slot} {cells slots : Nat} (hr : f_L_law_J448 x zL zx r28 z1 z2 z3 z4 z5 h n = some (1 : Int32)) (hI : gI x base s.heap h n H locs) (hl : lv_has ls 10 [(0, .ref zb), (1, .ref z1), (2, .ref z2), (3, .ref z3), (4, .ref z4), (5, .int z5)]) (hcc : cells + (298 + b28) ≤ 1200144 ∧ slots + (2615 + d28) ≤ 5496442) : W p l e room_1 s m args below meth c H locs cells slots (lw_Z below args s) (F0 m 448 ls []) := by
  have hx := X.1
  have hb := X.2.1
  unfold f_L_law_J448 at hr
  refine lv_aload_n hx hb dL_law_448 rfl (lv_at hl 1 rfl) ?_
  refine lv_aload_n hx hb dL_law_449 rfl (lv_at hl 3 rfl) ?_
  rcases gTX_i hr with ⟨v72, h74, n75, hc71, hr⟩ | ⟨q73, h76, n77, hc71, hr⟩
  · refine gXRet_i (g_wrunS X hI (w_X0_load hst hc71) hl (lw_SW q1126 q1127 q95 q1128) rfl rfl hd_X0_load ⟨Nat.le_of_ble_eq_true rfl, Nat.le_of_ble_eq_true rfl⟩ (as := [.ref z1, .ref z3]) (rest := []) rfl rfl (Nat.le_of_ble_eq_true rfl) ⟨(show cells + 298 ≤ 1200144 from by omega), (show slots + 2615 ≤ 5496442 from by omega)⟩ dL_law_450) (fun H locs hI => ?_)
    refine lv_istore (lv' := [(6, .int v72), (0, .ref zb), (1, .ref z1), (2, .ref z2), (3, .ref z3), (4, .ref z4), (5, .int z5)]) hx hb dL_law_453 hl (by decide) rfl (fun ls hl => ?_)
    refine lv_aload_n hx hb dL_law_455 rfl (lv_at hl 3 rfl) ?_
    obtain ⟨M78, hM79, hr⟩ := gB_i hr
    replace hI := hI.toM hM79
    obtain ⟨v81, aM_82, aS_83, iU_84, iL_85, iE_86, iP_87, iT_88, iA_89, iY_90, iF_91, iV_92, hc80, hr⟩ := gT12_i hr
    refine gRun_i (g_runV X hI (w_X6_load hc80) (g_obj_s mH_0) rfl hl (lw_V q1729 q1730 q1731 q122 q1732) rfl rfl hd_X6_load ⟨Nat.le_of_ble_eq_true rfl, Nat.le_of_ble_eq_true rfl⟩ (as := []) (rest := []) rfl rfl (Nat.le_of_ble_eq_true rfl) ⟨(show (cells + 298) + 0 ≤ 1200144 from by omega), (show (slots + 2615) + 0 ≤ 5496442 from by omega)⟩ dL_law_456) (fun H locs hI => ?_)
    refine lv_istore (lv' := [(7, .int v81), (6, .int v72), (0, .ref zb), (1, .ref z1), (2, .ref z2), (3, .ref z3), (4, .ref z4), (5, .int z5)]) hx hb dL_law_459 hl (by decide) rfl (fun ls hl => ?_)
    refine lv_aload_n hx hb dL_law_461 rfl (lv_at hl 4 rfl) ?_
    obtain ⟨v94, hc93, hr⟩ := gB_i hr
    refine gRun_i (g_runV X hI (w_X6_thrown hc93) (g_obj_s mH_0) rfl hl (lw_V q1584 q1585 q1586 q122 q1587) rfl rfl hd_X6_thrown ⟨Nat.le_of_ble_eq_true rfl, Nat.le_of_ble_eq_true rfl⟩ (as := []) (rest := []) rfl rfl (Nat.le_of_ble_eq_true rfl) ⟨(show ((cells + 298) + 0) + 0 ≤ 1200144 from by omega), (show ((slots + 2615) + 0) + 0 ≤ 5496442 from by omega)⟩ dL_law_462) (fun H locs hI => ?_)
    refine lv_iload hx hb dL_law_465 (lv_at hl 1 rfl) ?_
    refine lv_icmp_eq (tgt := 472) hx hb dL_law_467 (by decide) (fun c9 => ?_) (fun c9 => ?_)
    · replace hr := gIf_t c9 hr
      refine lv_iload hx hb dL_law_472 (lv_at hl 1 rfl) ?_
      refine lv_if_ne (tgt := 489) hx hb dL_law_474 (by decide) (fun c9 => ?_) (fun c9 => ?_)
      · replace hr := gIf_f c9 hr
        refine lv_goto (tgt := 2884) hx hb dL_law_489 (by decide) ?_
        exact w_L_law_J2884 X hst hsc hsb hbs Hr28 hr hI (lv_sub hl [2, 3, 4, 5, 6, 7] rfl) (by omega)
      · replace hr := gIf_t c9 hr
        refine lv_aload_n hx hb dL_law_477 rfl (lv_at hl 5 rfl) ?_
        refine lv_iconst (v := 0) hx hb dL_law_478 (by decide) ?_
        refine g_lald X hI hr dL_law_479 (fun v95 hr => ?_)
        refine lv_iload hx hb dL_law_480 (lv_at hl 0 rfl) ?_
        refine lv_i2l hx hb dL_law_482 rfl ?_
        refine W.lcmp hx hb dL_law_483 ?_
        refine lv_if_eq (tgt := 489) hx hb dL_law_484 (by decide) (fun c9 => ?_) (fun c9 => ?_)
        · replace hr := gIf_t c9 hr
          refine lv_goto (tgt := 2884) hx hb dL_law_489 (by decide) ?_
          exact w_L_law_J2884 X hst hsc hsb hbs Hr28 hr hI (lv_sub hl [2, 3, 4, 5, 6, 7] rfl) (by omega)
        · replace hr := gIf_f c9 hr
          refine lv_iconst (v := 0) hx hb dL_law_487 (by decide) ?_
          exact absurd hr (by decide)
    · replace hr := gIf_f c9 hr
      refine lv_iconst (v := 0) hx hb dL_law_470 (by decide) ?_
      exact absurd hr (by decide)
  · exact nomatch hr
set_option maxHeartbeats 2000000 in
theorem w_L_law_J492 {h : gH} {n : Nat} {r28 : Int32 → gH → Nat → Option Int32} {z1 : Nat} {z2 : Nat} {z3 : Nat} {z4 : Nat} {b28 : Nat} {d28 : Nat} {z5 : Int32} (X : gXX x base RX0 cL_law 10 (some .boolean) p l s m args meth c) (hst : l.stackTraces = false) (hsc : va_X zb zL zx s s.heap) (hsb : zb < s.heap.size) (hbs : base = s.heap.size) (Hr28 : ∀ {z5 : Int32} {h : gH} {n : Nat} {H : Heap} {locs : List Loc} {ls : Array Slot} {cells slots : Nat}, r28 z5 h n = some (1 : Int32) → gI x base s.heap h n H locs → lv_has ls 10 [(0, .ref zb), (1, .ref z1), (2, .ref z2), (3, .ref z3), (4, .ref z4), (5, .int z5)] → (cells + b28 ≤ 1200144 ∧ slots + d28 ≤ 5496442) → W p l e room_1 s m args below meth c H locs cells slots (lw_Z below args s) (F0 m 28 ls [])) {H : Heap} {locs : List Loc} {ls : Array Slot} {cells slots : Nat} (hr : f_L_law_J492 x zL zx r28 z1 z2 z3 z4 z5 h n = some (1 : Int32)) (hI : gI x base s.heap h n H locs) (hl : lv_has ls 10 [(0, .ref zb), (1, .ref z1), (2, .ref z2), (3, .ref z3), (4, .ref z4), (5, .int z5)]) (hcc : cells + (0 + b28) ≤ 1200144 ∧ slots + (0 + d28) ≤ 5496442) : W p l e room_1 s m args below meth c H locs cells slots (lw_Z below args s) (F0 m 492 ls []) := by
  have hx := X.1
  have hb := X.2.1
  unfold f_L_law_J492 at hr
  refine lv_aload_n hx hb dL_law_492 rfl (lv_at hl 1 rfl) ?_
  obtain ⟨_, ho96, hr⟩ := gB_i hr
  obtain ⟨v98, hc97, hr⟩ := gB_i hr
  refine gRun_i (g_runV X hI (w_X1_errorCode hc97) ho96 rfl hl (lw_V q788 q789 q790 q96 q791) rfl rfl hd_X1_errorCode ⟨Nat.le_of_ble_eq_true rfl, Nat.le_of_ble_eq_true rfl⟩ (as := []) (rest := []) rfl rfl (Nat.le_of_ble_eq_true rfl) ⟨(show cells + 0 ≤ 1200144 from by omega), (show slots + 0 ≤ 5496442 from by omega)⟩ dL_law_493) (fun H locs hI => ?_)
  refine lv_aload_n hx hb dL_law_496 rfl (lv_at hl 2 rfl) ?_
  obtain ⟨M99, hM100, hr⟩ := gB_i hr
  replace hI := hI.toM hM100
  obtain ⟨v102, iT_103, hc101, hr⟩ := gT2_i hr
  refine gRun_i (g_runV X hI (w_X6_errorCode hc101) (g_obj_s mH_0) rfl hl (lw_V q1872 q1873 q1874 q122 q1875) rfl rfl hd_X6_errorCode ⟨Nat.le_of_ble_eq_true rfl, Nat.le_of_ble_eq_true rfl⟩ (as := []) (rest := [.int v98]) rfl rfl (Nat.le_of_ble_eq_true rfl) ⟨(show (cells + 0) + 0 ≤ 1200144 from by omega), (show (slots + 0) + 0 ≤ 5496442 from by omega)⟩ dL_law_497) (fun H locs hI => ?_)
  refine lv_icmp_eq (tgt := 2884) hx hb dL_law_500 (by decide) (fun c9 => ?_) (fun c9 => ?_)
  · replace hr := gIf_t c9 hr
    exact w_L_law_J2884 X hst hsc hsb hbs Hr28 hr hI (lv_sub hl [0, 1, 2, 3, 4, 5] rfl) (by omega)
  · replace hr := gIf_f c9 hr
    refine lv_iconst (v := 0) hx hb dL_law_503 (by decide) ?_
    exact absurd hr (by decide)
set_option maxHeartbeats 2000000 in
theorem w_L_law_J505 {h : gH} {n : Nat} {r28 : Int32 → gH → Nat → Option Int32} {z1 : Nat} {z2 : Nat} {z3 : Nat} {z4 : Nat} {b28 : Nat} {d28 : Nat} {z5 : Int32} (X : gXX x base RX0 cL_law 10 (some .boolean) p l s m args meth c) (hst : l.stackTraces = false) (hsc : va_X zb zL zx s s.heap) (hsb : zb < s.heap.size) (hbs : base = s.heap.size) (Hr28 : ∀ {z5 : Int32} {h : gH} {n : Nat} {H : Heap} {locs : List Loc} {ls : Array Slot} {cells slots : Nat}, r28 z5 h n = some (1 : Int32) → gI x base s.heap h n H locs → lv_has ls 10 [(0, .ref zb), (1, .ref z1), (2, .ref z2), (3, .ref z3), (4, .ref z4), (5, .int z5)] → (cells + b28 ≤ 1200144 ∧ slots + d28 ≤ 5496442) → W p l e room_1 s m args below meth c H locs cells slots (lw_Z below args s) (F0 m 28 ls [])) {H : Heap} {locs : List Loc} {ls : Array Slot} {cells slots : Nat} (hr : f_L_law_J505 x zL zx r28 z1 z2 z3 z4 z5 h n = some (1 : Int32)) (hI : gI x base s.heap h n H locs) (hl : lv_has ls 10 [(0, .ref zb), (1, .ref z1), (2, .ref z2), (3, .ref z3), (4, .ref z4), (5, .int z5)]) (hcc : cells + (0 + b28) ≤ 1200144 ∧ slots + (0 + d28) ≤ 5496442) : W p l e room_1 s m args below meth c H locs cells slots (lw_Z below args s) (F0 m 505 ls []) := by
  have hx := X.1
  have hb := X.2.1
  unfold f_L_law_J505 at hr
  refine lv_aload_n hx hb dL_law_505 rfl (lv_at hl 1 rfl) ?_
  obtain ⟨_, ho104, hr⟩ := gB_i hr
  obtain ⟨v106, hc105, hr⟩ := gB_i hr
  refine gRun_i (g_runV X hI (w_X1_errorPosition hc105) ho104 rfl hl (lw_V q792 q793 q794 q96 q795) rfl rfl hd_X1_errorPosition ⟨Nat.le_of_ble_eq_true rfl, Nat.le_of_ble_eq_true rfl⟩ (as := []) (rest := []) rfl rfl (Nat.le_of_ble_eq_true rfl) ⟨(show cells + 0 ≤ 1200144 from by omega), (show slots + 0 ≤ 5496442 from by omega)⟩ dL_law_506) (fun H locs hI => ?_)
  refine lv_aload_n hx hb dL_law_509 rfl (lv_at hl 2 rfl) ?_
  obtain ⟨M107, hM108, hr⟩ := gB_i hr
  replace hI := hI.toM hM108
  obtain ⟨v110, iT_111, hc109, hr⟩ := gT2_i hr
  refine gRun_i (g_runV X hI (w_X6_errorPosition hc109) (g_obj_s mH_0) rfl hl (lw_V q1876 q1877 q1878 q122 q1879) rfl rfl hd_X6_errorPosition ⟨Nat.le_of_ble_eq_true rfl, Nat.le_of_ble_eq_true rfl⟩ (as := []) (rest := [.int v106]) rfl rfl (Nat.le_of_ble_eq_true rfl) ⟨(show (cells + 0) + 0 ≤ 1200144 from by omega), (show (slots + 0) + 0 ≤ 5496442 from by omega)⟩ dL_law_510) (fun H locs hI => ?_)
  refine lv_icmp_eq (tgt := 2884) hx hb dL_law_513 (by decide) (fun c9 => ?_) (fun c9 => ?_)
  · replace hr := gIf_t c9 hr
    exact w_L_law_J2884 X hst hsc hsb hbs Hr28 hr hI (lv_sub hl [0, 1, 2, 3, 4, 5] rfl) (by omega)
  · replace hr := gIf_f c9 hr
    refine lv_iconst (v := 0) hx hb dL_law_516 (by decide) ?_
    exact absurd hr (by decide)
set_option maxHeartbeats 2000000 in
theorem w_L_law_J518 {h : gH} {n : Nat} {r28 : Int32 → gH → Nat → Option Int32} {z1 : Nat} {z2 : Nat} {z3 : Nat} {z4 : Nat} {b28 : Nat} {d28 : Nat} {z5 : Int32} (X : gXX x base RX0 cL_law 10 (some .boolean) p l s m args meth c) (hst : l.stackTraces = false) (hsc : va_X zb zL zx s s.heap) (hsb : zb < s.heap.size) (hbs : base = s.heap.size) (Hr28 : ∀ {z5 : Int32} {h : gH} {n : Nat} {H : Heap} {locs : List Loc} {ls : Array Slot} {cells slots : Nat}, r28 z5 h n = some (1 : Int32) → gI x base s.heap h n H locs → lv_has ls 10 [(0, .ref zb), (1, .ref z1), (2, .ref z2), (3, .ref z3), (4, .ref z4), (5, .int z5)] → (cells + b28 ≤ 1200144 ∧ slots + d28 ≤ 5496442) → W p l e room_1 s m args below meth c H locs cells slots (lw_Z below args s) (F0 m 28 ls [])) {H : Heap} {locs : List Loc} {ls : Array Slot} {cells slots : Nat} (hr : f_L_law_J518 x zL zx r28 z1 z2 z3 z4 z5 h n = some (1 : Int32)) (hI : gI x base s.heap h n H locs) (hl : lv_has ls 10 [(0, .ref zb), (1, .ref z1), (2, .ref z2), (3, .ref z3), (4, .ref z4), (5, .int z5)]) (hcc : cells + (0 + b28) ≤ 1200144 ∧ slots + (0 + d28) ≤ 5496442) : W p l e room_1 s m args below meth c H locs cells slots (lw_Z below args s) (F0 m 518 ls []) := by
  have hx := X.1
  have hb := X.2.1
  unfold f_L_law_J518 at hr
  refine lv_aload_n hx hb dL_law_518 rfl (lv_at hl 1 rfl) ?_
  obtain ⟨_, ho112, hr⟩ := gB_i hr
  obtain ⟨v114, hc113, hr⟩ := gB_i hr
  refine gRun_i (g_runV X hI (w_X1_cellCount hc113) ho112 rfl hl (lw_V q796 q797 q798 q96 q799) rfl rfl hd_X1_cellCount ⟨Nat.le_of_ble_eq_true rfl, Nat.le_of_ble_eq_true rfl⟩ (as := []) (rest := []) rfl rfl (Nat.le_of_ble_eq_true rfl) ⟨(show cells + 0 ≤ 1200144 from by omega), (show slots + 0 ≤ 5496442 from by omega)⟩ dL_law_519) (fun H locs hI => ?_)
  refine lv_aload_n hx hb dL_law_522 rfl (lv_at hl 2 rfl) ?_
  obtain ⟨M115, hM116, hr⟩ := gB_i hr
  replace hI := hI.toM hM116
  obtain ⟨v118, iT_119, hc117, hr⟩ := gT2_i hr
  refine gRun_i (g_runV X hI (w_X6_cellCount hc117) (g_obj_s mH_0) rfl hl (lw_V q1880 q1881 q1882 q122 q1883) rfl rfl hd_X6_cellCount ⟨Nat.le_of_ble_eq_true rfl, Nat.le_of_ble_eq_true rfl⟩ (as := []) (rest := [.int v114]) rfl rfl (Nat.le_of_ble_eq_true rfl) ⟨(show (cells + 0) + 0 ≤ 1200144 from by omega), (show (slots + 0) + 0 ≤ 5496442 from by omega)⟩ dL_law_523) (fun H locs hI => ?_)
  refine lv_icmp_eq (tgt := 2884) hx hb dL_law_526 (by decide) (fun c9 => ?_) (fun c9 => ?_)
  · replace hr := gIf_t c9 hr
    exact w_L_law_J2884 X hst hsc hsb hbs Hr28 hr hI (lv_sub hl [0, 1, 2, 3, 4, 5] rfl) (by omega)
  · replace hr := gIf_f c9 hr
    refine lv_iconst (v := 0) hx hb dL_law_529 (by decide) ?_
    exact absurd hr (by decide)
set_option maxHeartbeats 2000000 in
theorem w_L_law_J531 {h : gH} {n : Nat} {r28 : Int32 → gH → Nat → Option Int32} {z1 : Nat} {z2 : Nat} {z3 : Nat} {z4 : Nat} {b28 : Nat} {d28 : Nat} {z5 : Int32} (X : gXX x base RX0 cL_law 10 (some .boolean) p l s m args meth c) (hst : l.stackTraces = false) (hsc : va_X zb zL zx s s.heap) (hsb : zb < s.heap.size) (hbs : base = s.heap.size) (Hr28 : ∀ {z5 : Int32} {h : gH} {n : Nat} {H : Heap} {locs : List Loc} {ls : Array Slot} {cells slots : Nat}, r28 z5 h n = some (1 : Int32) → gI x base s.heap h n H locs → lv_has ls 10 [(0, .ref zb), (1, .ref z1), (2, .ref z2), (3, .ref z3), (4, .ref z4), (5, .int z5)] → (cells + b28 ≤ 1200144 ∧ slots + d28 ≤ 5496442) → W p l e room_1 s m args below meth c H locs cells slots (lw_Z below args s) (F0 m 28 ls [])) {H : Heap} {locs : List Loc} {ls : Array Slot} {cells slots : Nat} (hr : f_L_law_J531 x zL zx r28 z1 z2 z3 z4 z5 h n = some (1 : Int32)) (hI : gI x base s.heap h n H locs) (hl : lv_has ls 10 [(0, .ref zb), (1, .ref z1), (2, .ref z2), (3, .ref z3), (4, .ref z4), (5, .int z5)]) (hcc : cells + (0 + b28) ≤ 1200144 ∧ slots + (0 + d28) ≤ 5496442) : W p l e room_1 s m args below meth c H locs cells slots (lw_Z below args s) (F0 m 531 ls []) := by
  have hx := X.1
  have hb := X.2.1
  unfold f_L_law_J531 at hr
  refine lv_aload_n hx hb dL_law_531 rfl (lv_at hl 1 rfl) ?_
  obtain ⟨_, ho120, hr⟩ := gB_i hr
  obtain ⟨v122, hc121, hr⟩ := gB_i hr
  refine gRun_i (g_runV X hI (w_X1_siblingCount hc121) ho120 rfl hl (lw_V q800 q801 q802 q96 q803) rfl rfl hd_X1_siblingCount ⟨Nat.le_of_ble_eq_true rfl, Nat.le_of_ble_eq_true rfl⟩ (as := []) (rest := []) rfl rfl (Nat.le_of_ble_eq_true rfl) ⟨(show cells + 0 ≤ 1200144 from by omega), (show slots + 0 ≤ 5496442 from by omega)⟩ dL_law_532) (fun H locs hI => ?_)
  refine lv_aload_n hx hb dL_law_535 rfl (lv_at hl 2 rfl) ?_
  obtain ⟨M123, hM124, hr⟩ := gB_i hr
  replace hI := hI.toM hM124
  obtain ⟨v126, iT_127, hc125, hr⟩ := gT2_i hr
  refine gRun_i (g_runV X hI (w_X6_siblingCount hc125) (g_obj_s mH_0) rfl hl (lw_V q1888 q1889 q1890 q122 q1891) rfl rfl hd_X6_siblingCount ⟨Nat.le_of_ble_eq_true rfl, Nat.le_of_ble_eq_true rfl⟩ (as := []) (rest := [.int v122]) rfl rfl (Nat.le_of_ble_eq_true rfl) ⟨(show (cells + 0) + 0 ≤ 1200144 from by omega), (show (slots + 0) + 0 ≤ 5496442 from by omega)⟩ dL_law_536) (fun H locs hI => ?_)
  refine lv_icmp_eq (tgt := 2884) hx hb dL_law_539 (by decide) (fun c9 => ?_) (fun c9 => ?_)
  · replace hr := gIf_t c9 hr
    exact w_L_law_J2884 X hst hsc hsb hbs Hr28 hr hI (lv_sub hl [0, 1, 2, 3, 4, 5] rfl) (by omega)
  · replace hr := gIf_f c9 hr
    refine lv_iconst (v := 0) hx hb dL_law_542 (by decide) ?_
    exact absurd hr (by decide)
set_option maxHeartbeats 2000000 in
theorem w_L_law_J544 {h : gH} {n : Nat} {r28 : Int32 → gH → Nat → Option Int32} {z1 : Nat} {z2 : Nat} {z3 : Nat} {z4 : Nat} {b28 : Nat} {d28 : Nat} {z5 : Int32} (X : gXX x base RX0 cL_law 10 (some .boolean) p l s m args meth c) (hst : l.stackTraces = false) (hsc : va_X zb zL zx s s.heap) (hsb : zb < s.heap.size) (hbs : base = s.heap.size) (Hr28 : ∀ {z5 : Int32} {h : gH} {n : Nat} {H : Heap} {locs : List Loc} {ls : Array Slot} {cells slots : Nat}, r28 z5 h n = some (1 : Int32) → gI x base s.heap h n H locs → lv_has ls 10 [(0, .ref zb), (1, .ref z1), (2, .ref z2), (3, .ref z3), (4, .ref z4), (5, .int z5)] → (cells + b28 ≤ 1200144 ∧ slots + d28 ≤ 5496442) → W p l e room_1 s m args below meth c H locs cells slots (lw_Z below args s) (F0 m 28 ls [])) {H : Heap} {locs : List Loc} {ls : Array Slot} {cells slots : Nat} (hr : f_L_law_J544 x zL zx r28 z1 z2 z3 z4 z5 h n = some (1 : Int32)) (hI : gI x base s.heap h n H locs) (hl : lv_has ls 10 [(0, .ref zb), (1, .ref z1), (2, .ref z2), (3, .ref z3), (4, .ref z4), (5, .int z5)]) (hcc : cells + (6 + b28) ≤ 1200144 ∧ slots + (31 + d28) ≤ 5496442) : W p l e room_1 s m args below meth c H locs cells slots (lw_Z below args s) (F0 m 544 ls []) := by
  have hx := X.1
  have hb := X.2.1
  unfold f_L_law_J544 at hr
  refine lv_aload_n hx hb dL_law_544 rfl (lv_at hl 1 rfl) ?_
  refine lv_aload_n hx hb dL_law_545 rfl (lv_at hl 0 rfl) ?_
  refine lv_iload hx hb dL_law_546 (lv_at hl 5 rfl) ?_
  refine lv_iconst (v := 1) hx hb dL_law_548 (by decide) ?_
  refine lv_iadd hx hb dL_law_549 ?_
  refine g_sld X hI hsc hsb hbs hr dL_law_550 (fun v128 hr => ?_)
  refine lv_aload_n hx hb dL_law_551 rfl (lv_at hl 0 rfl) ?_
  refine lv_iload hx hb dL_law_552 (lv_at hl 5 rfl) ?_
  refine lv_iconst (v := 2) hx hb dL_law_554 (by decide) ?_
  refine lv_iadd hx hb dL_law_555 ?_
  refine g_sld X hI hsc hsb hbs hr dL_law_556 (fun v129 hr => ?_)
  refine lv_aload_n hx hb dL_law_557 rfl (lv_at hl 3 rfl) ?_
  rcases gTX_i hr with ⟨v131, h133, n134, hc130, hr⟩ | ⟨q132, h135, n136, hc130, hr⟩
  · refine gXRet_i (g_wrunS X hI (w_X0_nameByte hst hc130) hl (lw_SW q1144 q1145 q95 q1146) rfl rfl hd_X0_nameByte ⟨Nat.le_of_ble_eq_true rfl, Nat.le_of_ble_eq_true rfl⟩ (as := [.ref z1, .int v128, .int v129, .ref z3]) (rest := []) rfl rfl (Nat.le_of_ble_eq_true rfl) ⟨(show cells + 6 ≤ 1200144 from by omega), (show slots + 31 ≤ 5496442 from by omega)⟩ dL_law_558) (fun H locs hI => ?_)
    refine lv_istore (lv' := [(6, .int v131), (0, .ref zb), (1, .ref z1), (2, .ref z2), (3, .ref z3), (4, .ref z4), (5, .int z5)]) hx hb dL_law_561 hl (by decide) rfl (fun ls hl => ?_)
    refine lv_aload_n hx hb dL_law_563 rfl (lv_at hl 3 rfl) ?_
    refine lv_aload_n hx hb dL_law_564 rfl (lv_at hl 1 rfl) ?_
    refine lv_iload hx hb dL_law_565 (lv_at hl 6 rfl) ?_
    refine lv_iconst (v := 1) hx hb dL_law_567 (by decide) ?_
    refine lv_iadd hx hb dL_law_568 ?_
    refine g_sld X hI hsc hsb hbs hr dL_law_569 (fun v137 hr => ?_)
    refine lv_aload_n hx hb dL_law_570 rfl (lv_at hl 1 rfl) ?_
    refine lv_iload hx hb dL_law_571 (lv_at hl 6 rfl) ?_
    refine lv_iconst (v := 2) hx hb dL_law_573 (by decide) ?_
    refine lv_iadd hx hb dL_law_574 ?_
    refine g_sld X hI hsc hsb hbs hr dL_law_575 (fun v138 hr => ?_)
    obtain ⟨M139, hM140, hr⟩ := gB_i hr
    replace hI := hI.toM hM140
    obtain ⟨v142, iT_143, hc141, hr⟩ := gT2_i hr
    refine gRun_i (g_runV X hI (w_X6_nameByte hc141) (g_obj_s mH_0) rfl hl (lw_V q1892 q1893 q1894 q122 q1895) rfl rfl hd_X6_nameByte ⟨Nat.le_of_ble_eq_true rfl, Nat.le_of_ble_eq_true rfl⟩ (as := [.int v137, .int v138]) (rest := []) rfl rfl (Nat.le_of_ble_eq_true rfl) ⟨(show (cells + 6) + 0 ≤ 1200144 from by omega), (show (slots + 31) + 0 ≤ 5496442 from by omega)⟩ dL_law_576) (fun H locs hI => ?_)
    refine lv_istore (lv' := [(7, .int v142), (6, .int v131), (0, .ref zb), (1, .ref z1), (2, .ref z2), (3, .ref z3), (4, .ref z4), (5, .int z5)]) hx hb dL_law_579 hl (by decide) rfl (fun ls hl => ?_)
    refine lv_aload_n hx hb dL_law_581 rfl (lv_at hl 4 rfl) ?_
    obtain ⟨v145, hc144, hr⟩ := gB_i hr
    refine gRun_i (g_runV X hI (w_X6_thrown hc144) (g_obj_s mH_0) rfl hl (lw_V q1584 q1585 q1586 q122 q1587) rfl rfl hd_X6_thrown ⟨Nat.le_of_ble_eq_true rfl, Nat.le_of_ble_eq_true rfl⟩ (as := []) (rest := []) rfl rfl (Nat.le_of_ble_eq_true rfl) ⟨(show ((cells + 6) + 0) + 0 ≤ 1200144 from by omega), (show ((slots + 31) + 0) + 0 ≤ 5496442 from by omega)⟩ dL_law_582) (fun H locs hI => ?_)
    refine lv_iload hx hb dL_law_585 (lv_at hl 1 rfl) ?_
    refine lv_icmp_eq (tgt := 592) hx hb dL_law_587 (by decide) (fun c9 => ?_) (fun c9 => ?_)
    · replace hr := gIf_t c9 hr
      refine lv_iload hx hb dL_law_592 (lv_at hl 1 rfl) ?_
      refine lv_if_ne (tgt := 609) hx hb dL_law_594 (by decide) (fun c9 => ?_) (fun c9 => ?_)
      · replace hr := gIf_f c9 hr
        refine lv_goto (tgt := 2884) hx hb dL_law_609 (by decide) ?_
        exact w_L_law_J2884 X hst hsc hsb hbs Hr28 hr hI (lv_sub hl [2, 3, 4, 5, 6, 7] rfl) (by omega)
      · replace hr := gIf_t c9 hr
        refine lv_aload_n hx hb dL_law_597 rfl (lv_at hl 5 rfl) ?_
        refine lv_iconst (v := 0) hx hb dL_law_598 (by decide) ?_
        refine g_lald X hI hr dL_law_599 (fun v146 hr => ?_)
        refine lv_iload hx hb dL_law_600 (lv_at hl 0 rfl) ?_
        refine lv_i2l hx hb dL_law_602 rfl ?_
        refine W.lcmp hx hb dL_law_603 ?_
        refine lv_if_eq (tgt := 609) hx hb dL_law_604 (by decide) (fun c9 => ?_) (fun c9 => ?_)
        · replace hr := gIf_t c9 hr
          refine lv_goto (tgt := 2884) hx hb dL_law_609 (by decide) ?_
          exact w_L_law_J2884 X hst hsc hsb hbs Hr28 hr hI (lv_sub hl [2, 3, 4, 5, 6, 7] rfl) (by omega)
        · replace hr := gIf_f c9 hr
          refine lv_iconst (v := 0) hx hb dL_law_607 (by decide) ?_
          exact absurd hr (by decide)
    · replace hr := gIf_f c9 hr
      refine lv_iconst (v := 0) hx hb dL_law_590 (by decide) ?_
      exact absurd hr (by decide)
  · exact nomatch hr
set_option maxHeartbeats 2000000 in
theorem w_L_law_J612 {h : gH} {n : Nat} {r28 : Int32 → gH → Nat → Option Int32} {z1 : Nat} {z2 : Nat} {z3 : Nat} {z4 : Nat} {b28 : Nat} {d28 : Nat} {z5 : Int32} (X : gXX x base RX0 cL_law 10 (some .boolean) p l s m args meth c) (hst : l.stackTraces = false) (hsc : va_X zb zL zx s s.heap) (hsb : zb < s.heap.size) (hbs : base = s.heap.size) (Hr28 : ∀ {z5 : Int32} {h : gH} {n : Nat} {H : Heap} {locs : List Loc} {ls : Array Slot} {cells slots : Nat}, r28 z5 h n = some (1 : Int32) → gI x base s.heap h n H locs → lv_has ls 10 [(0, .ref zb), (1, .ref z1), (2, .ref z2), (3, .ref z3), (4, .ref z4), (5, .int z5)] → (cells + b28 ≤ 1200144 ∧ slots + d28 ≤ 5496442) → W p l e room_1 s m args below meth c H locs cells slots (lw_Z below args s) (F0 m 28 ls [])) {H : Heap} {locs : List Loc} {ls : Array Slot} {cells slots : Nat} (hr : f_L_law_J612 x zL zx r28 z1 z2 z3 z4 z5 h n = some (1 : Int32)) (hI : gI x base s.heap h n H locs) (hl : lv_has ls 10 [(0, .ref zb), (1, .ref z1), (2, .ref z2), (3, .ref z3), (4, .ref z4), (5, .int z5)]) (hcc : cells + (2 + b28) ≤ 1200144 ∧ slots + (606 + d28) ≤ 5496442) : W p l e room_1 s m args below meth c H locs cells slots (lw_Z below args s) (F0 m 612 ls []) := by
  have hx := X.1
  have hb := X.2.1
  unfold f_L_law_J612 at hr
  refine lv_aload_n hx hb dL_law_612 rfl (lv_at hl 1 rfl) ?_
  refine lv_aload_n hx hb dL_law_613 rfl (lv_at hl 3 rfl) ?_
  rcases gTX_i hr with ⟨v148, h150, n151, hc147, hr⟩ | ⟨q149, h152, n153, hc147, hr⟩
  · refine gXRet_i (g_wrunS X hI (w_X0_findSibling hst hc147) hl (lw_SW q1196 q1197 q95 q1198) rfl rfl hd_X0_findSibling ⟨Nat.le_of_ble_eq_true rfl, Nat.le_of_ble_eq_true rfl⟩ (as := [.ref z1, .ref z3]) (rest := []) rfl rfl (Nat.le_of_ble_eq_true rfl) ⟨(show cells + 2 ≤ 1200144 from by omega), (show slots + 606 ≤ 5496442 from by omega)⟩ dL_law_614) (fun H locs hI => ?_)
    refine lv_istore (lv' := [(6, .int v148), (0, .ref zb), (1, .ref z1), (2, .ref z2), (3, .ref z3), (4, .ref z4), (5, .int z5)]) hx hb dL_law_617 hl (by decide) rfl (fun ls hl => ?_)
    refine lv_aload_n hx hb dL_law_619 rfl (lv_at hl 3 rfl) ?_
    obtain ⟨M154, hM155, hr⟩ := gB_i hr
    replace hI := hI.toM hM155
    obtain ⟨v157, iT_158, hc156, hr⟩ := gT2_i hr
    refine gRun_i (g_runV X hI (w_X6_findSibling hc156) (g_obj_s mH_0) rfl hl (lw_V q1900 q1901 q1902 q122 q1903) rfl rfl hd_X6_findSibling ⟨Nat.le_of_ble_eq_true rfl, Nat.le_of_ble_eq_true rfl⟩ (as := []) (rest := []) rfl rfl (Nat.le_of_ble_eq_true rfl) ⟨(show (cells + 2) + 0 ≤ 1200144 from by omega), (show (slots + 606) + 0 ≤ 5496442 from by omega)⟩ dL_law_620) (fun H locs hI => ?_)
    refine lv_istore (lv' := [(7, .int v157), (6, .int v148), (0, .ref zb), (1, .ref z1), (2, .ref z2), (3, .ref z3), (4, .ref z4), (5, .int z5)]) hx hb dL_law_623 hl (by decide) rfl (fun ls hl => ?_)
    refine lv_aload_n hx hb dL_law_625 rfl (lv_at hl 4 rfl) ?_
    obtain ⟨v160, hc159, hr⟩ := gB_i hr
    refine gRun_i (g_runV X hI (w_X6_thrown hc159) (g_obj_s mH_0) rfl hl (lw_V q1584 q1585 q1586 q122 q1587) rfl rfl hd_X6_thrown ⟨Nat.le_of_ble_eq_true rfl, Nat.le_of_ble_eq_true rfl⟩ (as := []) (rest := []) rfl rfl (Nat.le_of_ble_eq_true rfl) ⟨(show ((cells + 2) + 0) + 0 ≤ 1200144 from by omega), (show ((slots + 606) + 0) + 0 ≤ 5496442 from by omega)⟩ dL_law_626) (fun H locs hI => ?_)
    refine lv_iload hx hb dL_law_629 (lv_at hl 1 rfl) ?_
    refine lv_icmp_eq (tgt := 636) hx hb dL_law_631 (by decide) (fun c9 => ?_) (fun c9 => ?_)
    · replace hr := gIf_t c9 hr
      refine lv_iload hx hb dL_law_636 (lv_at hl 1 rfl) ?_
      refine lv_if_ne (tgt := 653) hx hb dL_law_638 (by decide) (fun c9 => ?_) (fun c9 => ?_)
      · replace hr := gIf_f c9 hr
        refine lv_goto (tgt := 2884) hx hb dL_law_653 (by decide) ?_
        exact w_L_law_J2884 X hst hsc hsb hbs Hr28 hr hI (lv_sub hl [2, 3, 4, 5, 6, 7] rfl) (by omega)
      · replace hr := gIf_t c9 hr
        refine lv_aload_n hx hb dL_law_641 rfl (lv_at hl 5 rfl) ?_
        refine lv_iconst (v := 0) hx hb dL_law_642 (by decide) ?_
        refine g_lald X hI hr dL_law_643 (fun v161 hr => ?_)
        refine lv_iload hx hb dL_law_644 (lv_at hl 0 rfl) ?_
        refine lv_i2l hx hb dL_law_646 rfl ?_
        refine W.lcmp hx hb dL_law_647 ?_
        refine lv_if_eq (tgt := 653) hx hb dL_law_648 (by decide) (fun c9 => ?_) (fun c9 => ?_)
        · replace hr := gIf_t c9 hr
          refine lv_goto (tgt := 2884) hx hb dL_law_653 (by decide) ?_
          exact w_L_law_J2884 X hst hsc hsb hbs Hr28 hr hI (lv_sub hl [2, 3, 4, 5, 6, 7] rfl) (by omega)
        · replace hr := gIf_f c9 hr
          refine lv_iconst (v := 0) hx hb dL_law_651 (by decide) ?_
          exact absurd hr (by decide)
    · replace hr := gIf_f c9 hr
      refine lv_iconst (v := 0) hx hb dL_law_634 (by decide) ?_
      exact absurd hr (by decide)
  · exact nomatch hr
set_option maxHeartbeats 2000000 in
theorem w_L_law_J656 {h : gH} {n : Nat} {r28 : Int32 → gH → Nat → Option Int32} {z1 : Nat} {z2 : Nat} {z3 : Nat} {z4 : Nat} {b28 : Nat} {d28 : Nat} {z5 : Int32} (X : gXX x base RX0 cL_law 10 (some .boolean) p l s m args meth c) (hst : l.stackTraces = false) (hsc : va_X zb zL zx s s.heap) (hsb : zb < s.heap.size) (hbs : base = s.heap.size) (Hr28 : ∀ {z5 : Int32} {h : gH} {n : Nat} {H : Heap} {locs : List Loc} {ls : Array Slot} {cells slots : Nat}, r28 z5 h n = some (1 : Int32) → gI x base s.heap h n H locs → lv_has ls 10 [(0, .ref zb), (1, .ref z1), (2, .ref z2), (3, .ref z3), (4, .ref z4), (5, .int z5)] → (cells + b28 ≤ 1200144 ∧ slots + d28 ≤ 5496442) → W p l e room_1 s m args below meth c H locs cells slots (lw_Z below args s) (F0 m 28 ls [])) {H : Heap} {locs : List Loc} {ls : Array Slot} {cells slots : Nat} (hr : f_L_law_J656 x zL zx r28 z1 z2 z3 z4 z5 h n = some (1 : Int32)) (hI : gI x base s.heap h n H locs) (hl : lv_has ls 10 [(0, .ref zb), (1, .ref z1), (2, .ref z2), (3, .ref z3), (4, .ref z4), (5, .int z5)]) (hcc : cells + (6 + b28) ≤ 1200144 ∧ slots + (31 + d28) ≤ 5496442) : W p l e room_1 s m args below meth c H locs cells slots (lw_Z below args s) (F0 m 656 ls []) := by
  have hx := X.1
  have hb := X.2.1
  unfold f_L_law_J656 at hr
  refine lv_aload_n hx hb dL_law_656 rfl (lv_at hl 1 rfl) ?_
  refine lv_aload_n hx hb dL_law_657 rfl (lv_at hl 0 rfl) ?_
  refine lv_iload hx hb dL_law_658 (lv_at hl 5 rfl) ?_
  refine lv_iconst (v := 1) hx hb dL_law_660 (by decide) ?_
  refine lv_iadd hx hb dL_law_661 ?_
  refine g_sld X hI hsc hsb hbs hr dL_law_662 (fun v162 hr => ?_)
  refine lv_aload_n hx hb dL_law_663 rfl (lv_at hl 0 rfl) ?_
  refine lv_iload hx hb dL_law_664 (lv_at hl 5 rfl) ?_
  refine lv_iconst (v := 2) hx hb dL_law_666 (by decide) ?_
  refine lv_iadd hx hb dL_law_667 ?_
  refine g_sld X hI hsc hsb hbs hr dL_law_668 (fun v163 hr => ?_)
  refine lv_aload_n hx hb dL_law_669 rfl (lv_at hl 3 rfl) ?_
  rcases gTX_i hr with ⟨v165, h167, n168, hc164, hr⟩ | ⟨q166, h169, n170, hc164, hr⟩
  · refine gXRet_i (g_wrunS X hI (w_X0_value hst hc164) hl (lw_SW q1208 q1209 q95 q1210) rfl rfl hd_X0_value ⟨Nat.le_of_ble_eq_true rfl, Nat.le_of_ble_eq_true rfl⟩ (as := [.ref z1, .int v162, .int v163, .ref z3]) (rest := []) rfl rfl (Nat.le_of_ble_eq_true rfl) ⟨(show cells + 6 ≤ 1200144 from by omega), (show slots + 31 ≤ 5496442 from by omega)⟩ dL_law_670) (fun H locs hI => ?_)
    refine lv_istore (lv' := [(6, .int v165), (0, .ref zb), (1, .ref z1), (2, .ref z2), (3, .ref z3), (4, .ref z4), (5, .int z5)]) hx hb dL_law_673 hl (by decide) rfl (fun ls hl => ?_)
    refine lv_aload_n hx hb dL_law_675 rfl (lv_at hl 3 rfl) ?_
    refine lv_aload_n hx hb dL_law_676 rfl (lv_at hl 1 rfl) ?_
    refine lv_iload hx hb dL_law_677 (lv_at hl 6 rfl) ?_
    refine lv_iconst (v := 1) hx hb dL_law_679 (by decide) ?_
    refine lv_iadd hx hb dL_law_680 ?_
    refine g_sld X hI hsc hsb hbs hr dL_law_681 (fun v171 hr => ?_)
    refine lv_aload_n hx hb dL_law_682 rfl (lv_at hl 1 rfl) ?_
    refine lv_iload hx hb dL_law_683 (lv_at hl 6 rfl) ?_
    refine lv_iconst (v := 2) hx hb dL_law_685 (by decide) ?_
    refine lv_iadd hx hb dL_law_686 ?_
    refine g_sld X hI hsc hsb hbs hr dL_law_687 (fun v172 hr => ?_)
    obtain ⟨M173, hM174, hr⟩ := gB_i hr
    replace hI := hI.toM hM174
    obtain ⟨v176, iT_177, hc175, hr⟩ := gT2_i hr
    refine gRun_i (g_runV X hI (w_X6_value hc175) (g_obj_s mH_0) rfl hl (lw_V q1904 q1905 q1906 q122 q1907) rfl rfl hd_X6_value ⟨Nat.le_of_ble_eq_true rfl, Nat.le_of_ble_eq_true rfl⟩ (as := [.int v171, .int v172]) (rest := []) rfl rfl (Nat.le_of_ble_eq_true rfl) ⟨(show (cells + 6) + 0 ≤ 1200144 from by omega), (show (slots + 31) + 0 ≤ 5496442 from by omega)⟩ dL_law_688) (fun H locs hI => ?_)
    refine lv_istore (lv' := [(7, .int v176), (6, .int v165), (0, .ref zb), (1, .ref z1), (2, .ref z2), (3, .ref z3), (4, .ref z4), (5, .int z5)]) hx hb dL_law_691 hl (by decide) rfl (fun ls hl => ?_)
    refine lv_aload_n hx hb dL_law_693 rfl (lv_at hl 4 rfl) ?_
    obtain ⟨v179, hc178, hr⟩ := gB_i hr
    refine gRun_i (g_runV X hI (w_X6_thrown hc178) (g_obj_s mH_0) rfl hl (lw_V q1584 q1585 q1586 q122 q1587) rfl rfl hd_X6_thrown ⟨Nat.le_of_ble_eq_true rfl, Nat.le_of_ble_eq_true rfl⟩ (as := []) (rest := []) rfl rfl (Nat.le_of_ble_eq_true rfl) ⟨(show ((cells + 6) + 0) + 0 ≤ 1200144 from by omega), (show ((slots + 31) + 0) + 0 ≤ 5496442 from by omega)⟩ dL_law_694) (fun H locs hI => ?_)
    refine lv_iload hx hb dL_law_697 (lv_at hl 1 rfl) ?_
    refine lv_icmp_eq (tgt := 704) hx hb dL_law_699 (by decide) (fun c9 => ?_) (fun c9 => ?_)
    · replace hr := gIf_t c9 hr
      refine lv_iload hx hb dL_law_704 (lv_at hl 1 rfl) ?_
      refine lv_if_ne (tgt := 721) hx hb dL_law_706 (by decide) (fun c9 => ?_) (fun c9 => ?_)
      · replace hr := gIf_f c9 hr
        refine lv_goto (tgt := 2884) hx hb dL_law_721 (by decide) ?_
        exact w_L_law_J2884 X hst hsc hsb hbs Hr28 hr hI (lv_sub hl [2, 3, 4, 5, 6, 7] rfl) (by omega)
      · replace hr := gIf_t c9 hr
        refine lv_aload_n hx hb dL_law_709 rfl (lv_at hl 5 rfl) ?_
        refine lv_iconst (v := 0) hx hb dL_law_710 (by decide) ?_
        refine g_lald X hI hr dL_law_711 (fun v180 hr => ?_)
        refine lv_iload hx hb dL_law_712 (lv_at hl 0 rfl) ?_
        refine lv_i2l hx hb dL_law_714 rfl ?_
        refine W.lcmp hx hb dL_law_715 ?_
        refine lv_if_eq (tgt := 721) hx hb dL_law_716 (by decide) (fun c9 => ?_) (fun c9 => ?_)
        · replace hr := gIf_t c9 hr
          refine lv_goto (tgt := 2884) hx hb dL_law_721 (by decide) ?_
          exact w_L_law_J2884 X hst hsc hsb hbs Hr28 hr hI (lv_sub hl [2, 3, 4, 5, 6, 7] rfl) (by omega)
        · replace hr := gIf_f c9 hr
          refine lv_iconst (v := 0) hx hb dL_law_719 (by decide) ?_
          exact absurd hr (by decide)
    · replace hr := gIf_f c9 hr
      refine lv_iconst (v := 0) hx hb dL_law_702 (by decide) ?_
      exact absurd hr (by decide)
  · exact nomatch hr
set_option maxHeartbeats 2000000 in
theorem w_L_law_J724 {h : gH} {n : Nat} {r28 : Int32 → gH → Nat → Option Int32} {z1 : Nat} {z2 : Nat} {z3 : Nat} {z4 : Nat} {b28 : Nat} {d28 : Nat} {z5 : Int32} (X : gXX x base RX0 cL_law 10 (some .boolean) p l s m args meth c) (hst : l.stackTraces = false) (hsc : va_X zb zL zx s s.heap) (hsb : zb < s.heap.size) (hbs : base = s.heap.size) (Hr28 : ∀ {z5 : Int32} {h : gH} {n : Nat} {H : Heap} {locs : List Loc} {ls : Array Slot} {cells slots : Nat}, r28 z5 h n = some (1 : Int32) → gI x base s.heap h n H locs → lv_has ls 10 [(0, .ref zb), (1, .ref z1), (2, .ref z2), (3, .ref z3), (4, .ref z4), (5, .int z5)] → (cells + b28 ≤ 1200144 ∧ slots + d28 ≤ 5496442) → W p l e room_1 s m args below meth c H locs cells slots (lw_Z below args s) (F0 m 28 ls [])) {H : Heap} {locs : List Loc} {ls : Array Slot} {cells slots : Nat} (hr : f_L_law_J724 x zL zx r28 z1 z2 z3 z4 z5 h n = some (1 : Int32)) (hI : gI x base s.heap h n H locs) (hl : lv_has ls 10 [(0, .ref zb), (1, .ref z1), (2, .ref z2), (3, .ref z3), (4, .ref z4), (5, .int z5)]) (hcc : cells + (1 + b28) ≤ 1200144 ∧ slots + (6 + d28) ≤ 5496442) : W p l e room_1 s m args below meth c H locs cells slots (lw_Z below args s) (F0 m 724 ls []) := by
  have hx := X.1
  have hb := X.2.1
  unfold f_L_law_J724 at hr
  refine lv_aload_n hx hb dL_law_724 rfl (lv_at hl 1 rfl) ?_
  refine lv_aload_n hx hb dL_law_725 rfl (lv_at hl 0 rfl) ?_
  refine lv_iload hx hb dL_law_726 (lv_at hl 5 rfl) ?_
  refine lv_iconst (v := 1) hx hb dL_law_728 (by decide) ?_
  refine lv_iadd hx hb dL_law_729 ?_
  refine g_sld X hI hsc hsb hbs hr dL_law_730 (fun v181 hr => ?_)
  refine lv_aload_n hx hb dL_law_731 rfl (lv_at hl 3 rfl) ?_
  rcases gTX_i hr with ⟨v183, h185, n186, hc182, hr⟩ | ⟨q184, h187, n188, hc182, hr⟩
  · refine gXRet_i (g_wrunS X hI (w_X0_owner hst hc182) hl (lw_SW q1215 q1216 q95 q1217) rfl rfl hd_X0_owner ⟨Nat.le_of_ble_eq_true rfl, Nat.le_of_ble_eq_true rfl⟩ (as := [.ref z1, .int v181, .ref z3]) (rest := []) rfl rfl (Nat.le_of_ble_eq_true rfl) ⟨(show cells + 1 ≤ 1200144 from by omega), (show slots + 6 ≤ 5496442 from by omega)⟩ dL_law_732) (fun H locs hI => ?_)
    refine lv_istore (lv' := [(6, .int v183), (0, .ref zb), (1, .ref z1), (2, .ref z2), (3, .ref z3), (4, .ref z4), (5, .int z5)]) hx hb dL_law_735 hl (by decide) rfl (fun ls hl => ?_)
    refine lv_aload_n hx hb dL_law_737 rfl (lv_at hl 3 rfl) ?_
    refine lv_aload_n hx hb dL_law_738 rfl (lv_at hl 1 rfl) ?_
    refine lv_iload hx hb dL_law_739 (lv_at hl 6 rfl) ?_
    refine lv_iconst (v := 1) hx hb dL_law_741 (by decide) ?_
    refine lv_iadd hx hb dL_law_742 ?_
    refine g_sld X hI hsc hsb hbs hr dL_law_743 (fun v189 hr => ?_)
    obtain ⟨M190, hM191, hr⟩ := gB_i hr
    replace hI := hI.toM hM191
    obtain ⟨v193, iT_194, hc192, hr⟩ := gT2_i hr
    refine gRun_i (g_runV X hI (w_X6_owner hc192) (g_obj_s mH_0) rfl hl (lw_V q1908 q1909 q1910 q122 q1911) rfl rfl hd_X6_owner ⟨Nat.le_of_ble_eq_true rfl, Nat.le_of_ble_eq_true rfl⟩ (as := [.int v189]) (rest := []) rfl rfl (Nat.le_of_ble_eq_true rfl) ⟨(show (cells + 1) + 0 ≤ 1200144 from by omega), (show (slots + 6) + 0 ≤ 5496442 from by omega)⟩ dL_law_744) (fun H locs hI => ?_)
    refine lv_istore (lv' := [(7, .int v193), (6, .int v183), (0, .ref zb), (1, .ref z1), (2, .ref z2), (3, .ref z3), (4, .ref z4), (5, .int z5)]) hx hb dL_law_747 hl (by decide) rfl (fun ls hl => ?_)
    refine lv_aload_n hx hb dL_law_749 rfl (lv_at hl 4 rfl) ?_
    obtain ⟨v196, hc195, hr⟩ := gB_i hr
    refine gRun_i (g_runV X hI (w_X6_thrown hc195) (g_obj_s mH_0) rfl hl (lw_V q1584 q1585 q1586 q122 q1587) rfl rfl hd_X6_thrown ⟨Nat.le_of_ble_eq_true rfl, Nat.le_of_ble_eq_true rfl⟩ (as := []) (rest := []) rfl rfl (Nat.le_of_ble_eq_true rfl) ⟨(show ((cells + 1) + 0) + 0 ≤ 1200144 from by omega), (show ((slots + 6) + 0) + 0 ≤ 5496442 from by omega)⟩ dL_law_750) (fun H locs hI => ?_)
    refine lv_iload hx hb dL_law_753 (lv_at hl 1 rfl) ?_
    refine lv_icmp_eq (tgt := 760) hx hb dL_law_755 (by decide) (fun c9 => ?_) (fun c9 => ?_)
    · replace hr := gIf_t c9 hr
      refine lv_iload hx hb dL_law_760 (lv_at hl 1 rfl) ?_
      refine lv_if_ne (tgt := 777) hx hb dL_law_762 (by decide) (fun c9 => ?_) (fun c9 => ?_)
      · replace hr := gIf_f c9 hr
        refine lv_goto (tgt := 2884) hx hb dL_law_777 (by decide) ?_
        exact w_L_law_J2884 X hst hsc hsb hbs Hr28 hr hI (lv_sub hl [2, 3, 4, 5, 6, 7] rfl) (by omega)
      · replace hr := gIf_t c9 hr
        refine lv_aload_n hx hb dL_law_765 rfl (lv_at hl 5 rfl) ?_
        refine lv_iconst (v := 0) hx hb dL_law_766 (by decide) ?_
        refine g_lald X hI hr dL_law_767 (fun v197 hr => ?_)
        refine lv_iload hx hb dL_law_768 (lv_at hl 0 rfl) ?_
        refine lv_i2l hx hb dL_law_770 rfl ?_
        refine W.lcmp hx hb dL_law_771 ?_
        refine lv_if_eq (tgt := 777) hx hb dL_law_772 (by decide) (fun c9 => ?_) (fun c9 => ?_)
        · replace hr := gIf_t c9 hr
          refine lv_goto (tgt := 2884) hx hb dL_law_777 (by decide) ?_
          exact w_L_law_J2884 X hst hsc hsb hbs Hr28 hr hI (lv_sub hl [2, 3, 4, 5, 6, 7] rfl) (by omega)
        · replace hr := gIf_f c9 hr
          refine lv_iconst (v := 0) hx hb dL_law_775 (by decide) ?_
          exact absurd hr (by decide)
    · replace hr := gIf_f c9 hr
      refine lv_iconst (v := 0) hx hb dL_law_758 (by decide) ?_
      exact absurd hr (by decide)
  · exact nomatch hr
set_option maxHeartbeats 2000000 in
theorem w_L_law_J780 {h : gH} {n : Nat} {r28 : Int32 → gH → Nat → Option Int32} {z1 : Nat} {z2 : Nat} {z3 : Nat} {z4 : Nat} {b28 : Nat} {d28 : Nat} {z5 : Int32} (X : gXX x base RX0 cL_law 10 (some .boolean) p l s m args meth c) (hst : l.stackTraces = false) (hsc : va_X zb zL zx s s.heap) (hsb : zb < s.heap.size) (hbs : base = s.heap.size) (Hr28 : ∀ {z5 : Int32} {h : gH} {n : Nat} {H : Heap} {locs : List Loc} {ls : Array Slot} {cells slots : Nat}, r28 z5 h n = some (1 : Int32) → gI x base s.heap h n H locs → lv_has ls 10 [(0, .ref zb), (1, .ref z1), (2, .ref z2), (3, .ref z3), (4, .ref z4), (5, .int z5)] → (cells + b28 ≤ 1200144 ∧ slots + d28 ≤ 5496442) → W p l e room_1 s m args below meth c H locs cells slots (lw_Z below args s) (F0 m 28 ls [])) {H : Heap} {locs : List Loc} {ls : Array Slot} {cells slots : Nat} (hr : f_L_law_J780 x zL zx r28 z1 z2 z3 z4 z5 h n = some (1 : Int32)) (hI : gI x base s.heap h n H locs) (hl : lv_has ls 10 [(0, .ref zb), (1, .ref z1), (2, .ref z2), (3, .ref z3), (4, .ref z4), (5, .int z5)]) (hcc : cells + (6 + b28) ≤ 1200144 ∧ slots + (31 + d28) ≤ 5496442) : W p l e room_1 s m args below meth c H locs cells slots (lw_Z below args s) (F0 m 780 ls []) := by
  have hx := X.1
  have hb := X.2.1
  unfold f_L_law_J780 at hr
  refine lv_aload_n hx hb dL_law_780 rfl (lv_at hl 1 rfl) ?_
  refine lv_aload_n hx hb dL_law_781 rfl (lv_at hl 0 rfl) ?_
  refine lv_iload hx hb dL_law_782 (lv_at hl 5 rfl) ?_
  refine lv_iconst (v := 1) hx hb dL_law_784 (by decide) ?_
  refine lv_iadd hx hb dL_law_785 ?_
  refine g_sld X hI hsc hsb hbs hr dL_law_786 (fun v198 hr => ?_)
  refine lv_aload_n hx hb dL_law_787 rfl (lv_at hl 0 rfl) ?_
  refine lv_iload hx hb dL_law_788 (lv_at hl 5 rfl) ?_
  refine lv_iconst (v := 2) hx hb dL_law_790 (by decide) ?_
  refine lv_iadd hx hb dL_law_791 ?_
  refine g_sld X hI hsc hsb hbs hr dL_law_792 (fun v199 hr => ?_)
  refine lv_aload_n hx hb dL_law_793 rfl (lv_at hl 0 rfl) ?_
  refine lv_iload hx hb dL_law_794 (lv_at hl 5 rfl) ?_
  refine lv_iconst (v := 3) hx hb dL_law_796 (by decide) ?_
  refine lv_iadd hx hb dL_law_797 ?_
  refine g_sld X hI hsc hsb hbs hr dL_law_798 (fun v200 hr => ?_)
  refine lv_aload_n hx hb dL_law_799 rfl (lv_at hl 3 rfl) ?_
  rcases gTX_i hr with ⟨v202, h204, n205, hc201, hr⟩ | ⟨q203, h206, n207, hc201, hr⟩
  · refine gXRet_i (g_wrunS X hI (w_X0_worth hst hc201) hl (lw_SW q1222 q1223 q95 q1224) rfl rfl hd_X0_worth ⟨Nat.le_of_ble_eq_true rfl, Nat.le_of_ble_eq_true rfl⟩ (as := [.ref z1, .int v198, .int v199, .int v200, .ref z3]) (rest := []) rfl rfl (Nat.le_of_ble_eq_true rfl) ⟨(show cells + 6 ≤ 1200144 from by omega), (show slots + 31 ≤ 5496442 from by omega)⟩ dL_law_800) (fun H locs hI => ?_)
    refine lv_istore (lv' := [(6, .int v202), (0, .ref zb), (1, .ref z1), (2, .ref z2), (3, .ref z3), (4, .ref z4), (5, .int z5)]) hx hb dL_law_803 hl (by decide) rfl (fun ls hl => ?_)
    refine lv_aload_n hx hb dL_law_805 rfl (lv_at hl 3 rfl) ?_
    refine lv_aload_n hx hb dL_law_806 rfl (lv_at hl 1 rfl) ?_
    refine lv_iload hx hb dL_law_807 (lv_at hl 6 rfl) ?_
    refine lv_iconst (v := 1) hx hb dL_law_809 (by decide) ?_
    refine lv_iadd hx hb dL_law_810 ?_
    refine g_sld X hI hsc hsb hbs hr dL_law_811 (fun v208 hr => ?_)
    refine lv_aload_n hx hb dL_law_812 rfl (lv_at hl 1 rfl) ?_
    refine lv_iload hx hb dL_law_813 (lv_at hl 6 rfl) ?_
    refine lv_iconst (v := 2) hx hb dL_law_815 (by decide) ?_
    refine lv_iadd hx hb dL_law_816 ?_
    refine g_sld X hI hsc hsb hbs hr dL_law_817 (fun v209 hr => ?_)
    refine lv_aload_n hx hb dL_law_818 rfl (lv_at hl 1 rfl) ?_
    refine lv_iload hx hb dL_law_819 (lv_at hl 6 rfl) ?_
    refine lv_iconst (v := 3) hx hb dL_law_821 (by decide) ?_
    refine lv_iadd hx hb dL_law_822 ?_
    refine g_sld X hI hsc hsb hbs hr dL_law_823 (fun v210 hr => ?_)
    obtain ⟨M211, hM212, hr⟩ := gB_i hr
    replace hI := hI.toM hM212
    obtain ⟨v214, iT_215, hc213, hr⟩ := gT2_i hr
    refine gRun_i (g_runV X hI (w_X6_worth hc213) (g_obj_s mH_0) rfl hl (lw_V q1912 q1913 q1914 q122 q1915) rfl rfl hd_X6_worth ⟨Nat.le_of_ble_eq_true rfl, Nat.le_of_ble_eq_true rfl⟩ (as := [.int v208, .int v209, .int v210]) (rest := []) rfl rfl (Nat.le_of_ble_eq_true rfl) ⟨(show (cells + 6) + 0 ≤ 1200144 from by omega), (show (slots + 31) + 0 ≤ 5496442 from by omega)⟩ dL_law_824) (fun H locs hI => ?_)
    refine lv_istore (lv' := [(7, .int v214), (6, .int v202), (0, .ref zb), (1, .ref z1), (2, .ref z2), (3, .ref z3), (4, .ref z4), (5, .int z5)]) hx hb dL_law_827 hl (by decide) rfl (fun ls hl => ?_)
    refine lv_aload_n hx hb dL_law_829 rfl (lv_at hl 4 rfl) ?_
    obtain ⟨v217, hc216, hr⟩ := gB_i hr
    refine gRun_i (g_runV X hI (w_X6_thrown hc216) (g_obj_s mH_0) rfl hl (lw_V q1584 q1585 q1586 q122 q1587) rfl rfl hd_X6_thrown ⟨Nat.le_of_ble_eq_true rfl, Nat.le_of_ble_eq_true rfl⟩ (as := []) (rest := []) rfl rfl (Nat.le_of_ble_eq_true rfl) ⟨(show ((cells + 6) + 0) + 0 ≤ 1200144 from by omega), (show ((slots + 31) + 0) + 0 ≤ 5496442 from by omega)⟩ dL_law_830) (fun H locs hI => ?_)
    refine lv_iload hx hb dL_law_833 (lv_at hl 1 rfl) ?_
    refine lv_icmp_eq (tgt := 840) hx hb dL_law_835 (by decide) (fun c9 => ?_) (fun c9 => ?_)
    · replace hr := gIf_t c9 hr
      refine lv_iload hx hb dL_law_840 (lv_at hl 1 rfl) ?_
      refine lv_if_ne (tgt := 857) hx hb dL_law_842 (by decide) (fun c9 => ?_) (fun c9 => ?_)
      · replace hr := gIf_f c9 hr
        refine lv_goto (tgt := 2884) hx hb dL_law_857 (by decide) ?_
        exact w_L_law_J2884 X hst hsc hsb hbs Hr28 hr hI (lv_sub hl [2, 3, 4, 5, 6, 7] rfl) (by omega)
      · replace hr := gIf_t c9 hr
        refine lv_aload_n hx hb dL_law_845 rfl (lv_at hl 5 rfl) ?_
        refine lv_iconst (v := 0) hx hb dL_law_846 (by decide) ?_
        refine g_lald X hI hr dL_law_847 (fun v218 hr => ?_)
        refine lv_iload hx hb dL_law_848 (lv_at hl 0 rfl) ?_
        refine lv_i2l hx hb dL_law_850 rfl ?_
        refine W.lcmp hx hb dL_law_851 ?_
        refine lv_if_eq (tgt := 857) hx hb dL_law_852 (by decide) (fun c9 => ?_) (fun c9 => ?_)
        · replace hr := gIf_t c9 hr
          refine lv_goto (tgt := 2884) hx hb dL_law_857 (by decide) ?_
          exact w_L_law_J2884 X hst hsc hsb hbs Hr28 hr hI (lv_sub hl [2, 3, 4, 5, 6, 7] rfl) (by omega)
        · replace hr := gIf_f c9 hr
          refine lv_iconst (v := 0) hx hb dL_law_855 (by decide) ?_
          exact absurd hr (by decide)
    · replace hr := gIf_f c9 hr
      refine lv_iconst (v := 0) hx hb dL_law_838 (by decide) ?_
      exact absurd hr (by decide)
  · exact nomatch hr
set_option maxHeartbeats 2000000 in
theorem w_L_law_J860 {h : gH} {n : Nat} {r28 : Int32 → gH → Nat → Option Int32} {z1 : Nat} {z2 : Nat} {z3 : Nat} {z4 : Nat} {b28 : Nat} {d28 : Nat} {z5 : Int32} (X : gXX x base RX0 cL_law 10 (some .boolean) p l s m args meth c) (hst : l.stackTraces = false) (hsc : va_X zb zL zx s s.heap) (hsb : zb < s.heap.size) (hbs : base = s.heap.size) (Hr28 : ∀ {z5 : Int32} {h : gH} {n : Nat} {H : Heap} {locs : List Loc} {ls : Array Slot} {cells slots : Nat}, r28 z5 h n = some (1 : Int32) → gI x base s.heap h n H locs → lv_has ls 10 [(0, .ref zb), (1, .ref z1), (2, .ref z2), (3, .ref z3), (4, .ref z4), (5, .int z5)] → (cells + b28 ≤ 1200144 ∧ slots + d28 ≤ 5496442) → W p l e room_1 s m args below meth c H locs cells slots (lw_Z below args s) (F0 m 28 ls [])) {H : Heap} {locs : List Loc} {ls : Array Slot} {cells slots : Nat} (hr : f_L_law_J860 x zL zx r28 z1 z2 z3 z4 z5 h n = some (1 : Int32)) (hI : gI x base s.heap h n H locs) (hl : lv_has ls 10 [(0, .ref zb), (1, .ref z1), (2, .ref z2), (3, .ref z3), (4, .ref z4), (5, .int z5)]) (hcc : cells + (5 + b28) ≤ 1200144 ∧ slots + (25 + d28) ≤ 5496442) : W p l e room_1 s m args below meth c H locs cells slots (lw_Z below args s) (F0 m 860 ls []) := by
  have hx := X.1
  have hb := X.2.1
  unfold f_L_law_J860 at hr
  refine lv_aload_n hx hb dL_law_860 rfl (lv_at hl 1 rfl) ?_
  refine lv_aload_n hx hb dL_law_861 rfl (lv_at hl 0 rfl) ?_
  refine lv_iload hx hb dL_law_862 (lv_at hl 5 rfl) ?_
  refine lv_iconst (v := 1) hx hb dL_law_864 (by decide) ?_
  refine lv_iadd hx hb dL_law_865 ?_
  refine g_sld X hI hsc hsb hbs hr dL_law_866 (fun v219 hr => ?_)
  refine lv_aload_n hx hb dL_law_867 rfl (lv_at hl 3 rfl) ?_
  rcases gTX_i hr with ⟨v221, h223, n224, hc220, hr⟩ | ⟨q222, h225, n226, hc220, hr⟩
  · refine gXRet_i (g_wrunS X hI (w_X0_total hst hc220) hl (lw_SW q1240 q1241 q95 q1242) rfl rfl hd_X0_total ⟨Nat.le_of_ble_eq_true rfl, Nat.le_of_ble_eq_true rfl⟩ (as := [.ref z1, .int v219, .ref z3]) (rest := []) rfl rfl (Nat.le_of_ble_eq_true rfl) ⟨(show cells + 5 ≤ 1200144 from by omega), (show slots + 25 ≤ 5496442 from by omega)⟩ dL_law_868) (fun H locs hI => ?_)
    refine lv_istore (lv' := [(6, .int v221), (0, .ref zb), (1, .ref z1), (2, .ref z2), (3, .ref z3), (4, .ref z4), (5, .int z5)]) hx hb dL_law_871 hl (by decide) rfl (fun ls hl => ?_)
    refine lv_aload_n hx hb dL_law_873 rfl (lv_at hl 3 rfl) ?_
    refine lv_aload_n hx hb dL_law_874 rfl (lv_at hl 1 rfl) ?_
    refine lv_iload hx hb dL_law_875 (lv_at hl 6 rfl) ?_
    refine lv_iconst (v := 1) hx hb dL_law_877 (by decide) ?_
    refine lv_iadd hx hb dL_law_878 ?_
    refine g_sld X hI hsc hsb hbs hr dL_law_879 (fun v227 hr => ?_)
    obtain ⟨M228, hM229, hr⟩ := gB_i hr
    replace hI := hI.toM hM229
    obtain ⟨v231, iT_232, hc230, hr⟩ := gT2_i hr
    refine gRun_i (g_runV X hI (w_X6_total hc230) (g_obj_s mH_0) rfl hl (lw_V q1916 q1917 q1918 q122 q1919) rfl rfl hd_X6_total ⟨Nat.le_of_ble_eq_true rfl, Nat.le_of_ble_eq_true rfl⟩ (as := [.int v227]) (rest := []) rfl rfl (Nat.le_of_ble_eq_true rfl) ⟨(show (cells + 5) + 0 ≤ 1200144 from by omega), (show (slots + 25) + 0 ≤ 5496442 from by omega)⟩ dL_law_880) (fun H locs hI => ?_)
    refine lv_istore (lv' := [(7, .int v231), (6, .int v221), (0, .ref zb), (1, .ref z1), (2, .ref z2), (3, .ref z3), (4, .ref z4), (5, .int z5)]) hx hb dL_law_883 hl (by decide) rfl (fun ls hl => ?_)
    refine lv_aload_n hx hb dL_law_885 rfl (lv_at hl 4 rfl) ?_
    obtain ⟨v234, hc233, hr⟩ := gB_i hr
    refine gRun_i (g_runV X hI (w_X6_thrown hc233) (g_obj_s mH_0) rfl hl (lw_V q1584 q1585 q1586 q122 q1587) rfl rfl hd_X6_thrown ⟨Nat.le_of_ble_eq_true rfl, Nat.le_of_ble_eq_true rfl⟩ (as := []) (rest := []) rfl rfl (Nat.le_of_ble_eq_true rfl) ⟨(show ((cells + 5) + 0) + 0 ≤ 1200144 from by omega), (show ((slots + 25) + 0) + 0 ≤ 5496442 from by omega)⟩ dL_law_886) (fun H locs hI => ?_)
    refine lv_iload hx hb dL_law_889 (lv_at hl 1 rfl) ?_
    refine lv_icmp_eq (tgt := 896) hx hb dL_law_891 (by decide) (fun c9 => ?_) (fun c9 => ?_)
    · replace hr := gIf_t c9 hr
      refine lv_iload hx hb dL_law_896 (lv_at hl 1 rfl) ?_
      refine lv_if_ne (tgt := 913) hx hb dL_law_898 (by decide) (fun c9 => ?_) (fun c9 => ?_)
      · replace hr := gIf_f c9 hr
        refine lv_goto (tgt := 2884) hx hb dL_law_913 (by decide) ?_
        exact w_L_law_J2884 X hst hsc hsb hbs Hr28 hr hI (lv_sub hl [2, 3, 4, 5, 6, 7] rfl) (by omega)
      · replace hr := gIf_t c9 hr
        refine lv_aload_n hx hb dL_law_901 rfl (lv_at hl 5 rfl) ?_
        refine lv_iconst (v := 0) hx hb dL_law_902 (by decide) ?_
        refine g_lald X hI hr dL_law_903 (fun v235 hr => ?_)
        refine lv_iload hx hb dL_law_904 (lv_at hl 0 rfl) ?_
        refine lv_i2l hx hb dL_law_906 rfl ?_
        refine W.lcmp hx hb dL_law_907 ?_
        refine lv_if_eq (tgt := 913) hx hb dL_law_908 (by decide) (fun c9 => ?_) (fun c9 => ?_)
        · replace hr := gIf_t c9 hr
          refine lv_goto (tgt := 2884) hx hb dL_law_913 (by decide) ?_
          exact w_L_law_J2884 X hst hsc hsb hbs Hr28 hr hI (lv_sub hl [2, 3, 4, 5, 6, 7] rfl) (by omega)
        · replace hr := gIf_f c9 hr
          refine lv_iconst (v := 0) hx hb dL_law_911 (by decide) ?_
          exact absurd hr (by decide)
    · replace hr := gIf_f c9 hr
      refine lv_iconst (v := 0) hx hb dL_law_894 (by decide) ?_
      exact absurd hr (by decide)
  · exact nomatch hr
set_option maxHeartbeats 2000000 in
theorem w_L_law_J916 {h : gH} {n : Nat} {r28 : Int32 → gH → Nat → Option Int32} {z1 : Nat} {z2 : Nat} {z3 : Nat} {z4 : Nat} {b28 : Nat} {d28 : Nat} {z5 : Int32} (X : gXX x base RX0 cL_law 10 (some .boolean) p l s m args meth c) (hst : l.stackTraces = false) (hsc : va_X zb zL zx s s.heap) (hsb : zb < s.heap.size) (hbs : base = s.heap.size) (Hr28 : ∀ {z5 : Int32} {h : gH} {n : Nat} {H : Heap} {locs : List Loc} {ls : Array Slot} {cells slots : Nat}, r28 z5 h n = some (1 : Int32) → gI x base s.heap h n H locs → lv_has ls 10 [(0, .ref zb), (1, .ref z1), (2, .ref z2), (3, .ref z3), (4, .ref z4), (5, .int z5)] → (cells + b28 ≤ 1200144 ∧ slots + d28 ≤ 5496442) → W p l e room_1 s m args below meth c H locs cells slots (lw_Z below args s) (F0 m 28 ls [])) {H : Heap} {locs : List Loc} {ls : Array Slot} {cells slots : Nat} (hr : f_L_law_J916 x zL zx r28 z1 z2 z3 z4 z5 h n = some (1 : Int32)) (hI : gI x base s.heap h n H locs) (hl : lv_has ls 10 [(0, .ref zb), (1, .ref z1), (2, .ref z2), (3, .ref z3), (4, .ref z4), (5, .int z5)]) (hcc : cells + (5 + b28) ≤ 1200144 ∧ slots + (26 + d28) ≤ 5496442) : W p l e room_1 s m args below meth c H locs cells slots (lw_Z below args s) (F0 m 916 ls []) := by
  have hx := X.1
  have hb := X.2.1
  unfold f_L_law_J916 at hr
  refine lv_aload_n hx hb dL_law_916 rfl (lv_at hl 1 rfl) ?_
  refine lv_aload_n hx hb dL_law_917 rfl (lv_at hl 0 rfl) ?_
  refine lv_iload hx hb dL_law_918 (lv_at hl 5 rfl) ?_
  refine lv_iconst (v := 1) hx hb dL_law_920 (by decide) ?_
  refine lv_iadd hx hb dL_law_921 ?_
  refine g_sld X hI hsc hsb hbs hr dL_law_922 (fun v236 hr => ?_)
  refine lv_aload_n hx hb dL_law_923 rfl (lv_at hl 0 rfl) ?_
  refine lv_iload hx hb dL_law_924 (lv_at hl 5 rfl) ?_
  refine lv_iconst (v := 2) hx hb dL_law_926 (by decide) ?_
  refine lv_iadd hx hb dL_law_927 ?_
  refine g_sld X hI hsc hsb hbs hr dL_law_928 (fun v237 hr => ?_)
  refine lv_aload_n hx hb dL_law_929 rfl (lv_at hl 3 rfl) ?_
  rcases gTX_i hr with ⟨v239, h241, n242, hc238, hr⟩ | ⟨q240, h243, n244, hc238, hr⟩
  · refine gXRet_i (g_wrunS X hI (w_X0_worthOfShare hst hc238) hl (lw_SW q1248 q1249 q95 q1250) rfl rfl hd_X0_worthOfShare ⟨Nat.le_of_ble_eq_true rfl, Nat.le_of_ble_eq_true rfl⟩ (as := [.ref z1, .int v236, .int v237, .ref z3]) (rest := []) rfl rfl (Nat.le_of_ble_eq_true rfl) ⟨(show cells + 5 ≤ 1200144 from by omega), (show slots + 26 ≤ 5496442 from by omega)⟩ dL_law_930) (fun H locs hI => ?_)
    refine lv_istore (lv' := [(6, .int v239), (0, .ref zb), (1, .ref z1), (2, .ref z2), (3, .ref z3), (4, .ref z4), (5, .int z5)]) hx hb dL_law_933 hl (by decide) rfl (fun ls hl => ?_)
    refine lv_aload_n hx hb dL_law_935 rfl (lv_at hl 3 rfl) ?_
    refine lv_aload_n hx hb dL_law_936 rfl (lv_at hl 1 rfl) ?_
    refine lv_iload hx hb dL_law_937 (lv_at hl 6 rfl) ?_
    refine lv_iconst (v := 1) hx hb dL_law_939 (by decide) ?_
    refine lv_iadd hx hb dL_law_940 ?_
    refine g_sld X hI hsc hsb hbs hr dL_law_941 (fun v245 hr => ?_)
    refine lv_aload_n hx hb dL_law_942 rfl (lv_at hl 1 rfl) ?_
    refine lv_iload hx hb dL_law_943 (lv_at hl 6 rfl) ?_
    refine lv_iconst (v := 2) hx hb dL_law_945 (by decide) ?_
    refine lv_iadd hx hb dL_law_946 ?_
    refine g_sld X hI hsc hsb hbs hr dL_law_947 (fun v246 hr => ?_)
    obtain ⟨M247, hM248, hr⟩ := gB_i hr
    replace hI := hI.toM hM248
    obtain ⟨v250, iT_251, hc249, hr⟩ := gT2_i hr
    refine gRun_i (g_runV X hI (w_X6_worthOfShare hc249) (g_obj_s mH_0) rfl hl (lw_V q1920 q1921 q1922 q122 q1923) rfl rfl hd_X6_worthOfShare ⟨Nat.le_of_ble_eq_true rfl, Nat.le_of_ble_eq_true rfl⟩ (as := [.int v245, .int v246]) (rest := []) rfl rfl (Nat.le_of_ble_eq_true rfl) ⟨(show (cells + 5) + 0 ≤ 1200144 from by omega), (show (slots + 26) + 0 ≤ 5496442 from by omega)⟩ dL_law_948) (fun H locs hI => ?_)
    refine lv_istore (lv' := [(7, .int v250), (6, .int v239), (0, .ref zb), (1, .ref z1), (2, .ref z2), (3, .ref z3), (4, .ref z4), (5, .int z5)]) hx hb dL_law_951 hl (by decide) rfl (fun ls hl => ?_)
    refine lv_aload_n hx hb dL_law_953 rfl (lv_at hl 4 rfl) ?_
    obtain ⟨v253, hc252, hr⟩ := gB_i hr
    refine gRun_i (g_runV X hI (w_X6_thrown hc252) (g_obj_s mH_0) rfl hl (lw_V q1584 q1585 q1586 q122 q1587) rfl rfl hd_X6_thrown ⟨Nat.le_of_ble_eq_true rfl, Nat.le_of_ble_eq_true rfl⟩ (as := []) (rest := []) rfl rfl (Nat.le_of_ble_eq_true rfl) ⟨(show ((cells + 5) + 0) + 0 ≤ 1200144 from by omega), (show ((slots + 26) + 0) + 0 ≤ 5496442 from by omega)⟩ dL_law_954) (fun H locs hI => ?_)
    refine lv_iload hx hb dL_law_957 (lv_at hl 1 rfl) ?_
    refine lv_icmp_eq (tgt := 964) hx hb dL_law_959 (by decide) (fun c9 => ?_) (fun c9 => ?_)
    · replace hr := gIf_t c9 hr
      refine lv_iload hx hb dL_law_964 (lv_at hl 1 rfl) ?_
      refine lv_if_ne (tgt := 981) hx hb dL_law_966 (by decide) (fun c9 => ?_) (fun c9 => ?_)
      · replace hr := gIf_f c9 hr
        refine lv_goto (tgt := 2884) hx hb dL_law_981 (by decide) ?_
        exact w_L_law_J2884 X hst hsc hsb hbs Hr28 hr hI (lv_sub hl [2, 3, 4, 5, 6, 7] rfl) (by omega)
      · replace hr := gIf_t c9 hr
        refine lv_aload_n hx hb dL_law_969 rfl (lv_at hl 5 rfl) ?_
        refine lv_iconst (v := 0) hx hb dL_law_970 (by decide) ?_
        refine g_lald X hI hr dL_law_971 (fun v254 hr => ?_)
        refine lv_iload hx hb dL_law_972 (lv_at hl 0 rfl) ?_
        refine lv_i2l hx hb dL_law_974 rfl ?_
        refine W.lcmp hx hb dL_law_975 ?_
        refine lv_if_eq (tgt := 981) hx hb dL_law_976 (by decide) (fun c9 => ?_) (fun c9 => ?_)
        · replace hr := gIf_t c9 hr
          refine lv_goto (tgt := 2884) hx hb dL_law_981 (by decide) ?_
          exact w_L_law_J2884 X hst hsc hsb hbs Hr28 hr hI (lv_sub hl [2, 3, 4, 5, 6, 7] rfl) (by omega)
        · replace hr := gIf_f c9 hr
          refine lv_iconst (v := 0) hx hb dL_law_979 (by decide) ?_
          exact absurd hr (by decide)
    · replace hr := gIf_f c9 hr
      refine lv_iconst (v := 0) hx hb dL_law_962 (by decide) ?_
      exact absurd hr (by decide)
  · exact nomatch hr
set_option maxHeartbeats 2000000 in
theorem w_L_law_J984 {h : gH} {n : Nat} {r28 : Int32 → gH → Nat → Option Int32} {z1 : Nat} {z2 : Nat} {z3 : Nat} {z4 : Nat} {b28 : Nat} {d28 : Nat} {z5 : Int32} (X : gXX x base RX0 cL_law 10 (some .boolean) p l s m args meth c) (hst : l.stackTraces = false) (hsc : va_X zb zL zx s s.heap) (hsb : zb < s.heap.size) (hbs : base = s.heap.size) (Hr28 : ∀ {z5 : Int32} {h : gH} {n : Nat} {H : Heap} {locs : List Loc} {ls : Array Slot} {cells slots : Nat}, r28 z5 h n = some (1 : Int32) → gI x base s.heap h n H locs → lv_has ls 10 [(0, .ref zb), (1, .ref z1), (2, .ref z2), (3, .ref z3), (4, .ref z4), (5, .int z5)] → (cells + b28 ≤ 1200144 ∧ slots + d28 ≤ 5496442) → W p l e room_1 s m args below meth c H locs cells slots (lw_Z below args s) (F0 m 28 ls [])) {H : Heap} {locs : List Loc} {ls : Array Slot} {cells slots : Nat} (hr : f_L_law_J984 x zL zx r28 z1 z2 z3 z4 z5 h n = some (1 : Int32)) (hI : gI x base s.heap h n H locs) (hl : lv_has ls 10 [(0, .ref zb), (1, .ref z1), (2, .ref z2), (3, .ref z3), (4, .ref z4), (5, .int z5)]) (hcc : cells + (5 + b28) ≤ 1200144 ∧ slots + (25 + d28) ≤ 5496442) : W p l e room_1 s m args below meth c H locs cells slots (lw_Z below args s) (F0 m 984 ls []) := by
  have hx := X.1
  have hb := X.2.1
  unfold f_L_law_J984 at hr
  refine lv_aload_n hx hb dL_law_984 rfl (lv_at hl 1 rfl) ?_
  refine lv_aload_n hx hb dL_law_985 rfl (lv_at hl 0 rfl) ?_
  refine lv_iload hx hb dL_law_986 (lv_at hl 5 rfl) ?_
  refine lv_iconst (v := 1) hx hb dL_law_988 (by decide) ?_
  refine lv_iadd hx hb dL_law_989 ?_
  refine g_sld X hI hsc hsb hbs hr dL_law_990 (fun v255 hr => ?_)
  refine lv_aload_n hx hb dL_law_991 rfl (lv_at hl 3 rfl) ?_
  rcases gTX_i hr with ⟨v257, h259, n260, hc256, hr⟩ | ⟨q258, h261, n262, hc256, hr⟩
  · refine gXRet_i (g_wrunS X hI (w_X0_shareSize hst hc256) hl (lw_SW q1256 q1257 q95 q1258) rfl rfl hd_X0_shareSize ⟨Nat.le_of_ble_eq_true rfl, Nat.le_of_ble_eq_true rfl⟩ (as := [.ref z1, .int v255, .ref z3]) (rest := []) rfl rfl (Nat.le_of_ble_eq_true rfl) ⟨(show cells + 5 ≤ 1200144 from by omega), (show slots + 25 ≤ 5496442 from by omega)⟩ dL_law_992) (fun H locs hI => ?_)
    refine lv_istore (lv' := [(6, .int v257), (0, .ref zb), (1, .ref z1), (2, .ref z2), (3, .ref z3), (4, .ref z4), (5, .int z5)]) hx hb dL_law_995 hl (by decide) rfl (fun ls hl => ?_)
    refine lv_aload_n hx hb dL_law_997 rfl (lv_at hl 3 rfl) ?_
    refine lv_aload_n hx hb dL_law_998 rfl (lv_at hl 1 rfl) ?_
    refine lv_iload hx hb dL_law_999 (lv_at hl 6 rfl) ?_
    refine lv_iconst (v := 1) hx hb dL_law_1001 (by decide) ?_
    refine lv_iadd hx hb dL_law_1002 ?_
    refine g_sld X hI hsc hsb hbs hr dL_law_1003 (fun v263 hr => ?_)
    obtain ⟨M264, hM265, hr⟩ := gB_i hr
    replace hI := hI.toM hM265
    obtain ⟨v267, iT_268, hc266, hr⟩ := gT2_i hr
    refine gRun_i (g_runV X hI (w_X6_shareSize hc266) (g_obj_s mH_0) rfl hl (lw_V q1928 q1929 q1930 q122 q1931) rfl rfl hd_X6_shareSize ⟨Nat.le_of_ble_eq_true rfl, Nat.le_of_ble_eq_true rfl⟩ (as := [.int v263]) (rest := []) rfl rfl (Nat.le_of_ble_eq_true rfl) ⟨(show (cells + 5) + 0 ≤ 1200144 from by omega), (show (slots + 25) + 0 ≤ 5496442 from by omega)⟩ dL_law_1004) (fun H locs hI => ?_)
    refine lv_istore (lv' := [(7, .int v267), (6, .int v257), (0, .ref zb), (1, .ref z1), (2, .ref z2), (3, .ref z3), (4, .ref z4), (5, .int z5)]) hx hb dL_law_1007 hl (by decide) rfl (fun ls hl => ?_)
    refine lv_aload_n hx hb dL_law_1009 rfl (lv_at hl 4 rfl) ?_
    obtain ⟨v270, hc269, hr⟩ := gB_i hr
    refine gRun_i (g_runV X hI (w_X6_thrown hc269) (g_obj_s mH_0) rfl hl (lw_V q1584 q1585 q1586 q122 q1587) rfl rfl hd_X6_thrown ⟨Nat.le_of_ble_eq_true rfl, Nat.le_of_ble_eq_true rfl⟩ (as := []) (rest := []) rfl rfl (Nat.le_of_ble_eq_true rfl) ⟨(show ((cells + 5) + 0) + 0 ≤ 1200144 from by omega), (show ((slots + 25) + 0) + 0 ≤ 5496442 from by omega)⟩ dL_law_1010) (fun H locs hI => ?_)
    refine lv_iload hx hb dL_law_1013 (lv_at hl 1 rfl) ?_
    refine lv_icmp_eq (tgt := 1020) hx hb dL_law_1015 (by decide) (fun c9 => ?_) (fun c9 => ?_)
    · replace hr := gIf_t c9 hr
      refine lv_iload hx hb dL_law_1020 (lv_at hl 1 rfl) ?_
      refine lv_if_ne (tgt := 1037) hx hb dL_law_1022 (by decide) (fun c9 => ?_) (fun c9 => ?_)
      · replace hr := gIf_f c9 hr
        refine lv_goto (tgt := 2884) hx hb dL_law_1037 (by decide) ?_
        exact w_L_law_J2884 X hst hsc hsb hbs Hr28 hr hI (lv_sub hl [2, 3, 4, 5, 6, 7] rfl) (by omega)
      · replace hr := gIf_t c9 hr
        refine lv_aload_n hx hb dL_law_1025 rfl (lv_at hl 5 rfl) ?_
        refine lv_iconst (v := 0) hx hb dL_law_1026 (by decide) ?_
        refine g_lald X hI hr dL_law_1027 (fun v271 hr => ?_)
        refine lv_iload hx hb dL_law_1028 (lv_at hl 0 rfl) ?_
        refine lv_i2l hx hb dL_law_1030 rfl ?_
        refine W.lcmp hx hb dL_law_1031 ?_
        refine lv_if_eq (tgt := 1037) hx hb dL_law_1032 (by decide) (fun c9 => ?_) (fun c9 => ?_)
        · replace hr := gIf_t c9 hr
          refine lv_goto (tgt := 2884) hx hb dL_law_1037 (by decide) ?_
          exact w_L_law_J2884 X hst hsc hsb hbs Hr28 hr hI (lv_sub hl [2, 3, 4, 5, 6, 7] rfl) (by omega)
        · replace hr := gIf_f c9 hr
          refine lv_iconst (v := 0) hx hb dL_law_1035 (by decide) ?_
          exact absurd hr (by decide)
    · replace hr := gIf_f c9 hr
      refine lv_iconst (v := 0) hx hb dL_law_1018 (by decide) ?_
      exact absurd hr (by decide)
  · exact nomatch hr
set_option maxHeartbeats 2000000 in
theorem w_L_law_J1040 {h : gH} {n : Nat} {r28 : Int32 → gH → Nat → Option Int32} {z1 : Nat} {z2 : Nat} {z3 : Nat} {z4 : Nat} {b28 : Nat} {d28 : Nat} {z5 : Int32} (X : gXX x base RX0 cL_law 10 (some .boolean) p l s m args meth c) (hst : l.stackTraces = false) (hsc : va_X zb zL zx s s.heap) (hsb : zb < s.heap.size) (hbs : base = s.heap.size) (Hr28 : ∀ {z5 : Int32} {h : gH} {n : Nat} {H : Heap} {locs : List Loc} {ls : Array Slot} {cells slots : Nat}, r28 z5 h n = some (1 : Int32) → gI x base s.heap h n H locs → lv_has ls 10 [(0, .ref zb), (1, .ref z1), (2, .ref z2), (3, .ref z3), (4, .ref z4), (5, .int z5)] → (cells + b28 ≤ 1200144 ∧ slots + d28 ≤ 5496442) → W p l e room_1 s m args below meth c H locs cells slots (lw_Z below args s) (F0 m 28 ls [])) {H : Heap} {locs : List Loc} {ls : Array Slot} {cells slots : Nat} (hr : f_L_law_J1040 x zL zx r28 z1 z2 z3 z4 z5 h n = some (1 : Int32)) (hI : gI x base s.heap h n H locs) (hl : lv_has ls 10 [(0, .ref zb), (1, .ref z1), (2, .ref z2), (3, .ref z3), (4, .ref z4), (5, .int z5)]) (hcc : cells + (5 + b28) ≤ 1200144 ∧ slots + (25 + d28) ≤ 5496442) : W p l e room_1 s m args below meth c H locs cells slots (lw_Z below args s) (F0 m 1040 ls []) := by
  have hx := X.1
  have hb := X.2.1
  unfold f_L_law_J1040 at hr
  refine lv_aload_n hx hb dL_law_1040 rfl (lv_at hl 1 rfl) ?_
  refine lv_aload_n hx hb dL_law_1041 rfl (lv_at hl 0 rfl) ?_
  refine lv_iload hx hb dL_law_1042 (lv_at hl 5 rfl) ?_
  refine lv_iconst (v := 1) hx hb dL_law_1044 (by decide) ?_
  refine lv_iadd hx hb dL_law_1045 ?_
  refine g_sld X hI hsc hsb hbs hr dL_law_1046 (fun v272 hr => ?_)
  refine lv_aload_n hx hb dL_law_1047 rfl (lv_at hl 3 rfl) ?_
  rcases gTX_i hr with ⟨v274, h276, n277, hc273, hr⟩ | ⟨q275, h278, n279, hc273, hr⟩
  · refine gXRet_i (g_wrunS X hI (w_X0_pieceCount hst hc273) hl (lw_SW q1263 q1264 q95 q1265) rfl rfl hd_X0_pieceCount ⟨Nat.le_of_ble_eq_true rfl, Nat.le_of_ble_eq_true rfl⟩ (as := [.ref z1, .int v272, .ref z3]) (rest := []) rfl rfl (Nat.le_of_ble_eq_true rfl) ⟨(show cells + 5 ≤ 1200144 from by omega), (show slots + 25 ≤ 5496442 from by omega)⟩ dL_law_1048) (fun H locs hI => ?_)
    refine lv_istore (lv' := [(6, .int v274), (0, .ref zb), (1, .ref z1), (2, .ref z2), (3, .ref z3), (4, .ref z4), (5, .int z5)]) hx hb dL_law_1051 hl (by decide) rfl (fun ls hl => ?_)
    refine lv_aload_n hx hb dL_law_1053 rfl (lv_at hl 3 rfl) ?_
    refine lv_aload_n hx hb dL_law_1054 rfl (lv_at hl 1 rfl) ?_
    refine lv_iload hx hb dL_law_1055 (lv_at hl 6 rfl) ?_
    refine lv_iconst (v := 1) hx hb dL_law_1057 (by decide) ?_
    refine lv_iadd hx hb dL_law_1058 ?_
    refine g_sld X hI hsc hsb hbs hr dL_law_1059 (fun v280 hr => ?_)
    obtain ⟨M281, hM282, hr⟩ := gB_i hr
    replace hI := hI.toM hM282
    obtain ⟨v284, iT_285, hc283, hr⟩ := gT2_i hr
    refine gRun_i (g_runV X hI (w_X6_pieceCount hc283) (g_obj_s mH_0) rfl hl (lw_V q1936 q1937 q1938 q122 q1939) rfl rfl hd_X6_pieceCount ⟨Nat.le_of_ble_eq_true rfl, Nat.le_of_ble_eq_true rfl⟩ (as := [.int v280]) (rest := []) rfl rfl (Nat.le_of_ble_eq_true rfl) ⟨(show (cells + 5) + 0 ≤ 1200144 from by omega), (show (slots + 25) + 0 ≤ 5496442 from by omega)⟩ dL_law_1060) (fun H locs hI => ?_)
    refine lv_istore (lv' := [(7, .int v284), (6, .int v274), (0, .ref zb), (1, .ref z1), (2, .ref z2), (3, .ref z3), (4, .ref z4), (5, .int z5)]) hx hb dL_law_1063 hl (by decide) rfl (fun ls hl => ?_)
    refine lv_aload_n hx hb dL_law_1065 rfl (lv_at hl 4 rfl) ?_
    obtain ⟨v287, hc286, hr⟩ := gB_i hr
    refine gRun_i (g_runV X hI (w_X6_thrown hc286) (g_obj_s mH_0) rfl hl (lw_V q1584 q1585 q1586 q122 q1587) rfl rfl hd_X6_thrown ⟨Nat.le_of_ble_eq_true rfl, Nat.le_of_ble_eq_true rfl⟩ (as := []) (rest := []) rfl rfl (Nat.le_of_ble_eq_true rfl) ⟨(show ((cells + 5) + 0) + 0 ≤ 1200144 from by omega), (show ((slots + 25) + 0) + 0 ≤ 5496442 from by omega)⟩ dL_law_1066) (fun H locs hI => ?_)
    refine lv_iload hx hb dL_law_1069 (lv_at hl 1 rfl) ?_
    refine lv_icmp_eq (tgt := 1076) hx hb dL_law_1071 (by decide) (fun c9 => ?_) (fun c9 => ?_)
    · replace hr := gIf_t c9 hr
      refine lv_iload hx hb dL_law_1076 (lv_at hl 1 rfl) ?_
      refine lv_if_ne (tgt := 1093) hx hb dL_law_1078 (by decide) (fun c9 => ?_) (fun c9 => ?_)
      · replace hr := gIf_f c9 hr
        refine lv_goto (tgt := 2884) hx hb dL_law_1093 (by decide) ?_
        exact w_L_law_J2884 X hst hsc hsb hbs Hr28 hr hI (lv_sub hl [2, 3, 4, 5, 6, 7] rfl) (by omega)
      · replace hr := gIf_t c9 hr
        refine lv_aload_n hx hb dL_law_1081 rfl (lv_at hl 5 rfl) ?_
        refine lv_iconst (v := 0) hx hb dL_law_1082 (by decide) ?_
        refine g_lald X hI hr dL_law_1083 (fun v288 hr => ?_)
        refine lv_iload hx hb dL_law_1084 (lv_at hl 0 rfl) ?_
        refine lv_i2l hx hb dL_law_1086 rfl ?_
        refine W.lcmp hx hb dL_law_1087 ?_
        refine lv_if_eq (tgt := 1093) hx hb dL_law_1088 (by decide) (fun c9 => ?_) (fun c9 => ?_)
        · replace hr := gIf_t c9 hr
          refine lv_goto (tgt := 2884) hx hb dL_law_1093 (by decide) ?_
          exact w_L_law_J2884 X hst hsc hsb hbs Hr28 hr hI (lv_sub hl [2, 3, 4, 5, 6, 7] rfl) (by omega)
        · replace hr := gIf_f c9 hr
          refine lv_iconst (v := 0) hx hb dL_law_1091 (by decide) ?_
          exact absurd hr (by decide)
    · replace hr := gIf_f c9 hr
      refine lv_iconst (v := 0) hx hb dL_law_1074 (by decide) ?_
      exact absurd hr (by decide)
  · exact nomatch hr
set_option maxHeartbeats 2000000 in
theorem w_L_law_J1096 {h : gH} {n : Nat} {r28 : Int32 → gH → Nat → Option Int32} {z1 : Nat} {z2 : Nat} {z3 : Nat} {z4 : Nat} {b28 : Nat} {d28 : Nat} {z5 : Int32} (X : gXX x base RX0 cL_law 10 (some .boolean) p l s m args meth c) (hst : l.stackTraces = false) (hsc : va_X zb zL zx s s.heap) (hsb : zb < s.heap.size) (hbs : base = s.heap.size) (Hr28 : ∀ {z5 : Int32} {h : gH} {n : Nat} {H : Heap} {locs : List Loc} {ls : Array Slot} {cells slots : Nat}, r28 z5 h n = some (1 : Int32) → gI x base s.heap h n H locs → lv_has ls 10 [(0, .ref zb), (1, .ref z1), (2, .ref z2), (3, .ref z3), (4, .ref z4), (5, .int z5)] → (cells + b28 ≤ 1200144 ∧ slots + d28 ≤ 5496442) → W p l e room_1 s m args below meth c H locs cells slots (lw_Z below args s) (F0 m 28 ls [])) {H : Heap} {locs : List Loc} {ls : Array Slot} {cells slots : Nat} (hr : f_L_law_J1096 x zL zx r28 z1 z2 z3 z4 z5 h n = some (1 : Int32)) (hI : gI x base s.heap h n H locs) (hl : lv_has ls 10 [(0, .ref zb), (1, .ref z1), (2, .ref z2), (3, .ref z3), (4, .ref z4), (5, .int z5)]) (hcc : cells + (0 + b28) ≤ 1200144 ∧ slots + (0 + d28) ≤ 5496442) : W p l e room_1 s m args below meth c H locs cells slots (lw_Z below args s) (F0 m 1096 ls []) := by
  have hx := X.1
  have hb := X.2.1
  unfold f_L_law_J1096 at hr
  refine lv_aload_n hx hb dL_law_1096 rfl (lv_at hl 1 rfl) ?_
  obtain ⟨_, ho289, hr⟩ := gB_i hr
  obtain ⟨v291, hc290, hr⟩ := gB_i hr
  refine gRun_i (g_runV X hI (w_X1_freeCount hc290) ho289 rfl hl (lw_V q804 q805 q806 q96 q807) rfl rfl hd_X1_freeCount ⟨Nat.le_of_ble_eq_true rfl, Nat.le_of_ble_eq_true rfl⟩ (as := []) (rest := []) rfl rfl (Nat.le_of_ble_eq_true rfl) ⟨(show cells + 0 ≤ 1200144 from by omega), (show slots + 0 ≤ 5496442 from by omega)⟩ dL_law_1097) (fun H locs hI => ?_)
  refine lv_aload_n hx hb dL_law_1100 rfl (lv_at hl 2 rfl) ?_
  obtain ⟨M292, hM293, hr⟩ := gB_i hr
  replace hI := hI.toM hM293
  obtain ⟨v295, iT_296, hc294, hr⟩ := gT2_i hr
  refine gRun_i (g_runV X hI (w_X6_freeCount hc294) (g_obj_s mH_0) rfl hl (lw_V q1944 q1945 q1946 q122 q1947) rfl rfl hd_X6_freeCount ⟨Nat.le_of_ble_eq_true rfl, Nat.le_of_ble_eq_true rfl⟩ (as := []) (rest := [.int v291]) rfl rfl (Nat.le_of_ble_eq_true rfl) ⟨(show (cells + 0) + 0 ≤ 1200144 from by omega), (show (slots + 0) + 0 ≤ 5496442 from by omega)⟩ dL_law_1101) (fun H locs hI => ?_)
  refine lv_icmp_eq (tgt := 2884) hx hb dL_law_1104 (by decide) (fun c9 => ?_) (fun c9 => ?_)
  · replace hr := gIf_t c9 hr
    exact w_L_law_J2884 X hst hsc hsb hbs Hr28 hr hI (lv_sub hl [0, 1, 2, 3, 4, 5] rfl) (by omega)
  · replace hr := gIf_f c9 hr
    refine lv_iconst (v := 0) hx hb dL_law_1107 (by decide) ?_
    exact absurd hr (by decide)
set_option maxHeartbeats 2000000 in
theorem w_L_law_J1109 {h : gH} {n : Nat} {r28 : Int32 → gH → Nat → Option Int32} {z1 : Nat} {z2 : Nat} {z3 : Nat} {z4 : Nat} {b28 : Nat} {d28 : Nat} {z5 : Int32} (X : gXX x base RX0 cL_law 10 (some .boolean) p l s m args meth c) (hst : l.stackTraces = false) (hsc : va_X zb zL zx s s.heap) (hsb : zb < s.heap.size) (hbs : base = s.heap.size) (Hr28 : ∀ {z5 : Int32} {h : gH} {n : Nat} {H : Heap} {locs : List Loc} {ls : Array Slot} {cells slots : Nat}, r28 z5 h n = some (1 : Int32) → gI x base s.heap h n H locs → lv_has ls 10 [(0, .ref zb), (1, .ref z1), (2, .ref z2), (3, .ref z3), (4, .ref z4), (5, .int z5)] → (cells + b28 ≤ 1200144 ∧ slots + d28 ≤ 5496442) → W p l e room_1 s m args below meth c H locs cells slots (lw_Z below args s) (F0 m 28 ls [])) {H : Heap} {locs : List Loc} {ls : Array Slot} {cells slots : Nat} (hr : f_L_law_J1109 x zL zx r28 z1 z2 z3 z4 z5 h n = some (1 : Int32)) (hI : gI x base s.heap h n H locs) (hl : lv_has ls 10 [(0, .ref zb), (1, .ref z1), (2, .ref z2), (3, .ref z3), (4, .ref z4), (5, .int z5)]) (hcc : cells + (7 + b28) ≤ 1200144 ∧ slots + (37 + d28) ≤ 5496442) : W p l e room_1 s m args below meth c H locs cells slots (lw_Z below args s) (F0 m 1109 ls []) := by
  have hx := X.1
  have hb := X.2.1
  unfold f_L_law_J1109 at hr
  refine lv_aload_n hx hb dL_law_1109 rfl (lv_at hl 1 rfl) ?_
  refine lv_aload_n hx hb dL_law_1110 rfl (lv_at hl 0 rfl) ?_
  refine lv_iload hx hb dL_law_1111 (lv_at hl 5 rfl) ?_
  refine lv_iconst (v := 1) hx hb dL_law_1113 (by decide) ?_
  refine lv_iadd hx hb dL_law_1114 ?_
  refine g_sld X hI hsc hsb hbs hr dL_law_1115 (fun v297 hr => ?_)
  refine lv_aload_n hx hb dL_law_1116 rfl (lv_at hl 0 rfl) ?_
  refine lv_iload hx hb dL_law_1117 (lv_at hl 5 rfl) ?_
  refine lv_iconst (v := 2) hx hb dL_law_1119 (by decide) ?_
  refine lv_iadd hx hb dL_law_1120 ?_
  refine g_sld X hI hsc hsb hbs hr dL_law_1121 (fun v298 hr => ?_)
  refine lv_aload_n hx hb dL_law_1122 rfl (lv_at hl 0 rfl) ?_
  refine lv_iload hx hb dL_law_1123 (lv_at hl 5 rfl) ?_
  refine lv_iconst (v := 3) hx hb dL_law_1125 (by decide) ?_
  refine lv_iadd hx hb dL_law_1126 ?_
  refine g_sld X hI hsc hsb hbs hr dL_law_1127 (fun v299 hr => ?_)
  refine lv_aload_n hx hb dL_law_1128 rfl (lv_at hl 3 rfl) ?_
  rcases gTX_i hr with ⟨v301, h303, n304, hc300, hr⟩ | ⟨q302, h305, n306, hc300, hr⟩
  · refine gXRet_i (g_wrunS X hI (w_X0_mark hst hc300) hl (lw_SW q1270 q1271 q95 q1272) rfl rfl hd_X0_mark ⟨Nat.le_of_ble_eq_true rfl, Nat.le_of_ble_eq_true rfl⟩ (as := [.ref z1, .int v297, .int v298, .int v299, .ref z3]) (rest := []) rfl rfl (Nat.le_of_ble_eq_true rfl) ⟨(show cells + 7 ≤ 1200144 from by omega), (show slots + 37 ≤ 5496442 from by omega)⟩ dL_law_1129) (fun H locs hI => ?_)
    refine lv_istore (lv' := [(6, .int v301), (0, .ref zb), (1, .ref z1), (2, .ref z2), (3, .ref z3), (4, .ref z4), (5, .int z5)]) hx hb dL_law_1132 hl (by decide) rfl (fun ls hl => ?_)
    refine lv_aload_n hx hb dL_law_1134 rfl (lv_at hl 3 rfl) ?_
    refine lv_aload_n hx hb dL_law_1135 rfl (lv_at hl 1 rfl) ?_
    refine lv_iload hx hb dL_law_1136 (lv_at hl 6 rfl) ?_
    refine lv_iconst (v := 1) hx hb dL_law_1138 (by decide) ?_
    refine lv_iadd hx hb dL_law_1139 ?_
    refine g_sld X hI hsc hsb hbs hr dL_law_1140 (fun v307 hr => ?_)
    refine lv_aload_n hx hb dL_law_1141 rfl (lv_at hl 1 rfl) ?_
    refine lv_iload hx hb dL_law_1142 (lv_at hl 6 rfl) ?_
    refine lv_iconst (v := 2) hx hb dL_law_1144 (by decide) ?_
    refine lv_iadd hx hb dL_law_1145 ?_
    refine g_sld X hI hsc hsb hbs hr dL_law_1146 (fun v308 hr => ?_)
    refine lv_aload_n hx hb dL_law_1147 rfl (lv_at hl 1 rfl) ?_
    refine lv_iload hx hb dL_law_1148 (lv_at hl 6 rfl) ?_
    refine lv_iconst (v := 3) hx hb dL_law_1150 (by decide) ?_
    refine lv_iadd hx hb dL_law_1151 ?_
    refine g_sld X hI hsc hsb hbs hr dL_law_1152 (fun v309 hr => ?_)
    obtain ⟨M310, hM311, hr⟩ := gB_i hr
    replace hI := hI.toM hM311
    obtain ⟨v313, iT_314, hc312, hr⟩ := gT2_i hr
    refine gRun_i (g_runV X hI (w_X6_mark hc312) (g_obj_s mH_0) rfl hl (lw_V q1948 q1949 q1950 q122 q1951) rfl rfl hd_X6_mark ⟨Nat.le_of_ble_eq_true rfl, Nat.le_of_ble_eq_true rfl⟩ (as := [.int v307, .int v308, .int v309]) (rest := []) rfl rfl (Nat.le_of_ble_eq_true rfl) ⟨(show (cells + 7) + 0 ≤ 1200144 from by omega), (show (slots + 37) + 0 ≤ 5496442 from by omega)⟩ dL_law_1153) (fun H locs hI => ?_)
    refine lv_istore (lv' := [(7, .int v313), (6, .int v301), (0, .ref zb), (1, .ref z1), (2, .ref z2), (3, .ref z3), (4, .ref z4), (5, .int z5)]) hx hb dL_law_1156 hl (by decide) rfl (fun ls hl => ?_)
    refine lv_aload_n hx hb dL_law_1158 rfl (lv_at hl 4 rfl) ?_
    obtain ⟨v316, hc315, hr⟩ := gB_i hr
    refine gRun_i (g_runV X hI (w_X6_thrown hc315) (g_obj_s mH_0) rfl hl (lw_V q1584 q1585 q1586 q122 q1587) rfl rfl hd_X6_thrown ⟨Nat.le_of_ble_eq_true rfl, Nat.le_of_ble_eq_true rfl⟩ (as := []) (rest := []) rfl rfl (Nat.le_of_ble_eq_true rfl) ⟨(show ((cells + 7) + 0) + 0 ≤ 1200144 from by omega), (show ((slots + 37) + 0) + 0 ≤ 5496442 from by omega)⟩ dL_law_1159) (fun H locs hI => ?_)
    refine lv_iload hx hb dL_law_1162 (lv_at hl 1 rfl) ?_
    refine lv_icmp_eq (tgt := 1169) hx hb dL_law_1164 (by decide) (fun c9 => ?_) (fun c9 => ?_)
    · replace hr := gIf_t c9 hr
      refine lv_iload hx hb dL_law_1169 (lv_at hl 1 rfl) ?_
      refine lv_if_ne (tgt := 1186) hx hb dL_law_1171 (by decide) (fun c9 => ?_) (fun c9 => ?_)
      · replace hr := gIf_f c9 hr
        refine lv_goto (tgt := 2884) hx hb dL_law_1186 (by decide) ?_
        exact w_L_law_J2884 X hst hsc hsb hbs Hr28 hr hI (lv_sub hl [2, 3, 4, 5, 6, 7] rfl) (by omega)
      · replace hr := gIf_t c9 hr
        refine lv_aload_n hx hb dL_law_1174 rfl (lv_at hl 5 rfl) ?_
        refine lv_iconst (v := 0) hx hb dL_law_1175 (by decide) ?_
        refine g_lald X hI hr dL_law_1176 (fun v317 hr => ?_)
        refine lv_iload hx hb dL_law_1177 (lv_at hl 0 rfl) ?_
        refine lv_i2l hx hb dL_law_1179 rfl ?_
        refine W.lcmp hx hb dL_law_1180 ?_
        refine lv_if_eq (tgt := 1186) hx hb dL_law_1181 (by decide) (fun c9 => ?_) (fun c9 => ?_)
        · replace hr := gIf_t c9 hr
          refine lv_goto (tgt := 2884) hx hb dL_law_1186 (by decide) ?_
          exact w_L_law_J2884 X hst hsc hsb hbs Hr28 hr hI (lv_sub hl [2, 3, 4, 5, 6, 7] rfl) (by omega)
        · replace hr := gIf_f c9 hr
          refine lv_iconst (v := 0) hx hb dL_law_1184 (by decide) ?_
          exact absurd hr (by decide)
    · replace hr := gIf_f c9 hr
      refine lv_iconst (v := 0) hx hb dL_law_1167 (by decide) ?_
      exact absurd hr (by decide)
  · exact nomatch hr
set_option maxHeartbeats 2000000 in
theorem w_L_law_J1189 {h : gH} {n : Nat} {r28 : Int32 → gH → Nat → Option Int32} {z1 : Nat} {z2 : Nat} {z3 : Nat} {z4 : Nat} {b28 : Nat} {d28 : Nat} {z5 : Int32} (X : gXX x base RX0 cL_law 10 (some .boolean) p l s m args meth c) (hst : l.stackTraces = false) (hsc : va_X zb zL zx s s.heap) (hsb : zb < s.heap.size) (hbs : base = s.heap.size) (Hr28 : ∀ {z5 : Int32} {h : gH} {n : Nat} {H : Heap} {locs : List Loc} {ls : Array Slot} {cells slots : Nat}, r28 z5 h n = some (1 : Int32) → gI x base s.heap h n H locs → lv_has ls 10 [(0, .ref zb), (1, .ref z1), (2, .ref z2), (3, .ref z3), (4, .ref z4), (5, .int z5)] → (cells + b28 ≤ 1200144 ∧ slots + d28 ≤ 5496442) → W p l e room_1 s m args below meth c H locs cells slots (lw_Z below args s) (F0 m 28 ls [])) {H : Heap} {locs : List Loc} {ls : Array Slot} {cells slots : Nat} (hr : f_L_law_J1189 x zL zx r28 z1 z2 z3 z4 z5 h n = some (1 : Int32)) (hI : gI x base s.heap h n H locs) (hl : lv_has ls 10 [(0, .ref zb), (1, .ref z1), (2, .ref z2), (3, .ref z3), (4, .ref z4), (5, .int z5)]) (hcc : cells + (5 + b28) ≤ 1200144 ∧ slots + (25 + d28) ≤ 5496442) : W p l e room_1 s m args below meth c H locs cells slots (lw_Z below args s) (F0 m 1189 ls []) := by
  have hx := X.1
  have hb := X.2.1
  unfold f_L_law_J1189 at hr
  refine lv_aload_n hx hb dL_law_1189 rfl (lv_at hl 1 rfl) ?_
  refine lv_aload_n hx hb dL_law_1190 rfl (lv_at hl 0 rfl) ?_
  refine lv_iload hx hb dL_law_1191 (lv_at hl 5 rfl) ?_
  refine lv_iconst (v := 1) hx hb dL_law_1193 (by decide) ?_
  refine lv_iadd hx hb dL_law_1194 ?_
  refine g_sld X hI hsc hsb hbs hr dL_law_1195 (fun v318 hr => ?_)
  refine lv_aload_n hx hb dL_law_1196 rfl (lv_at hl 3 rfl) ?_
  rcases gTX_i hr with ⟨v320, h322, n323, hc319, hr⟩ | ⟨q321, h324, n325, hc319, hr⟩
  · refine gXRet_i (g_wrunS X hI (w_X0_favouriteFreeCell hst hc319) hl (lw_SW q1278 q1279 q95 q1280) rfl rfl hd_X0_favouriteFreeCell ⟨Nat.le_of_ble_eq_true rfl, Nat.le_of_ble_eq_true rfl⟩ (as := [.ref z1, .int v318, .ref z3]) (rest := []) rfl rfl (Nat.le_of_ble_eq_true rfl) ⟨(show cells + 5 ≤ 1200144 from by omega), (show slots + 25 ≤ 5496442 from by omega)⟩ dL_law_1197) (fun H locs hI => ?_)
    refine lv_istore (lv' := [(6, .int v320), (0, .ref zb), (1, .ref z1), (2, .ref z2), (3, .ref z3), (4, .ref z4), (5, .int z5)]) hx hb dL_law_1200 hl (by decide) rfl (fun ls hl => ?_)
    refine lv_aload_n hx hb dL_law_1202 rfl (lv_at hl 3 rfl) ?_
    refine lv_aload_n hx hb dL_law_1203 rfl (lv_at hl 1 rfl) ?_
    refine lv_iload hx hb dL_law_1204 (lv_at hl 6 rfl) ?_
    refine lv_iconst (v := 1) hx hb dL_law_1206 (by decide) ?_
    refine lv_iadd hx hb dL_law_1207 ?_
    refine g_sld X hI hsc hsb hbs hr dL_law_1208 (fun v326 hr => ?_)
    obtain ⟨M327, hM328, hr⟩ := gB_i hr
    replace hI := hI.toM hM328
    obtain ⟨v330, iT_331, hc329, hr⟩ := gT2_i hr
    refine gRun_i (g_runV X hI (w_X6_favouriteFreeCell hc329) (g_obj_s mH_0) rfl hl (lw_V q1952 q1953 q1954 q122 q1955) rfl rfl hd_X6_favouriteFreeCell ⟨Nat.le_of_ble_eq_true rfl, Nat.le_of_ble_eq_true rfl⟩ (as := [.int v326]) (rest := []) rfl rfl (Nat.le_of_ble_eq_true rfl) ⟨(show (cells + 5) + 0 ≤ 1200144 from by omega), (show (slots + 25) + 0 ≤ 5496442 from by omega)⟩ dL_law_1209) (fun H locs hI => ?_)
    refine lv_istore (lv' := [(7, .int v330), (6, .int v320), (0, .ref zb), (1, .ref z1), (2, .ref z2), (3, .ref z3), (4, .ref z4), (5, .int z5)]) hx hb dL_law_1212 hl (by decide) rfl (fun ls hl => ?_)
    refine lv_aload_n hx hb dL_law_1214 rfl (lv_at hl 4 rfl) ?_
    obtain ⟨v333, hc332, hr⟩ := gB_i hr
    refine gRun_i (g_runV X hI (w_X6_thrown hc332) (g_obj_s mH_0) rfl hl (lw_V q1584 q1585 q1586 q122 q1587) rfl rfl hd_X6_thrown ⟨Nat.le_of_ble_eq_true rfl, Nat.le_of_ble_eq_true rfl⟩ (as := []) (rest := []) rfl rfl (Nat.le_of_ble_eq_true rfl) ⟨(show ((cells + 5) + 0) + 0 ≤ 1200144 from by omega), (show ((slots + 25) + 0) + 0 ≤ 5496442 from by omega)⟩ dL_law_1215) (fun H locs hI => ?_)
    refine lv_iload hx hb dL_law_1218 (lv_at hl 1 rfl) ?_
    refine lv_icmp_eq (tgt := 1225) hx hb dL_law_1220 (by decide) (fun c9 => ?_) (fun c9 => ?_)
    · replace hr := gIf_t c9 hr
      refine lv_iload hx hb dL_law_1225 (lv_at hl 1 rfl) ?_
      refine lv_if_ne (tgt := 1242) hx hb dL_law_1227 (by decide) (fun c9 => ?_) (fun c9 => ?_)
      · replace hr := gIf_f c9 hr
        refine lv_goto (tgt := 2884) hx hb dL_law_1242 (by decide) ?_
        exact w_L_law_J2884 X hst hsc hsb hbs Hr28 hr hI (lv_sub hl [2, 3, 4, 5, 6, 7] rfl) (by omega)
      · replace hr := gIf_t c9 hr
        refine lv_aload_n hx hb dL_law_1230 rfl (lv_at hl 5 rfl) ?_
        refine lv_iconst (v := 0) hx hb dL_law_1231 (by decide) ?_
        refine g_lald X hI hr dL_law_1232 (fun v334 hr => ?_)
        refine lv_iload hx hb dL_law_1233 (lv_at hl 0 rfl) ?_
        refine lv_i2l hx hb dL_law_1235 rfl ?_
        refine W.lcmp hx hb dL_law_1236 ?_
        refine lv_if_eq (tgt := 1242) hx hb dL_law_1237 (by decide) (fun c9 => ?_) (fun c9 => ?_)
        · replace hr := gIf_t c9 hr
          refine lv_goto (tgt := 2884) hx hb dL_law_1242 (by decide) ?_
          exact w_L_law_J2884 X hst hsc hsb hbs Hr28 hr hI (lv_sub hl [2, 3, 4, 5, 6, 7] rfl) (by omega)
        · replace hr := gIf_f c9 hr
          refine lv_iconst (v := 0) hx hb dL_law_1240 (by decide) ?_
          exact absurd hr (by decide)
    · replace hr := gIf_f c9 hr
      refine lv_iconst (v := 0) hx hb dL_law_1223 (by decide) ?_
      exact absurd hr (by decide)
  · exact nomatch hr
set_option maxHeartbeats 2000000 in
theorem w_L_law_J1245 {h : gH} {n : Nat} {r28 : Int32 → gH → Nat → Option Int32} {z1 : Nat} {z2 : Nat} {z3 : Nat} {z4 : Nat} {b28 : Nat} {d28 : Nat} {z5 : Int32} (X : gXX x base RX0 cL_law 10 (some .boolean) p l s m args meth c) (hst : l.stackTraces = false) (hsc : va_X zb zL zx s s.heap) (hsb : zb < s.heap.size) (hbs : base = s.heap.size) (Hr28 : ∀ {z5 : Int32} {h : gH} {n : Nat} {H : Heap} {locs : List Loc} {ls : Array Slot} {cells slots : Nat}, r28 z5 h n = some (1 : Int32) → gI x base s.heap h n H locs → lv_has ls 10 [(0, .ref zb), (1, .ref z1), (2, .ref z2), (3, .ref z3), (4, .ref z4), (5, .int z5)] → (cells + b28 ≤ 1200144 ∧ slots + d28 ≤ 5496442) → W p l e room_1 s m args below meth c H locs cells slots (lw_Z below args s) (F0 m 28 ls [])) {H : Heap} {locs : List Loc} {ls : Array Slot} {cells slots : Nat} (hr : f_L_law_J1245 x zL zx r28 z1 z2 z3 z4 z5 h n = some (1 : Int32)) (hI : gI x base s.heap h n H locs) (hl : lv_has ls 10 [(0, .ref zb), (1, .ref z1), (2, .ref z2), (3, .ref z3), (4, .ref z4), (5, .int z5)]) (hcc : cells + (5 + b28) ≤ 1200144 ∧ slots + (26 + d28) ≤ 5496442) : W p l e room_1 s m args below meth c H locs cells slots (lw_Z below args s) (F0 m 1245 ls []) := by
  have hx := X.1
  have hb := X.2.1
  unfold f_L_law_J1245 at hr
  refine lv_aload_n hx hb dL_law_1245 rfl (lv_at hl 1 rfl) ?_
  refine lv_aload_n hx hb dL_law_1246 rfl (lv_at hl 0 rfl) ?_
  refine lv_iload hx hb dL_law_1247 (lv_at hl 5 rfl) ?_
  refine lv_iconst (v := 1) hx hb dL_law_1249 (by decide) ?_
  refine lv_iadd hx hb dL_law_1250 ?_
  refine g_sld X hI hsc hsb hbs hr dL_law_1251 (fun v335 hr => ?_)
  refine lv_aload_n hx hb dL_law_1252 rfl (lv_at hl 0 rfl) ?_
  refine lv_iload hx hb dL_law_1253 (lv_at hl 5 rfl) ?_
  refine lv_iconst (v := 2) hx hb dL_law_1255 (by decide) ?_
  refine lv_iadd hx hb dL_law_1256 ?_
  refine g_sld X hI hsc hsb hbs hr dL_law_1257 (fun v336 hr => ?_)
  refine lv_aload_n hx hb dL_law_1258 rfl (lv_at hl 3 rfl) ?_
  rcases gTX_i hr with ⟨v338, h340, n341, hc337, hr⟩ | ⟨q339, h342, n343, hc337, hr⟩
  · refine gXRet_i (g_wrunS X hI (w_X0_envies hst hc337) hl (lw_SW q1286 q1287 q95 q1288) rfl rfl hd_X0_envies ⟨Nat.le_of_ble_eq_true rfl, Nat.le_of_ble_eq_true rfl⟩ (as := [.ref z1, .int v335, .int v336, .ref z3]) (rest := []) rfl rfl (Nat.le_of_ble_eq_true rfl) ⟨(show cells + 5 ≤ 1200144 from by omega), (show slots + 26 ≤ 5496442 from by omega)⟩ dL_law_1259) (fun H locs hI => ?_)
    refine lv_istore (lv' := [(6, .int v338), (0, .ref zb), (1, .ref z1), (2, .ref z2), (3, .ref z3), (4, .ref z4), (5, .int z5)]) hx hb dL_law_1262 hl (by decide) rfl (fun ls hl => ?_)
    refine lv_aload_n hx hb dL_law_1264 rfl (lv_at hl 3 rfl) ?_
    refine lv_aload_n hx hb dL_law_1265 rfl (lv_at hl 1 rfl) ?_
    refine lv_iload hx hb dL_law_1266 (lv_at hl 6 rfl) ?_
    refine lv_iconst (v := 1) hx hb dL_law_1268 (by decide) ?_
    refine lv_iadd hx hb dL_law_1269 ?_
    refine g_sld X hI hsc hsb hbs hr dL_law_1270 (fun v344 hr => ?_)
    refine lv_aload_n hx hb dL_law_1271 rfl (lv_at hl 1 rfl) ?_
    refine lv_iload hx hb dL_law_1272 (lv_at hl 6 rfl) ?_
    refine lv_iconst (v := 2) hx hb dL_law_1274 (by decide) ?_
    refine lv_iadd hx hb dL_law_1275 ?_
    refine g_sld X hI hsc hsb hbs hr dL_law_1276 (fun v345 hr => ?_)
    obtain ⟨M346, hM347, hr⟩ := gB_i hr
    replace hI := hI.toM hM347
    obtain ⟨v349, iT_350, hc348, hr⟩ := gT2_i hr
    refine gRun_i (g_runV X hI (w_X6_envies hc348) (g_obj_s mH_0) rfl hl (lw_V q1956 q1957 q1958 q122 q1959) rfl rfl hd_X6_envies ⟨Nat.le_of_ble_eq_true rfl, Nat.le_of_ble_eq_true rfl⟩ (as := [.int v344, .int v345]) (rest := []) rfl rfl (Nat.le_of_ble_eq_true rfl) ⟨(show (cells + 5) + 0 ≤ 1200144 from by omega), (show (slots + 26) + 0 ≤ 5496442 from by omega)⟩ dL_law_1277) (fun H locs hI => ?_)
    refine lv_istore (lv' := [(7, .int v349), (6, .int v338), (0, .ref zb), (1, .ref z1), (2, .ref z2), (3, .ref z3), (4, .ref z4), (5, .int z5)]) hx hb dL_law_1280 hl (by decide) rfl (fun ls hl => ?_)
    refine lv_aload_n hx hb dL_law_1282 rfl (lv_at hl 4 rfl) ?_
    obtain ⟨v352, hc351, hr⟩ := gB_i hr
    refine gRun_i (g_runV X hI (w_X6_thrown hc351) (g_obj_s mH_0) rfl hl (lw_V q1584 q1585 q1586 q122 q1587) rfl rfl hd_X6_thrown ⟨Nat.le_of_ble_eq_true rfl, Nat.le_of_ble_eq_true rfl⟩ (as := []) (rest := []) rfl rfl (Nat.le_of_ble_eq_true rfl) ⟨(show ((cells + 5) + 0) + 0 ≤ 1200144 from by omega), (show ((slots + 26) + 0) + 0 ≤ 5496442 from by omega)⟩ dL_law_1283) (fun H locs hI => ?_)
    refine lv_iload hx hb dL_law_1286 (lv_at hl 1 rfl) ?_
    refine lv_icmp_eq (tgt := 1293) hx hb dL_law_1288 (by decide) (fun c9 => ?_) (fun c9 => ?_)
    · replace hr := gIf_t c9 hr
      refine lv_iload hx hb dL_law_1293 (lv_at hl 1 rfl) ?_
      refine lv_if_ne (tgt := 1317) hx hb dL_law_1295 (by decide) (fun c9 => ?_) (fun c9 => ?_)
      · replace hr := gIf_f c9 hr
        refine lv_goto (tgt := 2884) hx hb dL_law_1317 (by decide) ?_
        exact w_L_law_J2884 X hst hsc hsb hbs Hr28 hr hI (lv_sub hl [2, 3, 4, 5, 6, 7] rfl) (by omega)
      · replace hr := gIf_t c9 hr
        refine lv_aload_n hx hb dL_law_1298 rfl (lv_at hl 5 rfl) ?_
        refine lv_iconst (v := 0) hx hb dL_law_1299 (by decide) ?_
        refine g_lald X hI hr dL_law_1300 (fun v353 hr => ?_)
        refine lv_iload hx hb dL_law_1301 (lv_at hl 0 rfl) ?_
        refine lv_if_eq (tgt := 1310) hx hb dL_law_1303 (by decide) (fun c9 => ?_) (fun c9 => ?_)
        · replace hr := gIf_t c9 hr
          refine lv_lconst (v := 0) hx hb dL_law_1310 (by decide) ?_
          refine W.lcmp hx hb dL_law_1311 ?_
          refine lv_if_eq (tgt := 1317) hx hb dL_law_1312 (by decide) (fun c9 => ?_) (fun c9 => ?_)
          · replace hr := gIf_t c9 hr
            refine lv_goto (tgt := 2884) hx hb dL_law_1317 (by decide) ?_
            exact w_L_law_J2884 X hst hsc hsb hbs Hr28 hr hI (lv_sub hl [2, 3, 4, 5, 6, 7] rfl) (by omega)
          · replace hr := gIf_f c9 hr
            refine lv_iconst (v := 0) hx hb dL_law_1315 (by decide) ?_
            exact absurd hr (by decide)
        · replace hr := gIf_f c9 hr
          refine lv_lconst (v := 1) hx hb dL_law_1306 (by decide) ?_
          refine lv_goto (tgt := 1311) hx hb dL_law_1307 (by decide) ?_
          refine W.lcmp hx hb dL_law_1311 ?_
          refine lv_if_eq (tgt := 1317) hx hb dL_law_1312 (by decide) (fun c9 => ?_) (fun c9 => ?_)
          · replace hr := gIf_t c9 hr
            refine lv_goto (tgt := 2884) hx hb dL_law_1317 (by decide) ?_
            exact w_L_law_J2884 X hst hsc hsb hbs Hr28 hr hI (lv_sub hl [2, 3, 4, 5, 6, 7] rfl) (by omega)
          · replace hr := gIf_f c9 hr
            refine lv_iconst (v := 0) hx hb dL_law_1315 (by decide) ?_
            exact absurd hr (by decide)
    · replace hr := gIf_f c9 hr
      refine lv_iconst (v := 0) hx hb dL_law_1291 (by decide) ?_
      exact absurd hr (by decide)
  · exact nomatch hr
set_option maxHeartbeats 2000000 in
theorem w_L_law_J1320 {h : gH} {n : Nat} {r28 : Int32 → gH → Nat → Option Int32} {z1 : Nat} {z2 : Nat} {z3 : Nat} {z4 : Nat} {b28 : Nat} {d28 : Nat} {z5 : Int32} (X : gXX x base RX0 cL_law 10 (some .boolean) p l s m args meth c) (hst : l.stackTraces = false) (hsc : va_X zb zL zx s s.heap) (hsb : zb < s.heap.size) (hbs : base = s.heap.size) (Hr28 : ∀ {z5 : Int32} {h : gH} {n : Nat} {H : Heap} {locs : List Loc} {ls : Array Slot} {cells slots : Nat}, r28 z5 h n = some (1 : Int32) → gI x base s.heap h n H locs → lv_has ls 10 [(0, .ref zb), (1, .ref z1), (2, .ref z2), (3, .ref z3), (4, .ref z4), (5, .int z5)] → (cells + b28 ≤ 1200144 ∧ slots + d28 ≤ 5496442) → W p l e room_1 s m args below meth c H locs cells slots (lw_Z below args s) (F0 m 28 ls [])) {H : Heap} {locs : List Loc} {ls : Array Slot} {cells slots : Nat} (hr : f_L_law_J1320 x zL zx r28 z1 z2 z3 z4 z5 h n = some (1 : Int32)) (hI : gI x base s.heap h n H locs) (hl : lv_has ls 10 [(0, .ref zb), (1, .ref z1), (2, .ref z2), (3, .ref z3), (4, .ref z4), (5, .int z5)]) (hcc : cells + (6 + b28) ≤ 1200144 ∧ slots + (32 + d28) ≤ 5496442) : W p l e room_1 s m args below meth c H locs cells slots (lw_Z below args s) (F0 m 1320 ls []) := by
  have hx := X.1
  have hb := X.2.1
  unfold f_L_law_J1320 at hr
  refine lv_aload_n hx hb dL_law_1320 rfl (lv_at hl 1 rfl) ?_
  refine lv_aload_n hx hb dL_law_1321 rfl (lv_at hl 0 rfl) ?_
  refine lv_iload hx hb dL_law_1322 (lv_at hl 5 rfl) ?_
  refine lv_iconst (v := 1) hx hb dL_law_1324 (by decide) ?_
  refine lv_iadd hx hb dL_law_1325 ?_
  refine g_sld X hI hsc hsb hbs hr dL_law_1326 (fun v354 hr => ?_)
  refine lv_aload_n hx hb dL_law_1327 rfl (lv_at hl 0 rfl) ?_
  refine lv_iload hx hb dL_law_1328 (lv_at hl 5 rfl) ?_
  refine lv_iconst (v := 2) hx hb dL_law_1330 (by decide) ?_
  refine lv_iadd hx hb dL_law_1331 ?_
  refine g_sld X hI hsc hsb hbs hr dL_law_1332 (fun v355 hr => ?_)
  refine lv_aload_n hx hb dL_law_1333 rfl (lv_at hl 3 rfl) ?_
  rcases gTX_i hr with ⟨v357, h359, n360, hc356, hr⟩ | ⟨q358, h361, n362, hc356, hr⟩
  · refine gXRet_i (g_wrunS X hI (w_X0_isMild hst hc356) hl (lw_SW q1293 q1294 q95 q1295) rfl rfl hd_X0_isMild ⟨Nat.le_of_ble_eq_true rfl, Nat.le_of_ble_eq_true rfl⟩ (as := [.ref z1, .int v354, .int v355, .ref z3]) (rest := []) rfl rfl (Nat.le_of_ble_eq_true rfl) ⟨(show cells + 6 ≤ 1200144 from by omega), (show slots + 32 ≤ 5496442 from by omega)⟩ dL_law_1334) (fun H locs hI => ?_)
    refine lv_istore (lv' := [(6, .int v357), (0, .ref zb), (1, .ref z1), (2, .ref z2), (3, .ref z3), (4, .ref z4), (5, .int z5)]) hx hb dL_law_1337 hl (by decide) rfl (fun ls hl => ?_)
    refine lv_aload_n hx hb dL_law_1339 rfl (lv_at hl 3 rfl) ?_
    refine lv_aload_n hx hb dL_law_1340 rfl (lv_at hl 1 rfl) ?_
    refine lv_iload hx hb dL_law_1341 (lv_at hl 6 rfl) ?_
    refine lv_iconst (v := 1) hx hb dL_law_1343 (by decide) ?_
    refine lv_iadd hx hb dL_law_1344 ?_
    refine g_sld X hI hsc hsb hbs hr dL_law_1345 (fun v363 hr => ?_)
    refine lv_aload_n hx hb dL_law_1346 rfl (lv_at hl 1 rfl) ?_
    refine lv_iload hx hb dL_law_1347 (lv_at hl 6 rfl) ?_
    refine lv_iconst (v := 2) hx hb dL_law_1349 (by decide) ?_
    refine lv_iadd hx hb dL_law_1350 ?_
    refine g_sld X hI hsc hsb hbs hr dL_law_1351 (fun v364 hr => ?_)
    obtain ⟨M365, hM366, hr⟩ := gB_i hr
    replace hI := hI.toM hM366
    obtain ⟨v368, iT_369, hc367, hr⟩ := gT2_i hr
    refine gRun_i (g_runV X hI (w_X6_isMild hc367) (g_obj_s mH_0) rfl hl (lw_V q1960 q1961 q1962 q122 q1963) rfl rfl hd_X6_isMild ⟨Nat.le_of_ble_eq_true rfl, Nat.le_of_ble_eq_true rfl⟩ (as := [.int v363, .int v364]) (rest := []) rfl rfl (Nat.le_of_ble_eq_true rfl) ⟨(show (cells + 6) + 0 ≤ 1200144 from by omega), (show (slots + 32) + 0 ≤ 5496442 from by omega)⟩ dL_law_1352) (fun H locs hI => ?_)
    refine lv_istore (lv' := [(7, .int v368), (6, .int v357), (0, .ref zb), (1, .ref z1), (2, .ref z2), (3, .ref z3), (4, .ref z4), (5, .int z5)]) hx hb dL_law_1355 hl (by decide) rfl (fun ls hl => ?_)
    refine lv_aload_n hx hb dL_law_1357 rfl (lv_at hl 4 rfl) ?_
    obtain ⟨v371, hc370, hr⟩ := gB_i hr
    refine gRun_i (g_runV X hI (w_X6_thrown hc370) (g_obj_s mH_0) rfl hl (lw_V q1584 q1585 q1586 q122 q1587) rfl rfl hd_X6_thrown ⟨Nat.le_of_ble_eq_true rfl, Nat.le_of_ble_eq_true rfl⟩ (as := []) (rest := []) rfl rfl (Nat.le_of_ble_eq_true rfl) ⟨(show ((cells + 6) + 0) + 0 ≤ 1200144 from by omega), (show ((slots + 32) + 0) + 0 ≤ 5496442 from by omega)⟩ dL_law_1358) (fun H locs hI => ?_)
    refine lv_iload hx hb dL_law_1361 (lv_at hl 1 rfl) ?_
    refine lv_icmp_eq (tgt := 1368) hx hb dL_law_1363 (by decide) (fun c9 => ?_) (fun c9 => ?_)
    · replace hr := gIf_t c9 hr
      refine lv_iload hx hb dL_law_1368 (lv_at hl 1 rfl) ?_
      refine lv_if_ne (tgt := 1392) hx hb dL_law_1370 (by decide) (fun c9 => ?_) (fun c9 => ?_)
      · replace hr := gIf_f c9 hr
        refine lv_goto (tgt := 2884) hx hb dL_law_1392 (by decide) ?_
        exact w_L_law_J2884 X hst hsc hsb hbs Hr28 hr hI (lv_sub hl [2, 3, 4, 5, 6, 7] rfl) (by omega)
      · replace hr := gIf_t c9 hr
        refine lv_aload_n hx hb dL_law_1373 rfl (lv_at hl 5 rfl) ?_
        refine lv_iconst (v := 0) hx hb dL_law_1374 (by decide) ?_
        refine g_lald X hI hr dL_law_1375 (fun v372 hr => ?_)
        refine lv_iload hx hb dL_law_1376 (lv_at hl 0 rfl) ?_
        refine lv_if_eq (tgt := 1385) hx hb dL_law_1378 (by decide) (fun c9 => ?_) (fun c9 => ?_)
        · replace hr := gIf_t c9 hr
          refine lv_lconst (v := 0) hx hb dL_law_1385 (by decide) ?_
          refine W.lcmp hx hb dL_law_1386 ?_
          refine lv_if_eq (tgt := 1392) hx hb dL_law_1387 (by decide) (fun c9 => ?_) (fun c9 => ?_)
          · replace hr := gIf_t c9 hr
            refine lv_goto (tgt := 2884) hx hb dL_law_1392 (by decide) ?_
            exact w_L_law_J2884 X hst hsc hsb hbs Hr28 hr hI (lv_sub hl [2, 3, 4, 5, 6, 7] rfl) (by omega)
          · replace hr := gIf_f c9 hr
            refine lv_iconst (v := 0) hx hb dL_law_1390 (by decide) ?_
            exact absurd hr (by decide)
        · replace hr := gIf_f c9 hr
          refine lv_lconst (v := 1) hx hb dL_law_1381 (by decide) ?_
          refine lv_goto (tgt := 1386) hx hb dL_law_1382 (by decide) ?_
          refine W.lcmp hx hb dL_law_1386 ?_
          refine lv_if_eq (tgt := 1392) hx hb dL_law_1387 (by decide) (fun c9 => ?_) (fun c9 => ?_)
          · replace hr := gIf_t c9 hr
            refine lv_goto (tgt := 2884) hx hb dL_law_1392 (by decide) ?_
            exact w_L_law_J2884 X hst hsc hsb hbs Hr28 hr hI (lv_sub hl [2, 3, 4, 5, 6, 7] rfl) (by omega)
          · replace hr := gIf_f c9 hr
            refine lv_iconst (v := 0) hx hb dL_law_1390 (by decide) ?_
            exact absurd hr (by decide)
    · replace hr := gIf_f c9 hr
      refine lv_iconst (v := 0) hx hb dL_law_1366 (by decide) ?_
      exact absurd hr (by decide)
  · exact nomatch hr
set_option maxHeartbeats 2000000 in
theorem w_L_law_J1395 {h : gH} {n : Nat} {r28 : Int32 → gH → Nat → Option Int32} {z1 : Nat} {z2 : Nat} {z3 : Nat} {z4 : Nat} {b28 : Nat} {d28 : Nat} {z5 : Int32} (X : gXX x base RX0 cL_law 10 (some .boolean) p l s m args meth c) (hst : l.stackTraces = false) (hsc : va_X zb zL zx s s.heap) (hsb : zb < s.heap.size) (hbs : base = s.heap.size) (Hr28 : ∀ {z5 : Int32} {h : gH} {n : Nat} {H : Heap} {locs : List Loc} {ls : Array Slot} {cells slots : Nat}, r28 z5 h n = some (1 : Int32) → gI x base s.heap h n H locs → lv_has ls 10 [(0, .ref zb), (1, .ref z1), (2, .ref z2), (3, .ref z3), (4, .ref z4), (5, .int z5)] → (cells + b28 ≤ 1200144 ∧ slots + d28 ≤ 5496442) → W p l e room_1 s m args below meth c H locs cells slots (lw_Z below args s) (F0 m 28 ls [])) {H : Heap} {locs : List Loc} {ls : Array Slot} {cells slots : Nat} (hr : f_L_law_J1395 x zL zx r28 z1 z2 z3 z4 z5 h n = some (1 : Int32)) (hI : gI x base s.heap h n H locs) (hl : lv_has ls 10 [(0, .ref zb), (1, .ref z1), (2, .ref z2), (3, .ref z3), (4, .ref z4), (5, .int z5)]) (hcc : cells + (0 + b28) ≤ 1200144 ∧ slots + (0 + d28) ≤ 5496442) : W p l e room_1 s m args below meth c H locs cells slots (lw_Z below args s) (F0 m 1395 ls []) := by
  have hx := X.1
  have hb := X.2.1
  unfold f_L_law_J1395 at hr
  refine lv_aload_n hx hb dL_law_1395 rfl (lv_at hl 1 rfl) ?_
  obtain ⟨_, ho373, hr⟩ := gB_i hr
  obtain ⟨v375, hc374, hr⟩ := gB_i hr
  refine gRun_i (g_runV X hI (w_X1_envyCount hc374) ho373 rfl hl (lw_V q813 q814 q815 q96 q816) rfl rfl hd_X1_envyCount ⟨Nat.le_of_ble_eq_true rfl, Nat.le_of_ble_eq_true rfl⟩ (as := []) (rest := []) rfl rfl (Nat.le_of_ble_eq_true rfl) ⟨(show cells + 0 ≤ 1200144 from by omega), (show slots + 0 ≤ 5496442 from by omega)⟩ dL_law_1396) (fun H locs hI => ?_)
  refine lv_aload_n hx hb dL_law_1399 rfl (lv_at hl 2 rfl) ?_
  obtain ⟨M376, hM377, hr⟩ := gB_i hr
  replace hI := hI.toM hM377
  obtain ⟨v379, iT_380, hc378, hr⟩ := gT2_i hr
  refine gRun_i (g_runV X hI (w_X6_envyCount hc378) (g_obj_s mH_0) rfl hl (lw_V q1968 q1969 q1970 q122 q1971) rfl rfl hd_X6_envyCount ⟨Nat.le_of_ble_eq_true rfl, Nat.le_of_ble_eq_true rfl⟩ (as := []) (rest := [.int v375]) rfl rfl (Nat.le_of_ble_eq_true rfl) ⟨(show (cells + 0) + 0 ≤ 1200144 from by omega), (show (slots + 0) + 0 ≤ 5496442 from by omega)⟩ dL_law_1400) (fun H locs hI => ?_)
  refine lv_icmp_eq (tgt := 2884) hx hb dL_law_1403 (by decide) (fun c9 => ?_) (fun c9 => ?_)
  · replace hr := gIf_t c9 hr
    exact w_L_law_J2884 X hst hsc hsb hbs Hr28 hr hI (lv_sub hl [0, 1, 2, 3, 4, 5] rfl) (by omega)
  · replace hr := gIf_f c9 hr
    refine lv_iconst (v := 0) hx hb dL_law_1406 (by decide) ?_
    exact absurd hr (by decide)
set_option maxHeartbeats 2000000 in
theorem w_L_law_J1408 {h : gH} {n : Nat} {r28 : Int32 → gH → Nat → Option Int32} {z1 : Nat} {z2 : Nat} {z3 : Nat} {z4 : Nat} {b28 : Nat} {d28 : Nat} {z5 : Int32} (X : gXX x base RX0 cL_law 10 (some .boolean) p l s m args meth c) (hst : l.stackTraces = false) (hsc : va_X zb zL zx s s.heap) (hsb : zb < s.heap.size) (hbs : base = s.heap.size) (Hr28 : ∀ {z5 : Int32} {h : gH} {n : Nat} {H : Heap} {locs : List Loc} {ls : Array Slot} {cells slots : Nat}, r28 z5 h n = some (1 : Int32) → gI x base s.heap h n H locs → lv_has ls 10 [(0, .ref zb), (1, .ref z1), (2, .ref z2), (3, .ref z3), (4, .ref z4), (5, .int z5)] → (cells + b28 ≤ 1200144 ∧ slots + d28 ≤ 5496442) → W p l e room_1 s m args below meth c H locs cells slots (lw_Z below args s) (F0 m 28 ls [])) {H : Heap} {locs : List Loc} {ls : Array Slot} {cells slots : Nat} (hr : f_L_law_J1408 x zL zx r28 z1 z2 z3 z4 z5 h n = some (1 : Int32)) (hI : gI x base s.heap h n H locs) (hl : lv_has ls 10 [(0, .ref zb), (1, .ref z1), (2, .ref z2), (3, .ref z3), (4, .ref z4), (5, .int z5)]) (hcc : cells + (0 + b28) ≤ 1200144 ∧ slots + (0 + d28) ≤ 5496442) : W p l e room_1 s m args below meth c H locs cells slots (lw_Z below args s) (F0 m 1408 ls []) := by
  have hx := X.1
  have hb := X.2.1
  unfold f_L_law_J1408 at hr
  refine lv_aload_n hx hb dL_law_1408 rfl (lv_at hl 1 rfl) ?_
  obtain ⟨_, ho381, hr⟩ := gB_i hr
  obtain ⟨v383, hc382, hr⟩ := gB_i hr
  refine gRun_i (g_runV X hI (w_X1_strongEnvyCount hc382) ho381 rfl hl (lw_V q837 q838 q839 q96 q840) rfl rfl hd_X1_strongEnvyCount ⟨Nat.le_of_ble_eq_true rfl, Nat.le_of_ble_eq_true rfl⟩ (as := []) (rest := []) rfl rfl (Nat.le_of_ble_eq_true rfl) ⟨(show cells + 0 ≤ 1200144 from by omega), (show slots + 0 ≤ 5496442 from by omega)⟩ dL_law_1409) (fun H locs hI => ?_)
  refine lv_aload_n hx hb dL_law_1412 rfl (lv_at hl 2 rfl) ?_
  obtain ⟨M384, hM385, hr⟩ := gB_i hr
  replace hI := hI.toM hM385
  obtain ⟨v387, iT_388, hc386, hr⟩ := gT2_i hr
  refine gRun_i (g_runV X hI (w_X6_strongEnvyCount hc386) (g_obj_s mH_0) rfl hl (lw_V q1976 q1977 q1978 q122 q1979) rfl rfl hd_X6_strongEnvyCount ⟨Nat.le_of_ble_eq_true rfl, Nat.le_of_ble_eq_true rfl⟩ (as := []) (rest := [.int v383]) rfl rfl (Nat.le_of_ble_eq_true rfl) ⟨(show (cells + 0) + 0 ≤ 1200144 from by omega), (show (slots + 0) + 0 ≤ 5496442 from by omega)⟩ dL_law_1413) (fun H locs hI => ?_)
  refine lv_icmp_eq (tgt := 2884) hx hb dL_law_1416 (by decide) (fun c9 => ?_) (fun c9 => ?_)
  · replace hr := gIf_t c9 hr
    exact w_L_law_J2884 X hst hsc hsb hbs Hr28 hr hI (lv_sub hl [0, 1, 2, 3, 4, 5] rfl) (by omega)
  · replace hr := gIf_f c9 hr
    refine lv_iconst (v := 0) hx hb dL_law_1419 (by decide) ?_
    exact absurd hr (by decide)
set_option maxHeartbeats 2000000 in
theorem w_L_law_J1421 {h : gH} {n : Nat} {r28 : Int32 → gH → Nat → Option Int32} {z1 : Nat} {z2 : Nat} {z3 : Nat} {z4 : Nat} {b28 : Nat} {d28 : Nat} {z5 : Int32} (X : gXX x base RX0 cL_law 10 (some .boolean) p l s m args meth c) (hst : l.stackTraces = false) (hsc : va_X zb zL zx s s.heap) (hsb : zb < s.heap.size) (hbs : base = s.heap.size) (Hr28 : ∀ {z5 : Int32} {h : gH} {n : Nat} {H : Heap} {locs : List Loc} {ls : Array Slot} {cells slots : Nat}, r28 z5 h n = some (1 : Int32) → gI x base s.heap h n H locs → lv_has ls 10 [(0, .ref zb), (1, .ref z1), (2, .ref z2), (3, .ref z3), (4, .ref z4), (5, .int z5)] → (cells + b28 ≤ 1200144 ∧ slots + d28 ≤ 5496442) → W p l e room_1 s m args below meth c H locs cells slots (lw_Z below args s) (F0 m 28 ls [])) {H : Heap} {locs : List Loc} {ls : Array Slot} {cells slots : Nat} (hr : f_L_law_J1421 x zL zx r28 z1 z2 z3 z4 z5 h n = some (1 : Int32)) (hI : gI x base s.heap h n H locs) (hl : lv_has ls 10 [(0, .ref zb), (1, .ref z1), (2, .ref z2), (3, .ref z3), (4, .ref z4), (5, .int z5)]) (hcc : cells + (0 + b28) ≤ 1200144 ∧ slots + (0 + d28) ≤ 5496442) : W p l e room_1 s m args below meth c H locs cells slots (lw_Z below args s) (F0 m 1421 ls []) := by
  have hx := X.1
  have hb := X.2.1
  unfold f_L_law_J1421 at hr
  refine lv_aload_n hx hb dL_law_1421 rfl (lv_at hl 1 rfl) ?_
  obtain ⟨_, ho389, hr⟩ := gB_i hr
  obtain ⟨v391, hc390, hr⟩ := gB_i hr
  refine gRun_i (g_runV X hI (w_X1_mostEnvied hc390) ho389 rfl hl (lw_V q846 q847 q848 q96 q849) rfl rfl hd_X1_mostEnvied ⟨Nat.le_of_ble_eq_true rfl, Nat.le_of_ble_eq_true rfl⟩ (as := []) (rest := []) rfl rfl (Nat.le_of_ble_eq_true rfl) ⟨(show cells + 0 ≤ 1200144 from by omega), (show slots + 0 ≤ 5496442 from by omega)⟩ dL_law_1422) (fun H locs hI => ?_)
  refine lv_aload_n hx hb dL_law_1425 rfl (lv_at hl 2 rfl) ?_
  obtain ⟨M392, hM393, hr⟩ := gB_i hr
  replace hI := hI.toM hM393
  obtain ⟨v395, iT_396, hc394, hr⟩ := gT2_i hr
  refine gRun_i (g_runV X hI (w_X6_mostEnvied hc394) (g_obj_s mH_0) rfl hl (lw_V q1980 q1981 q1982 q122 q1983) rfl rfl hd_X6_mostEnvied ⟨Nat.le_of_ble_eq_true rfl, Nat.le_of_ble_eq_true rfl⟩ (as := []) (rest := [.int v391]) rfl rfl (Nat.le_of_ble_eq_true rfl) ⟨(show (cells + 0) + 0 ≤ 1200144 from by omega), (show (slots + 0) + 0 ≤ 5496442 from by omega)⟩ dL_law_1426) (fun H locs hI => ?_)
  refine lv_icmp_eq (tgt := 2884) hx hb dL_law_1429 (by decide) (fun c9 => ?_) (fun c9 => ?_)
  · replace hr := gIf_t c9 hr
    exact w_L_law_J2884 X hst hsc hsb hbs Hr28 hr hI (lv_sub hl [0, 1, 2, 3, 4, 5] rfl) (by omega)
  · replace hr := gIf_f c9 hr
    refine lv_iconst (v := 0) hx hb dL_law_1432 (by decide) ?_
    exact absurd hr (by decide)
set_option maxHeartbeats 2000000 in
theorem w_L_law_J1434 {h : gH} {n : Nat} {r28 : Int32 → gH → Nat → Option Int32} {z1 : Nat} {z2 : Nat} {z3 : Nat} {z4 : Nat} {b28 : Nat} {d28 : Nat} {z5 : Int32} (X : gXX x base RX0 cL_law 10 (some .boolean) p l s m args meth c) (hst : l.stackTraces = false) (hsc : va_X zb zL zx s s.heap) (hsb : zb < s.heap.size) (hbs : base = s.heap.size) (Hr28 : ∀ {z5 : Int32} {h : gH} {n : Nat} {H : Heap} {locs : List Loc} {ls : Array Slot} {cells slots : Nat}, r28 z5 h n = some (1 : Int32) → gI x base s.heap h n H locs → lv_has ls 10 [(0, .ref zb), (1, .ref z1), (2, .ref z2), (3, .ref z3), (4, .ref z4), (5, .int z5)] → (cells + b28 ≤ 1200144 ∧ slots + d28 ≤ 5496442) → W p l e room_1 s m args below meth c H locs cells slots (lw_Z below args s) (F0 m 28 ls [])) {H : Heap} {locs : List Loc} {ls : Array Slot} {cells slots : Nat} (hr : f_L_law_J1434 x zL zx r28 z1 z2 z3 z4 z5 h n = some (1 : Int32)) (hI : gI x base s.heap h n H locs) (hl : lv_has ls 10 [(0, .ref zb), (1, .ref z1), (2, .ref z2), (3, .ref z3), (4, .ref z4), (5, .int z5)]) (hcc : cells + (5 + b28) ≤ 1200144 ∧ slots + (25 + d28) ≤ 5496442) : W p l e room_1 s m args below meth c H locs cells slots (lw_Z below args s) (F0 m 1434 ls []) := by
  have hx := X.1
  have hb := X.2.1
  unfold f_L_law_J1434 at hr
  refine lv_aload_n hx hb dL_law_1434 rfl (lv_at hl 1 rfl) ?_
  refine lv_aload_n hx hb dL_law_1435 rfl (lv_at hl 0 rfl) ?_
  refine lv_iload hx hb dL_law_1436 (lv_at hl 5 rfl) ?_
  refine lv_iconst (v := 1) hx hb dL_law_1438 (by decide) ?_
  refine lv_iadd hx hb dL_law_1439 ?_
  refine g_sld X hI hsc hsb hbs hr dL_law_1440 (fun v397 hr => ?_)
  refine lv_aload_n hx hb dL_law_1441 rfl (lv_at hl 3 rfl) ?_
  rcases gTX_i hr with ⟨v399, h401, n402, hc398, hr⟩ | ⟨q400, h403, n404, hc398, hr⟩
  · refine gXRet_i (g_wrunS X hI (w_X0_isSatisfied hst hc398) hl (lw_SW q1303 q1304 q95 q1305) rfl rfl hd_X0_isSatisfied ⟨Nat.le_of_ble_eq_true rfl, Nat.le_of_ble_eq_true rfl⟩ (as := [.ref z1, .int v397, .ref z3]) (rest := []) rfl rfl (Nat.le_of_ble_eq_true rfl) ⟨(show cells + 5 ≤ 1200144 from by omega), (show slots + 25 ≤ 5496442 from by omega)⟩ dL_law_1442) (fun H locs hI => ?_)
    refine lv_istore (lv' := [(6, .int v399), (0, .ref zb), (1, .ref z1), (2, .ref z2), (3, .ref z3), (4, .ref z4), (5, .int z5)]) hx hb dL_law_1445 hl (by decide) rfl (fun ls hl => ?_)
    refine lv_aload_n hx hb dL_law_1447 rfl (lv_at hl 3 rfl) ?_
    refine lv_aload_n hx hb dL_law_1448 rfl (lv_at hl 1 rfl) ?_
    refine lv_iload hx hb dL_law_1449 (lv_at hl 6 rfl) ?_
    refine lv_iconst (v := 1) hx hb dL_law_1451 (by decide) ?_
    refine lv_iadd hx hb dL_law_1452 ?_
    refine g_sld X hI hsc hsb hbs hr dL_law_1453 (fun v405 hr => ?_)
    obtain ⟨M406, hM407, hr⟩ := gB_i hr
    replace hI := hI.toM hM407
    obtain ⟨v409, iT_410, hc408, hr⟩ := gT2_i hr
    refine gRun_i (g_runV X hI (w_X6_isSatisfied hc408) (g_obj_s mH_0) rfl hl (lw_V q1988 q1989 q1990 q122 q1991) rfl rfl hd_X6_isSatisfied ⟨Nat.le_of_ble_eq_true rfl, Nat.le_of_ble_eq_true rfl⟩ (as := [.int v405]) (rest := []) rfl rfl (Nat.le_of_ble_eq_true rfl) ⟨(show (cells + 5) + 0 ≤ 1200144 from by omega), (show (slots + 25) + 0 ≤ 5496442 from by omega)⟩ dL_law_1454) (fun H locs hI => ?_)
    refine lv_istore (lv' := [(7, .int v409), (6, .int v399), (0, .ref zb), (1, .ref z1), (2, .ref z2), (3, .ref z3), (4, .ref z4), (5, .int z5)]) hx hb dL_law_1457 hl (by decide) rfl (fun ls hl => ?_)
    refine lv_aload_n hx hb dL_law_1459 rfl (lv_at hl 4 rfl) ?_
    obtain ⟨v412, hc411, hr⟩ := gB_i hr
    refine gRun_i (g_runV X hI (w_X6_thrown hc411) (g_obj_s mH_0) rfl hl (lw_V q1584 q1585 q1586 q122 q1587) rfl rfl hd_X6_thrown ⟨Nat.le_of_ble_eq_true rfl, Nat.le_of_ble_eq_true rfl⟩ (as := []) (rest := []) rfl rfl (Nat.le_of_ble_eq_true rfl) ⟨(show ((cells + 5) + 0) + 0 ≤ 1200144 from by omega), (show ((slots + 25) + 0) + 0 ≤ 5496442 from by omega)⟩ dL_law_1460) (fun H locs hI => ?_)
    refine lv_iload hx hb dL_law_1463 (lv_at hl 1 rfl) ?_
    refine lv_icmp_eq (tgt := 1470) hx hb dL_law_1465 (by decide) (fun c9 => ?_) (fun c9 => ?_)
    · replace hr := gIf_t c9 hr
      refine lv_iload hx hb dL_law_1470 (lv_at hl 1 rfl) ?_
      refine lv_if_ne (tgt := 1494) hx hb dL_law_1472 (by decide) (fun c9 => ?_) (fun c9 => ?_)
      · replace hr := gIf_f c9 hr
        refine lv_goto (tgt := 2884) hx hb dL_law_1494 (by decide) ?_
        exact w_L_law_J2884 X hst hsc hsb hbs Hr28 hr hI (lv_sub hl [2, 3, 4, 5, 6, 7] rfl) (by omega)
      · replace hr := gIf_t c9 hr
        refine lv_aload_n hx hb dL_law_1475 rfl (lv_at hl 5 rfl) ?_
        refine lv_iconst (v := 0) hx hb dL_law_1476 (by decide) ?_
        refine g_lald X hI hr dL_law_1477 (fun v413 hr => ?_)
        refine lv_iload hx hb dL_law_1478 (lv_at hl 0 rfl) ?_
        refine lv_if_eq (tgt := 1487) hx hb dL_law_1480 (by decide) (fun c9 => ?_) (fun c9 => ?_)
        · replace hr := gIf_t c9 hr
          refine lv_lconst (v := 0) hx hb dL_law_1487 (by decide) ?_
          refine W.lcmp hx hb dL_law_1488 ?_
          refine lv_if_eq (tgt := 1494) hx hb dL_law_1489 (by decide) (fun c9 => ?_) (fun c9 => ?_)
          · replace hr := gIf_t c9 hr
            refine lv_goto (tgt := 2884) hx hb dL_law_1494 (by decide) ?_
            exact w_L_law_J2884 X hst hsc hsb hbs Hr28 hr hI (lv_sub hl [2, 3, 4, 5, 6, 7] rfl) (by omega)
          · replace hr := gIf_f c9 hr
            refine lv_iconst (v := 0) hx hb dL_law_1492 (by decide) ?_
            exact absurd hr (by decide)
        · replace hr := gIf_f c9 hr
          refine lv_lconst (v := 1) hx hb dL_law_1483 (by decide) ?_
          refine lv_goto (tgt := 1488) hx hb dL_law_1484 (by decide) ?_
          refine W.lcmp hx hb dL_law_1488 ?_
          refine lv_if_eq (tgt := 1494) hx hb dL_law_1489 (by decide) (fun c9 => ?_) (fun c9 => ?_)
          · replace hr := gIf_t c9 hr
            refine lv_goto (tgt := 2884) hx hb dL_law_1494 (by decide) ?_
            exact w_L_law_J2884 X hst hsc hsb hbs Hr28 hr hI (lv_sub hl [2, 3, 4, 5, 6, 7] rfl) (by omega)
          · replace hr := gIf_f c9 hr
            refine lv_iconst (v := 0) hx hb dL_law_1492 (by decide) ?_
            exact absurd hr (by decide)
    · replace hr := gIf_f c9 hr
      refine lv_iconst (v := 0) hx hb dL_law_1468 (by decide) ?_
      exact absurd hr (by decide)
  · exact nomatch hr
set_option maxHeartbeats 2000000 in
theorem w_L_law_J1497 {h : gH} {n : Nat} {r28 : Int32 → gH → Nat → Option Int32} {z1 : Nat} {z2 : Nat} {z3 : Nat} {z4 : Nat} {b28 : Nat} {d28 : Nat} {z5 : Int32} (X : gXX x base RX0 cL_law 10 (some .boolean) p l s m args meth c) (hst : l.stackTraces = false) (hsc : va_X zb zL zx s s.heap) (hsb : zb < s.heap.size) (hbs : base = s.heap.size) (Hr28 : ∀ {z5 : Int32} {h : gH} {n : Nat} {H : Heap} {locs : List Loc} {ls : Array Slot} {cells slots : Nat}, r28 z5 h n = some (1 : Int32) → gI x base s.heap h n H locs → lv_has ls 10 [(0, .ref zb), (1, .ref z1), (2, .ref z2), (3, .ref z3), (4, .ref z4), (5, .int z5)] → (cells + b28 ≤ 1200144 ∧ slots + d28 ≤ 5496442) → W p l e room_1 s m args below meth c H locs cells slots (lw_Z below args s) (F0 m 28 ls [])) {H : Heap} {locs : List Loc} {ls : Array Slot} {cells slots : Nat} (hr : f_L_law_J1497 x zL zx r28 z1 z2 z3 z4 z5 h n = some (1 : Int32)) (hI : gI x base s.heap h n H locs) (hl : lv_has ls 10 [(0, .ref zb), (1, .ref z1), (2, .ref z2), (3, .ref z3), (4, .ref z4), (5, .int z5)]) (hcc : cells + (0 + b28) ≤ 1200144 ∧ slots + (0 + d28) ≤ 5496442) : W p l e room_1 s m args below meth c H locs cells slots (lw_Z below args s) (F0 m 1497 ls []) := by
  have hx := X.1
  have hb := X.2.1
  unfold f_L_law_J1497 at hr
  refine lv_aload_n hx hb dL_law_1497 rfl (lv_at hl 1 rfl) ?_
  obtain ⟨_, ho414, hr⟩ := gB_i hr
  obtain ⟨v416, hc415, hr⟩ := gB_i hr
  refine gRun_i (g_runV X hI (w_X1_satisfiedCount hc415) ho414 rfl hl (lw_V q854 q855 q856 q96 q857) rfl rfl hd_X1_satisfiedCount ⟨Nat.le_of_ble_eq_true rfl, Nat.le_of_ble_eq_true rfl⟩ (as := []) (rest := []) rfl rfl (Nat.le_of_ble_eq_true rfl) ⟨(show cells + 0 ≤ 1200144 from by omega), (show slots + 0 ≤ 5496442 from by omega)⟩ dL_law_1498) (fun H locs hI => ?_)
  refine lv_aload_n hx hb dL_law_1501 rfl (lv_at hl 2 rfl) ?_
  obtain ⟨M417, hM418, hr⟩ := gB_i hr
  replace hI := hI.toM hM418
  obtain ⟨v420, iT_421, hc419, hr⟩ := gT2_i hr
  refine gRun_i (g_runV X hI (w_X6_satisfiedCount hc419) (g_obj_s mH_0) rfl hl (lw_V q1992 q1993 q1994 q122 q1995) rfl rfl hd_X6_satisfiedCount ⟨Nat.le_of_ble_eq_true rfl, Nat.le_of_ble_eq_true rfl⟩ (as := []) (rest := [.int v416]) rfl rfl (Nat.le_of_ble_eq_true rfl) ⟨(show (cells + 0) + 0 ≤ 1200144 from by omega), (show (slots + 0) + 0 ≤ 5496442 from by omega)⟩ dL_law_1502) (fun H locs hI => ?_)
  refine lv_icmp_eq (tgt := 2884) hx hb dL_law_1505 (by decide) (fun c9 => ?_) (fun c9 => ?_)
  · replace hr := gIf_t c9 hr
    exact w_L_law_J2884 X hst hsc hsb hbs Hr28 hr hI (lv_sub hl [0, 1, 2, 3, 4, 5] rfl) (by omega)
  · replace hr := gIf_f c9 hr
    refine lv_iconst (v := 0) hx hb dL_law_1508 (by decide) ?_
    exact absurd hr (by decide)
set_option maxHeartbeats 2000000 in
theorem w_L_law_J1510 {h : gH} {n : Nat} {r28 : Int32 → gH → Nat → Option Int32} {z1 : Nat} {z2 : Nat} {z3 : Nat} {z4 : Nat} {b28 : Nat} {d28 : Nat} {z5 : Int32} (X : gXX x base RX0 cL_law 10 (some .boolean) p l s m args meth c) (hst : l.stackTraces = false) (hsc : va_X zb zL zx s s.heap) (hsb : zb < s.heap.size) (hbs : base = s.heap.size) (Hr28 : ∀ {z5 : Int32} {h : gH} {n : Nat} {H : Heap} {locs : List Loc} {ls : Array Slot} {cells slots : Nat}, r28 z5 h n = some (1 : Int32) → gI x base s.heap h n H locs → lv_has ls 10 [(0, .ref zb), (1, .ref z1), (2, .ref z2), (3, .ref z3), (4, .ref z4), (5, .int z5)] → (cells + b28 ≤ 1200144 ∧ slots + d28 ≤ 5496442) → W p l e room_1 s m args below meth c H locs cells slots (lw_Z below args s) (F0 m 28 ls [])) {H : Heap} {locs : List Loc} {ls : Array Slot} {cells slots : Nat} (hr : f_L_law_J1510 x zL zx r28 z1 z2 z3 z4 z5 h n = some (1 : Int32)) (hI : gI x base s.heap h n H locs) (hl : lv_has ls 10 [(0, .ref zb), (1, .ref z1), (2, .ref z2), (3, .ref z3), (4, .ref z4), (5, .int z5)]) (hcc : cells + (7 + b28) ≤ 1200144 ∧ slots + (35 + d28) ≤ 5496442) : W p l e room_1 s m args below meth c H locs cells slots (lw_Z below args s) (F0 m 1510 ls []) := by
  have hx := X.1
  have hb := X.2.1
  unfold f_L_law_J1510 at hr
  refine lv_aload_n hx hb dL_law_1510 rfl (lv_at hl 1 rfl) ?_
  refine lv_aload_n hx hb dL_law_1511 rfl (lv_at hl 0 rfl) ?_
  refine lv_iload hx hb dL_law_1512 (lv_at hl 5 rfl) ?_
  refine lv_iconst (v := 1) hx hb dL_law_1514 (by decide) ?_
  refine lv_iadd hx hb dL_law_1515 ?_
  refine g_sld X hI hsc hsb hbs hr dL_law_1516 (fun v422 hr => ?_)
  refine lv_aload_n hx hb dL_law_1517 rfl (lv_at hl 3 rfl) ?_
  rcases gTX_i hr with ⟨v424, h426, n427, hc423, hr⟩ | ⟨q425, h428, n429, hc423, hr⟩
  · refine gXRet_i (g_wrunS X hI (w_X0_envyCycleLength hst hc423) hl (lw_SW q1311 q1312 q95 q1313) rfl rfl hd_X0_envyCycleLength ⟨Nat.le_of_ble_eq_true rfl, Nat.le_of_ble_eq_true rfl⟩ (as := [.ref z1, .int v422, .ref z3]) (rest := []) rfl rfl (Nat.le_of_ble_eq_true rfl) ⟨(show cells + 7 ≤ 1200144 from by omega), (show slots + 35 ≤ 5496442 from by omega)⟩ dL_law_1518) (fun H locs hI => ?_)
    refine lv_istore (lv' := [(6, .int v424), (0, .ref zb), (1, .ref z1), (2, .ref z2), (3, .ref z3), (4, .ref z4), (5, .int z5)]) hx hb dL_law_1521 hl (by decide) rfl (fun ls hl => ?_)
    refine lv_aload_n hx hb dL_law_1523 rfl (lv_at hl 3 rfl) ?_
    refine lv_aload_n hx hb dL_law_1524 rfl (lv_at hl 1 rfl) ?_
    refine lv_iload hx hb dL_law_1525 (lv_at hl 6 rfl) ?_
    refine lv_iconst (v := 1) hx hb dL_law_1527 (by decide) ?_
    refine lv_iadd hx hb dL_law_1528 ?_
    refine g_sld X hI hsc hsb hbs hr dL_law_1529 (fun v430 hr => ?_)
    obtain ⟨M431, hM432, hr⟩ := gB_i hr
    replace hI := hI.toM hM432
    obtain ⟨v434, iT_435, aT_436, aC_437, hc433, hr⟩ := gT4_i hr
    refine gRun_i (g_runV X hI (w_X6_envyCycleLength hc433) (g_obj_s mH_0) rfl hl (lw_V q1996 q1997 q1998 q122 q1999) rfl rfl hd_X6_envyCycleLength ⟨Nat.le_of_ble_eq_true rfl, Nat.le_of_ble_eq_true rfl⟩ (as := [.int v430]) (rest := []) rfl rfl (Nat.le_of_ble_eq_true rfl) ⟨(show (cells + 7) + 0 ≤ 1200144 from by omega), (show (slots + 35) + 0 ≤ 5496442 from by omega)⟩ dL_law_1530) (fun H locs hI => ?_)
    refine lv_istore (lv' := [(7, .int v434), (6, .int v424), (0, .ref zb), (1, .ref z1), (2, .ref z2), (3, .ref z3), (4, .ref z4), (5, .int z5)]) hx hb dL_law_1533 hl (by decide) rfl (fun ls hl => ?_)
    refine lv_aload_n hx hb dL_law_1535 rfl (lv_at hl 4 rfl) ?_
    obtain ⟨v439, hc438, hr⟩ := gB_i hr
    refine gRun_i (g_runV X hI (w_X6_thrown hc438) (g_obj_s mH_0) rfl hl (lw_V q1584 q1585 q1586 q122 q1587) rfl rfl hd_X6_thrown ⟨Nat.le_of_ble_eq_true rfl, Nat.le_of_ble_eq_true rfl⟩ (as := []) (rest := []) rfl rfl (Nat.le_of_ble_eq_true rfl) ⟨(show ((cells + 7) + 0) + 0 ≤ 1200144 from by omega), (show ((slots + 35) + 0) + 0 ≤ 5496442 from by omega)⟩ dL_law_1536) (fun H locs hI => ?_)
    refine lv_iload hx hb dL_law_1539 (lv_at hl 1 rfl) ?_
    refine lv_icmp_eq (tgt := 1546) hx hb dL_law_1541 (by decide) (fun c9 => ?_) (fun c9 => ?_)
    · replace hr := gIf_t c9 hr
      refine lv_iload hx hb dL_law_1546 (lv_at hl 1 rfl) ?_
      refine lv_if_ne (tgt := 1563) hx hb dL_law_1548 (by decide) (fun c9 => ?_) (fun c9 => ?_)
      · replace hr := gIf_f c9 hr
        refine lv_goto (tgt := 2884) hx hb dL_law_1563 (by decide) ?_
        exact w_L_law_J2884 X hst hsc hsb hbs Hr28 hr hI (lv_sub hl [2, 3, 4, 5, 6, 7] rfl) (by omega)
      · replace hr := gIf_t c9 hr
        refine lv_aload_n hx hb dL_law_1551 rfl (lv_at hl 5 rfl) ?_
        refine lv_iconst (v := 0) hx hb dL_law_1552 (by decide) ?_
        refine g_lald X hI hr dL_law_1553 (fun v440 hr => ?_)
        refine lv_iload hx hb dL_law_1554 (lv_at hl 0 rfl) ?_
        refine lv_i2l hx hb dL_law_1556 rfl ?_
        refine W.lcmp hx hb dL_law_1557 ?_
        refine lv_if_eq (tgt := 1563) hx hb dL_law_1558 (by decide) (fun c9 => ?_) (fun c9 => ?_)
        · replace hr := gIf_t c9 hr
          refine lv_goto (tgt := 2884) hx hb dL_law_1563 (by decide) ?_
          exact w_L_law_J2884 X hst hsc hsb hbs Hr28 hr hI (lv_sub hl [2, 3, 4, 5, 6, 7] rfl) (by omega)
        · replace hr := gIf_f c9 hr
          refine lv_iconst (v := 0) hx hb dL_law_1561 (by decide) ?_
          exact absurd hr (by decide)
    · replace hr := gIf_f c9 hr
      refine lv_iconst (v := 0) hx hb dL_law_1544 (by decide) ?_
      exact absurd hr (by decide)
  · exact nomatch hr
set_option maxHeartbeats 2000000 in
theorem w_L_law_J1566 {h : gH} {n : Nat} {r28 : Int32 → gH → Nat → Option Int32} {z1 : Nat} {z2 : Nat} {z3 : Nat} {z4 : Nat} {b28 : Nat} {d28 : Nat} {z5 : Int32} (X : gXX x base RX0 cL_law 10 (some .boolean) p l s m args meth c) (hst : l.stackTraces = false) (hsc : va_X zb zL zx s s.heap) (hsb : zb < s.heap.size) (hbs : base = s.heap.size) (Hr28 : ∀ {z5 : Int32} {h : gH} {n : Nat} {H : Heap} {locs : List Loc} {ls : Array Slot} {cells slots : Nat}, r28 z5 h n = some (1 : Int32) → gI x base s.heap h n H locs → lv_has ls 10 [(0, .ref zb), (1, .ref z1), (2, .ref z2), (3, .ref z3), (4, .ref z4), (5, .int z5)] → (cells + b28 ≤ 1200144 ∧ slots + d28 ≤ 5496442) → W p l e room_1 s m args below meth c H locs cells slots (lw_Z below args s) (F0 m 28 ls [])) {H : Heap} {locs : List Loc} {ls : Array Slot} {cells slots : Nat} (hr : f_L_law_J1566 x zL zx r28 z1 z2 z3 z4 z5 h n = some (1 : Int32)) (hI : gI x base s.heap h n H locs) (hl : lv_has ls 10 [(0, .ref zb), (1, .ref z1), (2, .ref z2), (3, .ref z3), (4, .ref z4), (5, .int z5)]) (hcc : cells + (8 + b28) ≤ 1200144 ∧ slots + (41 + d28) ≤ 5496442) : W p l e room_1 s m args below meth c H locs cells slots (lw_Z below args s) (F0 m 1566 ls []) := by
  have hx := X.1
  have hb := X.2.1
  unfold f_L_law_J1566 at hr
  refine lv_aload_n hx hb dL_law_1566 rfl (lv_at hl 1 rfl) ?_
  refine lv_aload_n hx hb dL_law_1567 rfl (lv_at hl 0 rfl) ?_
  refine lv_iload hx hb dL_law_1568 (lv_at hl 5 rfl) ?_
  refine lv_iconst (v := 1) hx hb dL_law_1570 (by decide) ?_
  refine lv_iadd hx hb dL_law_1571 ?_
  refine g_sld X hI hsc hsb hbs hr dL_law_1572 (fun v441 hr => ?_)
  refine lv_aload_n hx hb dL_law_1573 rfl (lv_at hl 0 rfl) ?_
  refine lv_iload hx hb dL_law_1574 (lv_at hl 5 rfl) ?_
  refine lv_iconst (v := 2) hx hb dL_law_1576 (by decide) ?_
  refine lv_iadd hx hb dL_law_1577 ?_
  refine g_sld X hI hsc hsb hbs hr dL_law_1578 (fun v442 hr => ?_)
  refine lv_aload_n hx hb dL_law_1579 rfl (lv_at hl 3 rfl) ?_
  rcases gTX_i hr with ⟨v444, h446, n447, hc443, hr⟩ | ⟨q445, h448, n449, hc443, hr⟩
  · refine gXRet_i (g_wrunS X hI (w_X0_envyCycleMember hst hc443) hl (lw_SW q1351 q1352 q95 q1353) rfl rfl hd_X0_envyCycleMember ⟨Nat.le_of_ble_eq_true rfl, Nat.le_of_ble_eq_true rfl⟩ (as := [.ref z1, .int v441, .int v442, .ref z3]) (rest := []) rfl rfl (Nat.le_of_ble_eq_true rfl) ⟨(show cells + 8 ≤ 1200144 from by omega), (show slots + 41 ≤ 5496442 from by omega)⟩ dL_law_1580) (fun H locs hI => ?_)
    refine lv_istore (lv' := [(6, .int v444), (0, .ref zb), (1, .ref z1), (2, .ref z2), (3, .ref z3), (4, .ref z4), (5, .int z5)]) hx hb dL_law_1583 hl (by decide) rfl (fun ls hl => ?_)
    refine lv_aload_n hx hb dL_law_1585 rfl (lv_at hl 3 rfl) ?_
    refine lv_aload_n hx hb dL_law_1586 rfl (lv_at hl 1 rfl) ?_
    refine lv_iload hx hb dL_law_1587 (lv_at hl 6 rfl) ?_
    refine lv_iconst (v := 1) hx hb dL_law_1589 (by decide) ?_
    refine lv_iadd hx hb dL_law_1590 ?_
    refine g_sld X hI hsc hsb hbs hr dL_law_1591 (fun v450 hr => ?_)
    refine lv_aload_n hx hb dL_law_1592 rfl (lv_at hl 1 rfl) ?_
    refine lv_iload hx hb dL_law_1593 (lv_at hl 6 rfl) ?_
    refine lv_iconst (v := 2) hx hb dL_law_1595 (by decide) ?_
    refine lv_iadd hx hb dL_law_1596 ?_
    refine g_sld X hI hsc hsb hbs hr dL_law_1597 (fun v451 hr => ?_)
    obtain ⟨M452, hM453, hr⟩ := gB_i hr
    replace hI := hI.toM hM453
    obtain ⟨v455, iT_456, aT_457, aC_458, hc454, hr⟩ := gT4_i hr
    refine gRun_i (g_runV X hI (w_X6_envyCycleMember hc454) (g_obj_s mH_0) rfl hl (lw_V q2000 q2001 q2002 q122 q2003) rfl rfl hd_X6_envyCycleMember ⟨Nat.le_of_ble_eq_true rfl, Nat.le_of_ble_eq_true rfl⟩ (as := [.int v450, .int v451]) (rest := []) rfl rfl (Nat.le_of_ble_eq_true rfl) ⟨(show (cells + 8) + 0 ≤ 1200144 from by omega), (show (slots + 41) + 0 ≤ 5496442 from by omega)⟩ dL_law_1598) (fun H locs hI => ?_)
    refine lv_istore (lv' := [(7, .int v455), (6, .int v444), (0, .ref zb), (1, .ref z1), (2, .ref z2), (3, .ref z3), (4, .ref z4), (5, .int z5)]) hx hb dL_law_1601 hl (by decide) rfl (fun ls hl => ?_)
    refine lv_aload_n hx hb dL_law_1603 rfl (lv_at hl 4 rfl) ?_
    obtain ⟨v460, hc459, hr⟩ := gB_i hr
    refine gRun_i (g_runV X hI (w_X6_thrown hc459) (g_obj_s mH_0) rfl hl (lw_V q1584 q1585 q1586 q122 q1587) rfl rfl hd_X6_thrown ⟨Nat.le_of_ble_eq_true rfl, Nat.le_of_ble_eq_true rfl⟩ (as := []) (rest := []) rfl rfl (Nat.le_of_ble_eq_true rfl) ⟨(show ((cells + 8) + 0) + 0 ≤ 1200144 from by omega), (show ((slots + 41) + 0) + 0 ≤ 5496442 from by omega)⟩ dL_law_1604) (fun H locs hI => ?_)
    refine lv_iload hx hb dL_law_1607 (lv_at hl 1 rfl) ?_
    refine lv_icmp_eq (tgt := 1614) hx hb dL_law_1609 (by decide) (fun c9 => ?_) (fun c9 => ?_)
    · replace hr := gIf_t c9 hr
      refine lv_iload hx hb dL_law_1614 (lv_at hl 1 rfl) ?_
      refine lv_if_ne (tgt := 1631) hx hb dL_law_1616 (by decide) (fun c9 => ?_) (fun c9 => ?_)
      · replace hr := gIf_f c9 hr
        refine lv_goto (tgt := 2884) hx hb dL_law_1631 (by decide) ?_
        exact w_L_law_J2884 X hst hsc hsb hbs Hr28 hr hI (lv_sub hl [2, 3, 4, 5, 6, 7] rfl) (by omega)
      · replace hr := gIf_t c9 hr
        refine lv_aload_n hx hb dL_law_1619 rfl (lv_at hl 5 rfl) ?_
        refine lv_iconst (v := 0) hx hb dL_law_1620 (by decide) ?_
        refine g_lald X hI hr dL_law_1621 (fun v461 hr => ?_)
        refine lv_iload hx hb dL_law_1622 (lv_at hl 0 rfl) ?_
        refine lv_i2l hx hb dL_law_1624 rfl ?_
        refine W.lcmp hx hb dL_law_1625 ?_
        refine lv_if_eq (tgt := 1631) hx hb dL_law_1626 (by decide) (fun c9 => ?_) (fun c9 => ?_)
        · replace hr := gIf_t c9 hr
          refine lv_goto (tgt := 2884) hx hb dL_law_1631 (by decide) ?_
          exact w_L_law_J2884 X hst hsc hsb hbs Hr28 hr hI (lv_sub hl [2, 3, 4, 5, 6, 7] rfl) (by omega)
        · replace hr := gIf_f c9 hr
          refine lv_iconst (v := 0) hx hb dL_law_1629 (by decide) ?_
          exact absurd hr (by decide)
    · replace hr := gIf_f c9 hr
      refine lv_iconst (v := 0) hx hb dL_law_1612 (by decide) ?_
      exact absurd hr (by decide)
  · exact nomatch hr
set_option maxHeartbeats 2000000 in
theorem w_L_law_J1634 {h : gH} {n : Nat} {r28 : Int32 → gH → Nat → Option Int32} {z1 : Nat} {z2 : Nat} {z3 : Nat} {z4 : Nat} {b28 : Nat} {d28 : Nat} {z5 : Int32} (X : gXX x base RX0 cL_law 10 (some .boolean) p l s m args meth c) (hst : l.stackTraces = false) (hsc : va_X zb zL zx s s.heap) (hsb : zb < s.heap.size) (hbs : base = s.heap.size) (Hr28 : ∀ {z5 : Int32} {h : gH} {n : Nat} {H : Heap} {locs : List Loc} {ls : Array Slot} {cells slots : Nat}, r28 z5 h n = some (1 : Int32) → gI x base s.heap h n H locs → lv_has ls 10 [(0, .ref zb), (1, .ref z1), (2, .ref z2), (3, .ref z3), (4, .ref z4), (5, .int z5)] → (cells + b28 ≤ 1200144 ∧ slots + d28 ≤ 5496442) → W p l e room_1 s m args below meth c H locs cells slots (lw_Z below args s) (F0 m 28 ls [])) {H : Heap} {locs : List Loc} {ls : Array Slot} {cells slots : Nat} (hr : f_L_law_J1634 x zL zx r28 z1 z2 z3 z4 z5 h n = some (1 : Int32)) (hI : gI x base s.heap h n H locs) (hl : lv_has ls 10 [(0, .ref zb), (1, .ref z1), (2, .ref z2), (3, .ref z3), (4, .ref z4), (5, .int z5)]) (hcc : cells + (5 + b28) ≤ 1200144 ∧ slots + (26 + d28) ≤ 5496442) : W p l e room_1 s m args below meth c H locs cells slots (lw_Z below args s) (F0 m 1634 ls []) := by
  have hx := X.1
  have hb := X.2.1
  unfold f_L_law_J1634 at hr
  refine lv_aload_n hx hb dL_law_1634 rfl (lv_at hl 1 rfl) ?_
  refine lv_aload_n hx hb dL_law_1635 rfl (lv_at hl 0 rfl) ?_
  refine lv_iload hx hb dL_law_1636 (lv_at hl 5 rfl) ?_
  refine lv_iconst (v := 1) hx hb dL_law_1638 (by decide) ?_
  refine lv_iadd hx hb dL_law_1639 ?_
  refine g_sld X hI hsc hsb hbs hr dL_law_1640 (fun v462 hr => ?_)
  refine lv_aload_n hx hb dL_law_1641 rfl (lv_at hl 0 rfl) ?_
  refine lv_iload hx hb dL_law_1642 (lv_at hl 5 rfl) ?_
  refine lv_iconst (v := 2) hx hb dL_law_1644 (by decide) ?_
  refine lv_iadd hx hb dL_law_1645 ?_
  refine g_sld X hI hsc hsb hbs hr dL_law_1646 (fun v463 hr => ?_)
  refine lv_aload_n hx hb dL_law_1647 rfl (lv_at hl 3 rfl) ?_
  rcases gTX_i hr with ⟨v465, h467, n468, hc464, hr⟩ | ⟨q466, h469, n470, hc464, hr⟩
  · refine gXRet_i (g_wrunS X hI (w_X0_wouldSwap hst hc464) hl (lw_SW q1362 q1363 q95 q1364) rfl rfl hd_X0_wouldSwap ⟨Nat.le_of_ble_eq_true rfl, Nat.le_of_ble_eq_true rfl⟩ (as := [.ref z1, .int v462, .int v463, .ref z3]) (rest := []) rfl rfl (Nat.le_of_ble_eq_true rfl) ⟨(show cells + 5 ≤ 1200144 from by omega), (show slots + 26 ≤ 5496442 from by omega)⟩ dL_law_1648) (fun H locs hI => ?_)
    refine lv_istore (lv' := [(6, .int v465), (0, .ref zb), (1, .ref z1), (2, .ref z2), (3, .ref z3), (4, .ref z4), (5, .int z5)]) hx hb dL_law_1651 hl (by decide) rfl (fun ls hl => ?_)
    refine lv_aload_n hx hb dL_law_1653 rfl (lv_at hl 3 rfl) ?_
    refine lv_aload_n hx hb dL_law_1654 rfl (lv_at hl 1 rfl) ?_
    refine lv_iload hx hb dL_law_1655 (lv_at hl 6 rfl) ?_
    refine lv_iconst (v := 1) hx hb dL_law_1657 (by decide) ?_
    refine lv_iadd hx hb dL_law_1658 ?_
    refine g_sld X hI hsc hsb hbs hr dL_law_1659 (fun v471 hr => ?_)
    refine lv_aload_n hx hb dL_law_1660 rfl (lv_at hl 1 rfl) ?_
    refine lv_iload hx hb dL_law_1661 (lv_at hl 6 rfl) ?_
    refine lv_iconst (v := 2) hx hb dL_law_1663 (by decide) ?_
    refine lv_iadd hx hb dL_law_1664 ?_
    refine g_sld X hI hsc hsb hbs hr dL_law_1665 (fun v472 hr => ?_)
    obtain ⟨M473, hM474, hr⟩ := gB_i hr
    replace hI := hI.toM hM474
    obtain ⟨v476, iT_477, hc475, hr⟩ := gT2_i hr
    refine gRun_i (g_runV X hI (w_X6_wouldSwap hc475) (g_obj_s mH_0) rfl hl (lw_V q2004 q2005 q2006 q122 q2007) rfl rfl hd_X6_wouldSwap ⟨Nat.le_of_ble_eq_true rfl, Nat.le_of_ble_eq_true rfl⟩ (as := [.int v471, .int v472]) (rest := []) rfl rfl (Nat.le_of_ble_eq_true rfl) ⟨(show (cells + 5) + 0 ≤ 1200144 from by omega), (show (slots + 26) + 0 ≤ 5496442 from by omega)⟩ dL_law_1666) (fun H locs hI => ?_)
    refine lv_istore (lv' := [(7, .int v476), (6, .int v465), (0, .ref zb), (1, .ref z1), (2, .ref z2), (3, .ref z3), (4, .ref z4), (5, .int z5)]) hx hb dL_law_1669 hl (by decide) rfl (fun ls hl => ?_)
    refine lv_aload_n hx hb dL_law_1671 rfl (lv_at hl 4 rfl) ?_
    obtain ⟨v479, hc478, hr⟩ := gB_i hr
    refine gRun_i (g_runV X hI (w_X6_thrown hc478) (g_obj_s mH_0) rfl hl (lw_V q1584 q1585 q1586 q122 q1587) rfl rfl hd_X6_thrown ⟨Nat.le_of_ble_eq_true rfl, Nat.le_of_ble_eq_true rfl⟩ (as := []) (rest := []) rfl rfl (Nat.le_of_ble_eq_true rfl) ⟨(show ((cells + 5) + 0) + 0 ≤ 1200144 from by omega), (show ((slots + 26) + 0) + 0 ≤ 5496442 from by omega)⟩ dL_law_1672) (fun H locs hI => ?_)
    refine lv_iload hx hb dL_law_1675 (lv_at hl 1 rfl) ?_
    refine lv_icmp_eq (tgt := 1682) hx hb dL_law_1677 (by decide) (fun c9 => ?_) (fun c9 => ?_)
    · replace hr := gIf_t c9 hr
      refine lv_iload hx hb dL_law_1682 (lv_at hl 1 rfl) ?_
      refine lv_if_ne (tgt := 1706) hx hb dL_law_1684 (by decide) (fun c9 => ?_) (fun c9 => ?_)
      · replace hr := gIf_f c9 hr
        refine lv_goto (tgt := 2884) hx hb dL_law_1706 (by decide) ?_
        exact w_L_law_J2884 X hst hsc hsb hbs Hr28 hr hI (lv_sub hl [2, 3, 4, 5, 6, 7] rfl) (by omega)
      · replace hr := gIf_t c9 hr
        refine lv_aload_n hx hb dL_law_1687 rfl (lv_at hl 5 rfl) ?_
        refine lv_iconst (v := 0) hx hb dL_law_1688 (by decide) ?_
        refine g_lald X hI hr dL_law_1689 (fun v480 hr => ?_)
        refine lv_iload hx hb dL_law_1690 (lv_at hl 0 rfl) ?_
        refine lv_if_eq (tgt := 1699) hx hb dL_law_1692 (by decide) (fun c9 => ?_) (fun c9 => ?_)
        · replace hr := gIf_t c9 hr
          refine lv_lconst (v := 0) hx hb dL_law_1699 (by decide) ?_
          refine W.lcmp hx hb dL_law_1700 ?_
          refine lv_if_eq (tgt := 1706) hx hb dL_law_1701 (by decide) (fun c9 => ?_) (fun c9 => ?_)
          · replace hr := gIf_t c9 hr
            refine lv_goto (tgt := 2884) hx hb dL_law_1706 (by decide) ?_
            exact w_L_law_J2884 X hst hsc hsb hbs Hr28 hr hI (lv_sub hl [2, 3, 4, 5, 6, 7] rfl) (by omega)
          · replace hr := gIf_f c9 hr
            refine lv_iconst (v := 0) hx hb dL_law_1704 (by decide) ?_
            exact absurd hr (by decide)
        · replace hr := gIf_f c9 hr
          refine lv_lconst (v := 1) hx hb dL_law_1695 (by decide) ?_
          refine lv_goto (tgt := 1700) hx hb dL_law_1696 (by decide) ?_
          refine W.lcmp hx hb dL_law_1700 ?_
          refine lv_if_eq (tgt := 1706) hx hb dL_law_1701 (by decide) (fun c9 => ?_) (fun c9 => ?_)
          · replace hr := gIf_t c9 hr
            refine lv_goto (tgt := 2884) hx hb dL_law_1706 (by decide) ?_
            exact w_L_law_J2884 X hst hsc hsb hbs Hr28 hr hI (lv_sub hl [2, 3, 4, 5, 6, 7] rfl) (by omega)
          · replace hr := gIf_f c9 hr
            refine lv_iconst (v := 0) hx hb dL_law_1704 (by decide) ?_
            exact absurd hr (by decide)
    · replace hr := gIf_f c9 hr
      refine lv_iconst (v := 0) hx hb dL_law_1680 (by decide) ?_
      exact absurd hr (by decide)
  · exact nomatch hr
set_option maxHeartbeats 2000000 in
theorem w_L_law_J1709 {h : gH} {n : Nat} {r28 : Int32 → gH → Nat → Option Int32} {z1 : Nat} {z2 : Nat} {z3 : Nat} {z4 : Nat} {b28 : Nat} {d28 : Nat} {z5 : Int32} (X : gXX x base RX0 cL_law 10 (some .boolean) p l s m args meth c) (hst : l.stackTraces = false) (hsc : va_X zb zL zx s s.heap) (hsb : zb < s.heap.size) (hbs : base = s.heap.size) (Hr28 : ∀ {z5 : Int32} {h : gH} {n : Nat} {H : Heap} {locs : List Loc} {ls : Array Slot} {cells slots : Nat}, r28 z5 h n = some (1 : Int32) → gI x base s.heap h n H locs → lv_has ls 10 [(0, .ref zb), (1, .ref z1), (2, .ref z2), (3, .ref z3), (4, .ref z4), (5, .int z5)] → (cells + b28 ≤ 1200144 ∧ slots + d28 ≤ 5496442) → W p l e room_1 s m args below meth c H locs cells slots (lw_Z below args s) (F0 m 28 ls [])) {H : Heap} {locs : List Loc} {ls : Array Slot} {cells slots : Nat} (hr : f_L_law_J1709 x zL zx r28 z1 z2 z3 z4 z5 h n = some (1 : Int32)) (hI : gI x base s.heap h n H locs) (hl : lv_has ls 10 [(0, .ref zb), (1, .ref z1), (2, .ref z2), (3, .ref z3), (4, .ref z4), (5, .int z5)]) (hcc : cells + (0 + b28) ≤ 1200144 ∧ slots + (0 + d28) ≤ 5496442) : W p l e room_1 s m args below meth c H locs cells slots (lw_Z below args s) (F0 m 1709 ls []) := by
  have hx := X.1
  have hb := X.2.1
  unfold f_L_law_J1709 at hr
  refine lv_aload_n hx hb dL_law_1709 rfl (lv_at hl 1 rfl) ?_
  obtain ⟨_, ho481, hr⟩ := gB_i hr
  obtain ⟨v483, hc482, hr⟩ := gB_i hr
  refine gRun_i (g_runV X hI (w_X1_totalWelfare hc482) ho481 rfl hl (lw_V q874 q875 q876 q96 q877) rfl rfl hd_X1_totalWelfare ⟨Nat.le_of_ble_eq_true rfl, Nat.le_of_ble_eq_true rfl⟩ (as := []) (rest := []) rfl rfl (Nat.le_of_ble_eq_true rfl) ⟨(show cells + 0 ≤ 1200144 from by omega), (show slots + 0 ≤ 5496442 from by omega)⟩ dL_law_1710) (fun H locs hI => ?_)
  refine lv_aload_n hx hb dL_law_1713 rfl (lv_at hl 2 rfl) ?_
  obtain ⟨M484, hM485, hr⟩ := gB_i hr
  replace hI := hI.toM hM485
  obtain ⟨v487, iT_488, hc486, hr⟩ := gT2_i hr
  refine gRun_i (g_runV X hI (w_X6_totalWelfare hc486) (g_obj_s mH_0) rfl hl (lw_V q2008 q2009 q2010 q122 q2011) rfl rfl hd_X6_totalWelfare ⟨Nat.le_of_ble_eq_true rfl, Nat.le_of_ble_eq_true rfl⟩ (as := []) (rest := [.int v483]) rfl rfl (Nat.le_of_ble_eq_true rfl) ⟨(show (cells + 0) + 0 ≤ 1200144 from by omega), (show (slots + 0) + 0 ≤ 5496442 from by omega)⟩ dL_law_1714) (fun H locs hI => ?_)
  refine lv_icmp_eq (tgt := 2884) hx hb dL_law_1717 (by decide) (fun c9 => ?_) (fun c9 => ?_)
  · replace hr := gIf_t c9 hr
    exact w_L_law_J2884 X hst hsc hsb hbs Hr28 hr hI (lv_sub hl [0, 1, 2, 3, 4, 5] rfl) (by omega)
  · replace hr := gIf_f c9 hr
    refine lv_iconst (v := 0) hx hb dL_law_1720 (by decide) ?_
    exact absurd hr (by decide)
set_option maxHeartbeats 2000000 in
theorem w_L_law_J1722 {h : gH} {n : Nat} {r28 : Int32 → gH → Nat → Option Int32} {z1 : Nat} {z2 : Nat} {z3 : Nat} {z4 : Nat} {b28 : Nat} {d28 : Nat} {z5 : Int32} (X : gXX x base RX0 cL_law 10 (some .boolean) p l s m args meth c) (hst : l.stackTraces = false) (hsc : va_X zb zL zx s s.heap) (hsb : zb < s.heap.size) (hbs : base = s.heap.size) (Hr28 : ∀ {z5 : Int32} {h : gH} {n : Nat} {H : Heap} {locs : List Loc} {ls : Array Slot} {cells slots : Nat}, r28 z5 h n = some (1 : Int32) → gI x base s.heap h n H locs → lv_has ls 10 [(0, .ref zb), (1, .ref z1), (2, .ref z2), (3, .ref z3), (4, .ref z4), (5, .int z5)] → (cells + b28 ≤ 1200144 ∧ slots + d28 ≤ 5496442) → W p l e room_1 s m args below meth c H locs cells slots (lw_Z below args s) (F0 m 28 ls [])) {H : Heap} {locs : List Loc} {ls : Array Slot} {cells slots : Nat} (hr : f_L_law_J1722 x zL zx r28 z1 z2 z3 z4 z5 h n = some (1 : Int32)) (hI : gI x base s.heap h n H locs) (hl : lv_has ls 10 [(0, .ref zb), (1, .ref z1), (2, .ref z2), (3, .ref z3), (4, .ref z4), (5, .int z5)]) (hcc : cells + (0 + b28) ≤ 1200144 ∧ slots + (0 + d28) ≤ 5496442) : W p l e room_1 s m args below meth c H locs cells slots (lw_Z below args s) (F0 m 1722 ls []) := by
  have hx := X.1
  have hb := X.2.1
  unfold f_L_law_J1722 at hr
  refine lv_aload_n hx hb dL_law_1722 rfl (lv_at hl 1 rfl) ?_
  obtain ⟨_, ho489, hr⟩ := gB_i hr
  obtain ⟨v491, hc490, hr⟩ := gB_i hr
  refine gRun_i (g_runV X hI (w_X1_leastWelfare hc490) ho489 rfl hl (lw_V q879 q880 q881 q96 q882) rfl rfl hd_X1_leastWelfare ⟨Nat.le_of_ble_eq_true rfl, Nat.le_of_ble_eq_true rfl⟩ (as := []) (rest := []) rfl rfl (Nat.le_of_ble_eq_true rfl) ⟨(show cells + 0 ≤ 1200144 from by omega), (show slots + 0 ≤ 5496442 from by omega)⟩ dL_law_1723) (fun H locs hI => ?_)
  refine lv_aload_n hx hb dL_law_1726 rfl (lv_at hl 2 rfl) ?_
  obtain ⟨M492, hM493, hr⟩ := gB_i hr
  replace hI := hI.toM hM493
  obtain ⟨v495, iT_496, hc494, hr⟩ := gT2_i hr
  refine gRun_i (g_runV X hI (w_X6_leastWelfare hc494) (g_obj_s mH_0) rfl hl (lw_V q2012 q2013 q2014 q122 q2015) rfl rfl hd_X6_leastWelfare ⟨Nat.le_of_ble_eq_true rfl, Nat.le_of_ble_eq_true rfl⟩ (as := []) (rest := [.int v491]) rfl rfl (Nat.le_of_ble_eq_true rfl) ⟨(show (cells + 0) + 0 ≤ 1200144 from by omega), (show (slots + 0) + 0 ≤ 5496442 from by omega)⟩ dL_law_1727) (fun H locs hI => ?_)
  refine lv_icmp_eq (tgt := 2884) hx hb dL_law_1730 (by decide) (fun c9 => ?_) (fun c9 => ?_)
  · replace hr := gIf_t c9 hr
    exact w_L_law_J2884 X hst hsc hsb hbs Hr28 hr hI (lv_sub hl [0, 1, 2, 3, 4, 5] rfl) (by omega)
  · replace hr := gIf_f c9 hr
    refine lv_iconst (v := 0) hx hb dL_law_1733 (by decide) ?_
    exact absurd hr (by decide)
set_option maxHeartbeats 2000000 in
theorem w_L_law_J1735 {h : gH} {n : Nat} {r28 : Int32 → gH → Nat → Option Int32} {z1 : Nat} {z2 : Nat} {z3 : Nat} {z4 : Nat} {b28 : Nat} {d28 : Nat} {z5 : Int32} (X : gXX x base RX0 cL_law 10 (some .boolean) p l s m args meth c) (hst : l.stackTraces = false) (hsc : va_X zb zL zx s s.heap) (hsb : zb < s.heap.size) (hbs : base = s.heap.size) (Hr28 : ∀ {z5 : Int32} {h : gH} {n : Nat} {H : Heap} {locs : List Loc} {ls : Array Slot} {cells slots : Nat}, r28 z5 h n = some (1 : Int32) → gI x base s.heap h n H locs → lv_has ls 10 [(0, .ref zb), (1, .ref z1), (2, .ref z2), (3, .ref z3), (4, .ref z4), (5, .int z5)] → (cells + b28 ≤ 1200144 ∧ slots + d28 ≤ 5496442) → W p l e room_1 s m args below meth c H locs cells slots (lw_Z below args s) (F0 m 28 ls [])) {H : Heap} {locs : List Loc} {ls : Array Slot} {cells slots : Nat} (hr : f_L_law_J1735 x zL zx r28 z1 z2 z3 z4 z5 h n = some (1 : Int32)) (hI : gI x base s.heap h n H locs) (hl : lv_has ls 10 [(0, .ref zb), (1, .ref z1), (2, .ref z2), (3, .ref z3), (4, .ref z4), (5, .int z5)]) (hcc : cells + (0 + b28) ≤ 1200144 ∧ slots + (0 + d28) ≤ 5496442) : W p l e room_1 s m args below meth c H locs cells slots (lw_Z below args s) (F0 m 1735 ls []) := by
  have hx := X.1
  have hb := X.2.1
  unfold f_L_law_J1735 at hr
  refine lv_aload_n hx hb dL_law_1735 rfl (lv_at hl 1 rfl) ?_
  obtain ⟨_, ho497, hr⟩ := gB_i hr
  obtain ⟨v499, hc498, hr⟩ := gB_i hr
  refine gRun_l (g_runV X hI (w_X1_welfareProduct hc498) ho497 rfl hl (lw_V q888 q889 q890 q96 q891) rfl rfl hd_X1_welfareProduct ⟨Nat.le_of_ble_eq_true rfl, Nat.le_of_ble_eq_true rfl⟩ (as := []) (rest := []) rfl rfl (Nat.le_of_ble_eq_true rfl) ⟨(show cells + 0 ≤ 1200144 from by omega), (show slots + 0 ≤ 5496442 from by omega)⟩ dL_law_1736) (fun H locs hI => ?_)
  refine lv_aload_n hx hb dL_law_1739 rfl (lv_at hl 2 rfl) ?_
  obtain ⟨M500, hM501, hr⟩ := gB_i hr
  replace hI := hI.toM hM501
  obtain ⟨v503, iT_504, hc502, hr⟩ := gT2_i hr
  refine gRun_l (g_runV X hI (w_X6_welfareProduct hc502) (g_obj_s mH_0) rfl hl (lw_V q2020 q2021 q2022 q122 q2023) rfl rfl hd_X6_welfareProduct ⟨Nat.le_of_ble_eq_true rfl, Nat.le_of_ble_eq_true rfl⟩ (as := []) (rest := [.long v499]) rfl rfl (Nat.le_of_ble_eq_true rfl) ⟨(show (cells + 0) + 0 ≤ 1200144 from by omega), (show (slots + 0) + 0 ≤ 5496442 from by omega)⟩ dL_law_1740) (fun H locs hI => ?_)
  refine W.lcmp hx hb dL_law_1743 ?_
  refine lv_if_eq (tgt := 2884) hx hb dL_law_1744 (by decide) (fun c9 => ?_) (fun c9 => ?_)
  · replace hr := gIf_t c9 hr
    exact w_L_law_J2884 X hst hsc hsb hbs Hr28 hr hI (lv_sub hl [0, 1, 2, 3, 4, 5] rfl) (by omega)
  · replace hr := gIf_f c9 hr
    refine lv_iconst (v := 0) hx hb dL_law_1747 (by decide) ?_
    exact absurd hr (by decide)
set_option maxHeartbeats 2000000 in
theorem w_L_law_J1749 {h : gH} {n : Nat} {r28 : Int32 → gH → Nat → Option Int32} {z1 : Nat} {z2 : Nat} {z3 : Nat} {z4 : Nat} {b28 : Nat} {d28 : Nat} {z5 : Int32} (X : gXX x base RX0 cL_law 10 (some .boolean) p l s m args meth c) (hst : l.stackTraces = false) (hsc : va_X zb zL zx s s.heap) (hsb : zb < s.heap.size) (hbs : base = s.heap.size) (Hr28 : ∀ {z5 : Int32} {h : gH} {n : Nat} {H : Heap} {locs : List Loc} {ls : Array Slot} {cells slots : Nat}, r28 z5 h n = some (1 : Int32) → gI x base s.heap h n H locs → lv_has ls 10 [(0, .ref zb), (1, .ref z1), (2, .ref z2), (3, .ref z3), (4, .ref z4), (5, .int z5)] → (cells + b28 ≤ 1200144 ∧ slots + d28 ≤ 5496442) → W p l e room_1 s m args below meth c H locs cells slots (lw_Z below args s) (F0 m 28 ls [])) {H : Heap} {locs : List Loc} {ls : Array Slot} {cells slots : Nat} (hr : f_L_law_J1749 x zL zx r28 z1 z2 z3 z4 z5 h n = some (1 : Int32)) (hI : gI x base s.heap h n H locs) (hl : lv_has ls 10 [(0, .ref zb), (1, .ref z1), (2, .ref z2), (3, .ref z3), (4, .ref z4), (5, .int z5)]) (hcc : cells + (0 + b28) ≤ 1200144 ∧ slots + (0 + d28) ≤ 5496442) : W p l e room_1 s m args below meth c H locs cells slots (lw_Z below args s) (F0 m 1749 ls []) := by
  have hx := X.1
  have hb := X.2.1
  unfold f_L_law_J1749 at hr
  refine lv_aload_n hx hb dL_law_1749 rfl (lv_at hl 1 rfl) ?_
  obtain ⟨_, ho505, hr⟩ := gB_i hr
  obtain ⟨v507, hc506, hr⟩ := gB_i hr
  refine gRun_i (g_runV X hI (w_X1_greatestTotalWelfare hc506) ho505 rfl hl (lw_V q892 q893 q894 q96 q895) rfl rfl hd_X1_greatestTotalWelfare ⟨Nat.le_of_ble_eq_true rfl, Nat.le_of_ble_eq_true rfl⟩ (as := []) (rest := []) rfl rfl (Nat.le_of_ble_eq_true rfl) ⟨(show cells + 0 ≤ 1200144 from by omega), (show slots + 0 ≤ 5496442 from by omega)⟩ dL_law_1750) (fun H locs hI => ?_)
  refine lv_aload_n hx hb dL_law_1753 rfl (lv_at hl 2 rfl) ?_
  obtain ⟨M508, hM509, hr⟩ := gB_i hr
  replace hI := hI.toM hM509
  obtain ⟨v511, iT_512, hc510, hr⟩ := gT2_i hr
  refine gRun_i (g_runV X hI (w_X6_greatestTotalWelfare hc510) (g_obj_s mH_0) rfl hl (lw_V q2024 q2025 q2026 q122 q2027) rfl rfl hd_X6_greatestTotalWelfare ⟨Nat.le_of_ble_eq_true rfl, Nat.le_of_ble_eq_true rfl⟩ (as := []) (rest := [.int v507]) rfl rfl (Nat.le_of_ble_eq_true rfl) ⟨(show (cells + 0) + 0 ≤ 1200144 from by omega), (show (slots + 0) + 0 ≤ 5496442 from by omega)⟩ dL_law_1754) (fun H locs hI => ?_)
  refine lv_icmp_eq (tgt := 2884) hx hb dL_law_1757 (by decide) (fun c9 => ?_) (fun c9 => ?_)
  · replace hr := gIf_t c9 hr
    exact w_L_law_J2884 X hst hsc hsb hbs Hr28 hr hI (lv_sub hl [0, 1, 2, 3, 4, 5] rfl) (by omega)
  · replace hr := gIf_f c9 hr
    refine lv_iconst (v := 0) hx hb dL_law_1760 (by decide) ?_
    exact absurd hr (by decide)
set_option maxHeartbeats 2000000 in
theorem w_L_law_J1762 {h : gH} {n : Nat} {r28 : Int32 → gH → Nat → Option Int32} {z1 : Nat} {z2 : Nat} {z3 : Nat} {z4 : Nat} {b28 : Nat} {d28 : Nat} {z5 : Int32} (X : gXX x base RX0 cL_law 10 (some .boolean) p l s m args meth c) (hst : l.stackTraces = false) (hsc : va_X zb zL zx s s.heap) (hsb : zb < s.heap.size) (hbs : base = s.heap.size) (Hr28 : ∀ {z5 : Int32} {h : gH} {n : Nat} {H : Heap} {locs : List Loc} {ls : Array Slot} {cells slots : Nat}, r28 z5 h n = some (1 : Int32) → gI x base s.heap h n H locs → lv_has ls 10 [(0, .ref zb), (1, .ref z1), (2, .ref z2), (3, .ref z3), (4, .ref z4), (5, .int z5)] → (cells + b28 ≤ 1200144 ∧ slots + d28 ≤ 5496442) → W p l e room_1 s m args below meth c H locs cells slots (lw_Z below args s) (F0 m 28 ls [])) {H : Heap} {locs : List Loc} {ls : Array Slot} {cells slots : Nat} (hr : f_L_law_J1762 x zL zx r28 z1 z2 z3 z4 z5 h n = some (1 : Int32)) (hI : gI x base s.heap h n H locs) (hl : lv_has ls 10 [(0, .ref zb), (1, .ref z1), (2, .ref z2), (3, .ref z3), (4, .ref z4), (5, .int z5)]) (hcc : cells + (67 + b28) ≤ 1200144 ∧ slots + (1731 + d28) ≤ 5496442) : W p l e room_1 s m args below meth c H locs cells slots (lw_Z below args s) (F0 m 1762 ls []) := by
  have hx := X.1
  have hb := X.2.1
  unfold f_L_law_J1762 at hr
  refine lv_aload_n hx hb dL_law_1762 rfl (lv_at hl 1 rfl) ?_
  obtain ⟨_, ho513, hr⟩ := gB_i hr
  obtain ⟨v515, h516, n517, hc514, hr⟩ := gT3_i hr
  refine gRun_i (g_runV X hI (w_X1_greatestContiguousWelfare hst hc514) ho513 rfl hl (lw_V q903 q904 q905 q96 q906) rfl rfl hd_X1_greatestContiguousWelfare ⟨Nat.le_of_ble_eq_true rfl, Nat.le_of_ble_eq_true rfl⟩ (as := []) (rest := []) rfl rfl (Nat.le_of_ble_eq_true rfl) ⟨(show cells + 67 ≤ 1200144 from by omega), (show slots + 1731 ≤ 5496442 from by omega)⟩ dL_law_1763) (fun H locs hI => ?_)
  refine lv_aload_n hx hb dL_law_1766 rfl (lv_at hl 2 rfl) ?_
  obtain ⟨M518, hM519, hr⟩ := gB_i hr
  replace hI := hI.toM hM519
  obtain ⟨v521, iT_522, aE_523, hc520, hr⟩ := gT3_i hr
  refine gRun_i (g_runV X hI (w_X6_greatestContiguousWelfare hc520) (g_obj_s mH_0) rfl hl (lw_V q2028 q2029 q2030 q122 q2031) rfl rfl hd_X6_greatestContiguousWelfare ⟨Nat.le_of_ble_eq_true rfl, Nat.le_of_ble_eq_true rfl⟩ (as := []) (rest := [.int v515]) rfl rfl (Nat.le_of_ble_eq_true rfl) ⟨(show (cells + 67) + 0 ≤ 1200144 from by omega), (show (slots + 1731) + 0 ≤ 5496442 from by omega)⟩ dL_law_1767) (fun H locs hI => ?_)
  refine lv_icmp_eq (tgt := 2884) hx hb dL_law_1770 (by decide) (fun c9 => ?_) (fun c9 => ?_)
  · replace hr := gIf_t c9 hr
    exact w_L_law_J2884 X hst hsc hsb hbs Hr28 hr hI (lv_sub hl [0, 1, 2, 3, 4, 5] rfl) (by omega)
  · replace hr := gIf_f c9 hr
    refine lv_iconst (v := 0) hx hb dL_law_1773 (by decide) ?_
    exact absurd hr (by decide)
set_option maxHeartbeats 2000000 in
theorem w_L_law_J1775 {h : gH} {n : Nat} {r28 : Int32 → gH → Nat → Option Int32} {z1 : Nat} {z2 : Nat} {z3 : Nat} {z4 : Nat} {b28 : Nat} {d28 : Nat} {z5 : Int32} (X : gXX x base RX0 cL_law 10 (some .boolean) p l s m args meth c) (hst : l.stackTraces = false) (hsc : va_X zb zL zx s s.heap) (hsb : zb < s.heap.size) (hbs : base = s.heap.size) (Hr28 : ∀ {z5 : Int32} {h : gH} {n : Nat} {H : Heap} {locs : List Loc} {ls : Array Slot} {cells slots : Nat}, r28 z5 h n = some (1 : Int32) → gI x base s.heap h n H locs → lv_has ls 10 [(0, .ref zb), (1, .ref z1), (2, .ref z2), (3, .ref z3), (4, .ref z4), (5, .int z5)] → (cells + b28 ≤ 1200144 ∧ slots + d28 ≤ 5496442) → W p l e room_1 s m args below meth c H locs cells slots (lw_Z below args s) (F0 m 28 ls [])) {H : Heap} {locs : List Loc} {ls : Array Slot} {cells slots : Nat} (hr : f_L_law_J1775 x zL zx r28 z1 z2 z3 z4 z5 h n = some (1 : Int32)) (hI : gI x base s.heap h n H locs) (hl : lv_has ls 10 [(0, .ref zb), (1, .ref z1), (2, .ref z2), (3, .ref z3), (4, .ref z4), (5, .int z5)]) (hcc : cells + (67 + b28) ≤ 1200144 ∧ slots + (1731 + d28) ≤ 5496442) : W p l e room_1 s m args below meth c H locs cells slots (lw_Z below args s) (F0 m 1775 ls []) := by
  have hx := X.1
  have hb := X.2.1
  unfold f_L_law_J1775 at hr
  refine lv_aload_n hx hb dL_law_1775 rfl (lv_at hl 1 rfl) ?_
  obtain ⟨_, ho524, hr⟩ := gB_i hr
  obtain ⟨v526, h527, n528, hc525, hr⟩ := gT3_i hr
  refine gRun_i (g_runV X hI (w_X1_bestLeastWelfare hst hc525) ho524 rfl hl (lw_V q944 q945 q946 q96 q947) rfl rfl hd_X1_bestLeastWelfare ⟨Nat.le_of_ble_eq_true rfl, Nat.le_of_ble_eq_true rfl⟩ (as := []) (rest := []) rfl rfl (Nat.le_of_ble_eq_true rfl) ⟨(show cells + 67 ≤ 1200144 from by omega), (show slots + 1731 ≤ 5496442 from by omega)⟩ dL_law_1776) (fun H locs hI => ?_)
  refine lv_aload_n hx hb dL_law_1779 rfl (lv_at hl 2 rfl) ?_
  obtain ⟨M529, hM530, hr⟩ := gB_i hr
  replace hI := hI.toM hM530
  obtain ⟨v532, iT_533, aQ_534, hc531, hr⟩ := gT3_i hr
  refine gRun_i (g_runV X hI (w_X6_bestLeastWelfare hc531) (g_obj_s mH_0) rfl hl (lw_V q2040 q2041 q2042 q122 q2043) rfl rfl hd_X6_bestLeastWelfare ⟨Nat.le_of_ble_eq_true rfl, Nat.le_of_ble_eq_true rfl⟩ (as := []) (rest := [.int v526]) rfl rfl (Nat.le_of_ble_eq_true rfl) ⟨(show (cells + 67) + 0 ≤ 1200144 from by omega), (show (slots + 1731) + 0 ≤ 5496442 from by omega)⟩ dL_law_1780) (fun H locs hI => ?_)
  refine lv_icmp_eq (tgt := 2884) hx hb dL_law_1783 (by decide) (fun c9 => ?_) (fun c9 => ?_)
  · replace hr := gIf_t c9 hr
    exact w_L_law_J2884 X hst hsc hsb hbs Hr28 hr hI (lv_sub hl [0, 1, 2, 3, 4, 5] rfl) (by omega)
  · replace hr := gIf_f c9 hr
    refine lv_iconst (v := 0) hx hb dL_law_1786 (by decide) ?_
    exact absurd hr (by decide)
set_option maxHeartbeats 2000000 in
theorem w_L_law_J1788 {h : gH} {n : Nat} {r28 : Int32 → gH → Nat → Option Int32} {z1 : Nat} {z2 : Nat} {z3 : Nat} {z4 : Nat} {b28 : Nat} {d28 : Nat} {z5 : Int32} (X : gXX x base RX0 cL_law 10 (some .boolean) p l s m args meth c) (hst : l.stackTraces = false) (hsc : va_X zb zL zx s s.heap) (hsb : zb < s.heap.size) (hbs : base = s.heap.size) (Hr28 : ∀ {z5 : Int32} {h : gH} {n : Nat} {H : Heap} {locs : List Loc} {ls : Array Slot} {cells slots : Nat}, r28 z5 h n = some (1 : Int32) → gI x base s.heap h n H locs → lv_has ls 10 [(0, .ref zb), (1, .ref z1), (2, .ref z2), (3, .ref z3), (4, .ref z4), (5, .int z5)] → (cells + b28 ≤ 1200144 ∧ slots + d28 ≤ 5496442) → W p l e room_1 s m args below meth c H locs cells slots (lw_Z below args s) (F0 m 28 ls [])) {H : Heap} {locs : List Loc} {ls : Array Slot} {cells slots : Nat} (hr : f_L_law_J1788 x zL zx r28 z1 z2 z3 z4 z5 h n = some (1 : Int32)) (hI : gI x base s.heap h n H locs) (hl : lv_has ls 10 [(0, .ref zb), (1, .ref z1), (2, .ref z2), (3, .ref z3), (4, .ref z4), (5, .int z5)]) (hcc : cells + (0 + b28) ≤ 1200144 ∧ slots + (0 + d28) ≤ 5496442) : W p l e room_1 s m args below meth c H locs cells slots (lw_Z below args s) (F0 m 1788 ls []) := by
  have hx := X.1
  have hb := X.2.1
  unfold f_L_law_J1788 at hr
  refine lv_aload_n hx hb dL_law_1788 rfl (lv_at hl 1 rfl) ?_
  obtain ⟨_, ho535, hr⟩ := gB_i hr
  obtain ⟨v537, hc536, hr⟩ := gB_i hr
  refine gRun_i (g_runV X hI (w_X1_cutCount hc536) ho535 rfl hl (lw_V q948 q949 q950 q96 q951) rfl rfl hd_X1_cutCount ⟨Nat.le_of_ble_eq_true rfl, Nat.le_of_ble_eq_true rfl⟩ (as := []) (rest := []) rfl rfl (Nat.le_of_ble_eq_true rfl) ⟨(show cells + 0 ≤ 1200144 from by omega), (show slots + 0 ≤ 5496442 from by omega)⟩ dL_law_1789) (fun H locs hI => ?_)
  refine lv_aload_n hx hb dL_law_1792 rfl (lv_at hl 2 rfl) ?_
  obtain ⟨M538, hM539, hr⟩ := gB_i hr
  replace hI := hI.toM hM539
  obtain ⟨v541, iT_542, hc540, hr⟩ := gT2_i hr
  refine gRun_i (g_runV X hI (w_X6_cutCount hc540) (g_obj_s mH_0) rfl hl (lw_V q2060 q2061 q2062 q122 q2063) rfl rfl hd_X6_cutCount ⟨Nat.le_of_ble_eq_true rfl, Nat.le_of_ble_eq_true rfl⟩ (as := []) (rest := [.int v537]) rfl rfl (Nat.le_of_ble_eq_true rfl) ⟨(show (cells + 0) + 0 ≤ 1200144 from by omega), (show (slots + 0) + 0 ≤ 5496442 from by omega)⟩ dL_law_1793) (fun H locs hI => ?_)
  refine lv_icmp_eq (tgt := 2884) hx hb dL_law_1796 (by decide) (fun c9 => ?_) (fun c9 => ?_)
  · replace hr := gIf_t c9 hr
    exact w_L_law_J2884 X hst hsc hsb hbs Hr28 hr hI (lv_sub hl [0, 1, 2, 3, 4, 5] rfl) (by omega)
  · replace hr := gIf_f c9 hr
    refine lv_iconst (v := 0) hx hb dL_law_1799 (by decide) ?_
    exact absurd hr (by decide)
set_option maxHeartbeats 2000000 in
theorem w_L_law_J1801 {h : gH} {n : Nat} {r28 : Int32 → gH → Nat → Option Int32} {z1 : Nat} {z2 : Nat} {z3 : Nat} {z4 : Nat} {b28 : Nat} {d28 : Nat} {z5 : Int32} (X : gXX x base RX0 cL_law 10 (some .boolean) p l s m args meth c) (hst : l.stackTraces = false) (hsc : va_X zb zL zx s s.heap) (hsb : zb < s.heap.size) (hbs : base = s.heap.size) (Hr28 : ∀ {z5 : Int32} {h : gH} {n : Nat} {H : Heap} {locs : List Loc} {ls : Array Slot} {cells slots : Nat}, r28 z5 h n = some (1 : Int32) → gI x base s.heap h n H locs → lv_has ls 10 [(0, .ref zb), (1, .ref z1), (2, .ref z2), (3, .ref z3), (4, .ref z4), (5, .int z5)] → (cells + b28 ≤ 1200144 ∧ slots + d28 ≤ 5496442) → W p l e room_1 s m args below meth c H locs cells slots (lw_Z below args s) (F0 m 28 ls [])) {H : Heap} {locs : List Loc} {ls : Array Slot} {cells slots : Nat} (hr : f_L_law_J1801 x zL zx r28 z1 z2 z3 z4 z5 h n = some (1 : Int32)) (hI : gI x base s.heap h n H locs) (hl : lv_has ls 10 [(0, .ref zb), (1, .ref z1), (2, .ref z2), (3, .ref z3), (4, .ref z4), (5, .int z5)]) (hcc : cells + (5 + b28) ≤ 1200144 ∧ slots + (25 + d28) ≤ 5496442) : W p l e room_1 s m args below meth c H locs cells slots (lw_Z below args s) (F0 m 1801 ls []) := by
  have hx := X.1
  have hb := X.2.1
  unfold f_L_law_J1801 at hr
  refine lv_aload_n hx hb dL_law_1801 rfl (lv_at hl 1 rfl) ?_
  refine lv_aload_n hx hb dL_law_1802 rfl (lv_at hl 0 rfl) ?_
  refine lv_iload hx hb dL_law_1803 (lv_at hl 5 rfl) ?_
  refine lv_iconst (v := 1) hx hb dL_law_1805 (by decide) ?_
  refine lv_iadd hx hb dL_law_1806 ?_
  refine g_sld X hI hsc hsb hbs hr dL_law_1807 (fun v543 hr => ?_)
  refine lv_aload hx hb dL_law_1808 (lv_at hl 4 rfl) ?_
  rcases gTX_i hr with ⟨v545, h547, n548, hc544, hr⟩ | ⟨q546, h549, n550, hc544, hr⟩
  · refine gXRet_i (g_wrunS X hI (w_X0_satisfaction hst hc544) hl (lw_SW q1369 q1370 q95 q1371) rfl rfl hd_X0_satisfaction ⟨Nat.le_of_ble_eq_true rfl, Nat.le_of_ble_eq_true rfl⟩ (as := [.ref z1, .int v543, .ref z4]) (rest := []) rfl rfl (Nat.le_of_ble_eq_true rfl) ⟨(show cells + 5 ≤ 1200144 from by omega), (show slots + 25 ≤ 5496442 from by omega)⟩ dL_law_1810) (fun H locs hI => ?_)
    refine lv_istore (lv' := [(6, .int v545), (0, .ref zb), (1, .ref z1), (2, .ref z2), (3, .ref z3), (4, .ref z4), (5, .int z5)]) hx hb dL_law_1813 hl (by decide) rfl (fun ls hl => ?_)
    refine lv_aload_n hx hb dL_law_1815 rfl (lv_at hl 3 rfl) ?_
    refine lv_aload_n hx hb dL_law_1816 rfl (lv_at hl 1 rfl) ?_
    refine lv_iload hx hb dL_law_1817 (lv_at hl 6 rfl) ?_
    refine lv_iconst (v := 1) hx hb dL_law_1819 (by decide) ?_
    refine lv_iadd hx hb dL_law_1820 ?_
    refine g_sld X hI hsc hsb hbs hr dL_law_1821 (fun v551 hr => ?_)
    obtain ⟨M552, hM553, hr⟩ := gB_i hr
    replace hI := hI.toM hM553
    obtain ⟨v555, iT_556, hc554, hr⟩ := gT2_i hr
    refine gRun_f (g_runV X hI (w_X6_satisfaction hc554) (g_obj_s mH_0) rfl hl (lw_V q2064 q2065 q2066 q122 q2067) rfl rfl hd_X6_satisfaction ⟨Nat.le_of_ble_eq_true rfl, Nat.le_of_ble_eq_true rfl⟩ (as := [.int v551]) (rest := []) rfl rfl (Nat.le_of_ble_eq_true rfl) ⟨(show (cells + 5) + 0 ≤ 1200144 from by omega), (show (slots + 25) + 0 ≤ 5496442 from by omega)⟩ dL_law_1822) (fun H locs hI => ?_)
    refine lv_fstore (lv' := [(7, .float v555), (6, .int v545), (0, .ref zb), (1, .ref z1), (2, .ref z2), (3, .ref z3), (4, .ref z4), (5, .int z5)]) hx hb dL_law_1825 hl (by decide) rfl (fun ls hl => ?_)
    refine lv_aload_n hx hb dL_law_1827 rfl (lv_at hl 4 rfl) ?_
    obtain ⟨v558, hc557, hr⟩ := gB_i hr
    refine gRun_i (g_runV X hI (w_X6_thrown hc557) (g_obj_s mH_0) rfl hl (lw_V q1584 q1585 q1586 q122 q1587) rfl rfl hd_X6_thrown ⟨Nat.le_of_ble_eq_true rfl, Nat.le_of_ble_eq_true rfl⟩ (as := []) (rest := []) rfl rfl (Nat.le_of_ble_eq_true rfl) ⟨(show ((cells + 5) + 0) + 0 ≤ 1200144 from by omega), (show ((slots + 25) + 0) + 0 ≤ 5496442 from by omega)⟩ dL_law_1828) (fun H locs hI => ?_)
    refine lv_iload hx hb dL_law_1831 (lv_at hl 1 rfl) ?_
    refine lv_icmp_eq (tgt := 1838) hx hb dL_law_1833 (by decide) (fun c9 => ?_) (fun c9 => ?_)
    · replace hr := gIf_t c9 hr
      refine lv_iload hx hb dL_law_1838 (lv_at hl 1 rfl) ?_
      refine lv_if_ne (tgt := 1876) hx hb dL_law_1840 (by decide) (fun c9 => ?_) (fun c9 => ?_)
      · replace hr := gIf_f c9 hr
        refine lv_goto (tgt := 2884) hx hb dL_law_1876 (by decide) ?_
        exact w_L_law_J2884 X hst hsc hsb hbs Hr28 hr hI (lv_sub hl [2, 3, 4, 5, 6, 7] rfl) (by omega)
      · replace hr := gIf_t c9 hr
        refine lv_aload hx hb dL_law_1843 (lv_at hl 6 rfl) ?_
        refine lv_iconst (v := 0) hx hb dL_law_1845 (by decide) ?_
        refine g_dald X hI hr dL_law_1846 (fun v559 hr => ?_)
        refine lv_fload hx hb dL_law_1847 (lv_at hl 0 rfl) ?_
        obtain ⟨c9, hr⟩ := gIf_o hr
        refine lv_f2d hx hb dL_law_1849 (g_n64_i c9) ?_
        refine lv_dcmp hx hb dL_law_1850 ?_
        refine lv_if_eq (tgt := 1876) hx hb dL_law_1851 (by decide) (fun c9 => ?_) (fun c9 => ?_)
        · replace hr := gIf_t c9 hr
          refine lv_goto (tgt := 2884) hx hb dL_law_1876 (by decide) ?_
          exact w_L_law_J2884 X hst hsc hsb hbs Hr28 hr hI (lv_sub hl [2, 3, 4, 5, 6, 7] rfl) (by omega)
        · replace hr := gIf_f c9 hr
          refine lv_aload hx hb dL_law_1854 (lv_at hl 6 rfl) ?_
          refine lv_iconst (v := 0) hx hb dL_law_1856 (by decide) ?_
          refine g_dald X hI hr dL_law_1857 (fun v560 hr => ?_)
          refine lv_aload hx hb dL_law_1858 (lv_at hl 6 rfl) ?_
          refine lv_iconst (v := 0) hx hb dL_law_1860 (by decide) ?_
          refine g_dald X hI hr dL_law_1861 (fun v561 hr => ?_)
          refine lv_dcmp hx hb dL_law_1862 ?_
          refine lv_if_eq (tgt := 1874) hx hb dL_law_1863 (by decide) (fun c9 => ?_) (fun c9 => ?_)
          · replace hr := gIf_t c9 hr
            refine lv_iconst (v := 0) hx hb dL_law_1874 (by decide) ?_
            exact absurd hr (by decide)
          · replace hr := gIf_f c9 hr
            refine lv_fload hx hb dL_law_1866 (lv_at hl 0 rfl) ?_
            refine lv_fload hx hb dL_law_1868 (lv_at hl 0 rfl) ?_
            refine lv_fcmp hx hb dL_law_1870 ?_
            refine lv_if_ne (tgt := 1876) hx hb dL_law_1871 (by decide) (fun c9 => ?_) (fun c9 => ?_)
            · replace hr := gIf_f c9 hr
              refine lv_goto (tgt := 2884) hx hb dL_law_1876 (by decide) ?_
              exact w_L_law_J2884 X hst hsc hsb hbs Hr28 hr hI (lv_sub hl [2, 3, 4, 5, 6, 7] rfl) (by omega)
            · replace hr := gIf_t c9 hr
              refine lv_iconst (v := 0) hx hb dL_law_1874 (by decide) ?_
              exact absurd hr (by decide)
    · replace hr := gIf_f c9 hr
      refine lv_iconst (v := 0) hx hb dL_law_1836 (by decide) ?_
      exact absurd hr (by decide)
  · exact nomatch hr
set_option maxHeartbeats 2000000 in
theorem w_L_law_J1879 {h : gH} {n : Nat} {r28 : Int32 → gH → Nat → Option Int32} {z1 : Nat} {z2 : Nat} {z3 : Nat} {z4 : Nat} {b28 : Nat} {d28 : Nat} {z5 : Int32} (X : gXX x base RX0 cL_law 10 (some .boolean) p l s m args meth c) (hst : l.stackTraces = false) (hsc : va_X zb zL zx s s.heap) (hsb : zb < s.heap.size) (hbs : base = s.heap.size) (Hr28 : ∀ {z5 : Int32} {h : gH} {n : Nat} {H : Heap} {locs : List Loc} {ls : Array Slot} {cells slots : Nat}, r28 z5 h n = some (1 : Int32) → gI x base s.heap h n H locs → lv_has ls 10 [(0, .ref zb), (1, .ref z1), (2, .ref z2), (3, .ref z3), (4, .ref z4), (5, .int z5)] → (cells + b28 ≤ 1200144 ∧ slots + d28 ≤ 5496442) → W p l e room_1 s m args below meth c H locs cells slots (lw_Z below args s) (F0 m 28 ls [])) {H : Heap} {locs : List Loc} {ls : Array Slot} {cells slots : Nat} (hr : f_L_law_J1879 x zL zx r28 z1 z2 z3 z4 z5 h n = some (1 : Int32)) (hI : gI x base s.heap h n H locs) (hl : lv_has ls 10 [(0, .ref zb), (1, .ref z1), (2, .ref z2), (3, .ref z3), (4, .ref z4), (5, .int z5)]) (hcc : cells + (0 + b28) ≤ 1200144 ∧ slots + (0 + d28) ≤ 5496442) : W p l e room_1 s m args below meth c H locs cells slots (lw_Z below args s) (F0 m 1879 ls []) := by
  have hx := X.1
  have hb := X.2.1
  unfold f_L_law_J1879 at hr
  refine lv_aload_n hx hb dL_law_1879 rfl (lv_at hl 1 rfl) ?_
  obtain ⟨_, ho562, hr⟩ := gB_i hr
  obtain ⟨v564, hc563, hr⟩ := gB_i hr
  refine gRun_d (g_runV X hI (w_X1_meanPieces hc563) ho562 rfl hl (lw_V q952 q953 q954 q96 q955) rfl rfl hd_X1_meanPieces ⟨Nat.le_of_ble_eq_true rfl, Nat.le_of_ble_eq_true rfl⟩ (as := []) (rest := []) rfl rfl (Nat.le_of_ble_eq_true rfl) ⟨(show cells + 0 ≤ 1200144 from by omega), (show slots + 0 ≤ 5496442 from by omega)⟩ dL_law_1880) (fun H locs hI => ?_)
  refine lv_dstore (lv' := [(6, .double v564), (0, .ref zb), (1, .ref z1), (2, .ref z2), (3, .ref z3), (4, .ref z4), (5, .int z5)]) hx hb dL_law_1883 hl (by decide) rfl (fun ls hl => ?_)
  refine lv_aload_n hx hb dL_law_1885 rfl (lv_at hl 3 rfl) ?_
  obtain ⟨M565, hM566, hr⟩ := gB_i hr
  replace hI := hI.toM hM566
  obtain ⟨v568, iT_569, hc567, hr⟩ := gT2_i hr
  refine gRun_d (g_runV X hI (w_X6_meanPieces hc567) (g_obj_s mH_0) rfl hl (lw_V q2068 q2069 q2070 q122 q2071) rfl rfl hd_X6_meanPieces ⟨Nat.le_of_ble_eq_true rfl, Nat.le_of_ble_eq_true rfl⟩ (as := []) (rest := []) rfl rfl (Nat.le_of_ble_eq_true rfl) ⟨(show (cells + 0) + 0 ≤ 1200144 from by omega), (show (slots + 0) + 0 ≤ 5496442 from by omega)⟩ dL_law_1886) (fun H locs hI => ?_)
  refine lv_dstore (lv' := [(8, .double v568), (6, .double v564), (0, .ref zb), (1, .ref z1), (2, .ref z2), (3, .ref z3), (4, .ref z4), (5, .int z5)]) hx hb dL_law_1889 hl (by decide) rfl (fun ls hl => ?_)
  refine lv_dload hx hb dL_law_1891 (lv_at hl 1 rfl) ?_
  refine lv_dload hx hb dL_law_1893 (lv_at hl 0 rfl) ?_
  refine lv_dcmp hx hb dL_law_1895 ?_
  refine lv_if_eq (tgt := 1917) hx hb dL_law_1896 (by decide) (fun c9 => ?_) (fun c9 => ?_)
  · replace hr := gIf_t c9 hr
    refine lv_goto (tgt := 2884) hx hb dL_law_1917 (by decide) ?_
    exact w_L_law_J2884 X hst hsc hsb hbs Hr28 hr hI (lv_sub hl [2, 3, 4, 5, 6, 7] rfl) (by omega)
  · replace hr := gIf_f c9 hr
    refine lv_dload hx hb dL_law_1899 (lv_at hl 1 rfl) ?_
    refine lv_dload hx hb dL_law_1901 (lv_at hl 1 rfl) ?_
    refine lv_dcmp hx hb dL_law_1903 ?_
    refine lv_if_eq (tgt := 1915) hx hb dL_law_1904 (by decide) (fun c9 => ?_) (fun c9 => ?_)
    · replace hr := gIf_t c9 hr
      refine lv_iconst (v := 0) hx hb dL_law_1915 (by decide) ?_
      exact absurd hr (by decide)
    · replace hr := gIf_f c9 hr
      refine lv_dload hx hb dL_law_1907 (lv_at hl 0 rfl) ?_
      refine lv_dload hx hb dL_law_1909 (lv_at hl 0 rfl) ?_
      refine lv_dcmp hx hb dL_law_1911 ?_
      refine lv_if_ne (tgt := 1917) hx hb dL_law_1912 (by decide) (fun c9 => ?_) (fun c9 => ?_)
      · replace hr := gIf_f c9 hr
        refine lv_goto (tgt := 2884) hx hb dL_law_1917 (by decide) ?_
        exact w_L_law_J2884 X hst hsc hsb hbs Hr28 hr hI (lv_sub hl [2, 3, 4, 5, 6, 7] rfl) (by omega)
      · replace hr := gIf_t c9 hr
        refine lv_iconst (v := 0) hx hb dL_law_1915 (by decide) ?_
        exact absurd hr (by decide)
set_option maxHeartbeats 2000000 in
theorem w_L_law_J1920 {h : gH} {n : Nat} {r28 : Int32 → gH → Nat → Option Int32} {z1 : Nat} {z2 : Nat} {z3 : Nat} {z4 : Nat} {b28 : Nat} {d28 : Nat} {z5 : Int32} (X : gXX x base RX0 cL_law 10 (some .boolean) p l s m args meth c) (hst : l.stackTraces = false) (hsc : va_X zb zL zx s s.heap) (hsb : zb < s.heap.size) (hbs : base = s.heap.size) (Hr28 : ∀ {z5 : Int32} {h : gH} {n : Nat} {H : Heap} {locs : List Loc} {ls : Array Slot} {cells slots : Nat}, r28 z5 h n = some (1 : Int32) → gI x base s.heap h n H locs → lv_has ls 10 [(0, .ref zb), (1, .ref z1), (2, .ref z2), (3, .ref z3), (4, .ref z4), (5, .int z5)] → (cells + b28 ≤ 1200144 ∧ slots + d28 ≤ 5496442) → W p l e room_1 s m args below meth c H locs cells slots (lw_Z below args s) (F0 m 28 ls [])) {H : Heap} {locs : List Loc} {ls : Array Slot} {cells slots : Nat} (hr : f_L_law_J1920 x zL zx r28 z1 z2 z3 z4 z5 h n = some (1 : Int32)) (hI : gI x base s.heap h n H locs) (hl : lv_has ls 10 [(0, .ref zb), (1, .ref z1), (2, .ref z2), (3, .ref z3), (4, .ref z4), (5, .int z5)]) (hcc : cells + (0 + b28) ≤ 1200144 ∧ slots + (0 + d28) ≤ 5496442) : W p l e room_1 s m args below meth c H locs cells slots (lw_Z below args s) (F0 m 1920 ls []) := by
  have hx := X.1
  have hb := X.2.1
  unfold f_L_law_J1920 at hr
  refine lv_aload_n hx hb dL_law_1920 rfl (lv_at hl 1 rfl) ?_
  obtain ⟨_, ho570, hr⟩ := gB_i hr
  obtain ⟨v572, hc571, hr⟩ := gB_i hr
  refine gRun_i (g_runV X hI (w_X1_inconsistencies hc571) ho570 rfl hl (lw_V q960 q961 q962 q96 q963) rfl rfl hd_X1_inconsistencies ⟨Nat.le_of_ble_eq_true rfl, Nat.le_of_ble_eq_true rfl⟩ (as := []) (rest := []) rfl rfl (Nat.le_of_ble_eq_true rfl) ⟨(show cells + 0 ≤ 1200144 from by omega), (show slots + 0 ≤ 5496442 from by omega)⟩ dL_law_1921) (fun H locs hI => ?_)
  refine lv_aload_n hx hb dL_law_1924 rfl (lv_at hl 2 rfl) ?_
  obtain ⟨M573, hM574, hr⟩ := gB_i hr
  replace hI := hI.toM hM574
  obtain ⟨v576, iT_577, hc575, hr⟩ := gT2_i hr
  refine gRun_i (g_runV X hI (w_X6_inconsistencies hc575) (g_obj_s mH_0) rfl hl (lw_V q2072 q2073 q2074 q122 q2075) rfl rfl hd_X6_inconsistencies ⟨Nat.le_of_ble_eq_true rfl, Nat.le_of_ble_eq_true rfl⟩ (as := []) (rest := [.int v572]) rfl rfl (Nat.le_of_ble_eq_true rfl) ⟨(show (cells + 0) + 0 ≤ 1200144 from by omega), (show (slots + 0) + 0 ≤ 5496442 from by omega)⟩ dL_law_1925) (fun H locs hI => ?_)
  refine lv_icmp_eq (tgt := 2884) hx hb dL_law_1928 (by decide) (fun c9 => ?_) (fun c9 => ?_)
  · replace hr := gIf_t c9 hr
    exact w_L_law_J2884 X hst hsc hsb hbs Hr28 hr hI (lv_sub hl [0, 1, 2, 3, 4, 5] rfl) (by omega)
  · replace hr := gIf_f c9 hr
    refine lv_iconst (v := 0) hx hb dL_law_1931 (by decide) ?_
    exact absurd hr (by decide)
set_option maxHeartbeats 2000000 in
theorem w_L_law_J1933 {h : gH} {n : Nat} {r28 : Int32 → gH → Nat → Option Int32} {z1 : Nat} {z2 : Nat} {z3 : Nat} {z4 : Nat} {b28 : Nat} {d28 : Nat} {z5 : Int32} (X : gXX x base RX0 cL_law 10 (some .boolean) p l s m args meth c) (hst : l.stackTraces = false) (hsc : va_X zb zL zx s s.heap) (hsb : zb < s.heap.size) (hbs : base = s.heap.size) (Hr28 : ∀ {z5 : Int32} {h : gH} {n : Nat} {H : Heap} {locs : List Loc} {ls : Array Slot} {cells slots : Nat}, r28 z5 h n = some (1 : Int32) → gI x base s.heap h n H locs → lv_has ls 10 [(0, .ref zb), (1, .ref z1), (2, .ref z2), (3, .ref z3), (4, .ref z4), (5, .int z5)] → (cells + b28 ≤ 1200144 ∧ slots + d28 ≤ 5496442) → W p l e room_1 s m args below meth c H locs cells slots (lw_Z below args s) (F0 m 28 ls [])) {H : Heap} {locs : List Loc} {ls : Array Slot} {cells slots : Nat} (hr : f_L_law_J1933 x zL zx r28 z1 z2 z3 z4 z5 h n = some (1 : Int32)) (hI : gI x base s.heap h n H locs) (hl : lv_has ls 10 [(0, .ref zb), (1, .ref z1), (2, .ref z2), (3, .ref z3), (4, .ref z4), (5, .int z5)]) (hcc : cells + (5 + b28) ≤ 1200144 ∧ slots + (25 + d28) ≤ 5496442) : W p l e room_1 s m args below meth c H locs cells slots (lw_Z below args s) (F0 m 1933 ls []) := by
  have hx := X.1
  have hb := X.2.1
  unfold f_L_law_J1933 at hr
  refine lv_aload_n hx hb dL_law_1933 rfl (lv_at hl 1 rfl) ?_
  refine lv_aload_n hx hb dL_law_1934 rfl (lv_at hl 0 rfl) ?_
  refine lv_iload hx hb dL_law_1935 (lv_at hl 5 rfl) ?_
  refine lv_iconst (v := 1) hx hb dL_law_1937 (by decide) ?_
  refine lv_iadd hx hb dL_law_1938 ?_
  refine g_sld X hI hsc hsb hbs hr dL_law_1939 (fun v578 hr => ?_)
  refine lv_aload_n hx hb dL_law_1940 rfl (lv_at hl 3 rfl) ?_
  rcases gTX_i hr with ⟨v580, h582, n583, hc579, hr⟩ | ⟨q581, h584, n585, hc579, hr⟩
  · refine gXRet_i (g_wrunS X hI (w_X0_cutFor hst hc579) hl (lw_SW q1376 q1377 q95 q1378) rfl rfl hd_X0_cutFor ⟨Nat.le_of_ble_eq_true rfl, Nat.le_of_ble_eq_true rfl⟩ (as := [.ref z1, .int v578, .ref z3]) (rest := []) rfl rfl (Nat.le_of_ble_eq_true rfl) ⟨(show cells + 5 ≤ 1200144 from by omega), (show slots + 25 ≤ 5496442 from by omega)⟩ dL_law_1941) (fun H locs hI => ?_)
    refine lv_istore (lv' := [(6, .int v580), (0, .ref zb), (1, .ref z1), (2, .ref z2), (3, .ref z3), (4, .ref z4), (5, .int z5)]) hx hb dL_law_1944 hl (by decide) rfl (fun ls hl => ?_)
    refine lv_aload_n hx hb dL_law_1946 rfl (lv_at hl 3 rfl) ?_
    refine lv_aload_n hx hb dL_law_1947 rfl (lv_at hl 1 rfl) ?_
    refine lv_iload hx hb dL_law_1948 (lv_at hl 6 rfl) ?_
    refine lv_iconst (v := 1) hx hb dL_law_1950 (by decide) ?_
    refine lv_iadd hx hb dL_law_1951 ?_
    refine g_sld X hI hsc hsb hbs hr dL_law_1952 (fun v586 hr => ?_)
    obtain ⟨M587, hM588, hr⟩ := gB_i hr
    replace hI := hI.toM hM588
    obtain ⟨v590, iT_591, hc589, hr⟩ := gT2_i hr
    refine gRun_i (g_runV X hI (w_X6_cutFor hc589) (g_obj_s mH_0) rfl hl (lw_V q2076 q2077 q2078 q122 q2079) rfl rfl hd_X6_cutFor ⟨Nat.le_of_ble_eq_true rfl, Nat.le_of_ble_eq_true rfl⟩ (as := [.int v586]) (rest := []) rfl rfl (Nat.le_of_ble_eq_true rfl) ⟨(show (cells + 5) + 0 ≤ 1200144 from by omega), (show (slots + 25) + 0 ≤ 5496442 from by omega)⟩ dL_law_1953) (fun H locs hI => ?_)
    refine lv_istore (lv' := [(7, .int v590), (6, .int v580), (0, .ref zb), (1, .ref z1), (2, .ref z2), (3, .ref z3), (4, .ref z4), (5, .int z5)]) hx hb dL_law_1956 hl (by decide) rfl (fun ls hl => ?_)
    refine lv_aload_n hx hb dL_law_1958 rfl (lv_at hl 4 rfl) ?_
    obtain ⟨v593, hc592, hr⟩ := gB_i hr
    refine gRun_i (g_runV X hI (w_X6_thrown hc592) (g_obj_s mH_0) rfl hl (lw_V q1584 q1585 q1586 q122 q1587) rfl rfl hd_X6_thrown ⟨Nat.le_of_ble_eq_true rfl, Nat.le_of_ble_eq_true rfl⟩ (as := []) (rest := []) rfl rfl (Nat.le_of_ble_eq_true rfl) ⟨(show ((cells + 5) + 0) + 0 ≤ 1200144 from by omega), (show ((slots + 25) + 0) + 0 ≤ 5496442 from by omega)⟩ dL_law_1959) (fun H locs hI => ?_)
    refine lv_iload hx hb dL_law_1962 (lv_at hl 1 rfl) ?_
    refine lv_icmp_eq (tgt := 1969) hx hb dL_law_1964 (by decide) (fun c9 => ?_) (fun c9 => ?_)
    · replace hr := gIf_t c9 hr
      refine lv_iload hx hb dL_law_1969 (lv_at hl 1 rfl) ?_
      refine lv_if_ne (tgt := 1986) hx hb dL_law_1971 (by decide) (fun c9 => ?_) (fun c9 => ?_)
      · replace hr := gIf_f c9 hr
        refine lv_goto (tgt := 2884) hx hb dL_law_1986 (by decide) ?_
        exact w_L_law_J2884 X hst hsc hsb hbs Hr28 hr hI (lv_sub hl [2, 3, 4, 5, 6, 7] rfl) (by omega)
      · replace hr := gIf_t c9 hr
        refine lv_aload_n hx hb dL_law_1974 rfl (lv_at hl 5 rfl) ?_
        refine lv_iconst (v := 0) hx hb dL_law_1975 (by decide) ?_
        refine g_lald X hI hr dL_law_1976 (fun v594 hr => ?_)
        refine lv_iload hx hb dL_law_1977 (lv_at hl 0 rfl) ?_
        refine lv_i2l hx hb dL_law_1979 rfl ?_
        refine W.lcmp hx hb dL_law_1980 ?_
        refine lv_if_eq (tgt := 1986) hx hb dL_law_1981 (by decide) (fun c9 => ?_) (fun c9 => ?_)
        · replace hr := gIf_t c9 hr
          refine lv_goto (tgt := 2884) hx hb dL_law_1986 (by decide) ?_
          exact w_L_law_J2884 X hst hsc hsb hbs Hr28 hr hI (lv_sub hl [2, 3, 4, 5, 6, 7] rfl) (by omega)
        · replace hr := gIf_f c9 hr
          refine lv_iconst (v := 0) hx hb dL_law_1984 (by decide) ?_
          exact absurd hr (by decide)
    · replace hr := gIf_f c9 hr
      refine lv_iconst (v := 0) hx hb dL_law_1967 (by decide) ?_
      exact absurd hr (by decide)
  · exact nomatch hr
set_option maxHeartbeats 2000000 in
theorem w_L_law_J1989 {h : gH} {n : Nat} {r28 : Int32 → gH → Nat → Option Int32} {z1 : Nat} {z2 : Nat} {z3 : Nat} {z4 : Nat} {b28 : Nat} {d28 : Nat} {z5 : Int32} (X : gXX x base RX0 cL_law 10 (some .boolean) p l s m args meth c) (hst : l.stackTraces = false) (hsc : va_X zb zL zx s s.heap) (hsb : zb < s.heap.size) (hbs : base = s.heap.size) (Hr28 : ∀ {z5 : Int32} {h : gH} {n : Nat} {H : Heap} {locs : List Loc} {ls : Array Slot} {cells slots : Nat}, r28 z5 h n = some (1 : Int32) → gI x base s.heap h n H locs → lv_has ls 10 [(0, .ref zb), (1, .ref z1), (2, .ref z2), (3, .ref z3), (4, .ref z4), (5, .int z5)] → (cells + b28 ≤ 1200144 ∧ slots + d28 ≤ 5496442) → W p l e room_1 s m args below meth c H locs cells slots (lw_Z below args s) (F0 m 28 ls [])) {H : Heap} {locs : List Loc} {ls : Array Slot} {cells slots : Nat} (hr : f_L_law_J1989 x zL zx r28 z1 z2 z3 z4 z5 h n = some (1 : Int32)) (hI : gI x base s.heap h n H locs) (hl : lv_has ls 10 [(0, .ref zb), (1, .ref z1), (2, .ref z2), (3, .ref z3), (4, .ref z4), (5, .int z5)]) (hcc : cells + (10 + b28) ≤ 1200144 ∧ slots + (67 + d28) ≤ 5496442) : W p l e room_1 s m args below meth c H locs cells slots (lw_Z below args s) (F0 m 1989 ls []) := by
  have hx := X.1
  have hb := X.2.1
  unfold f_L_law_J1989 at hr
  refine lv_aload_n hx hb dL_law_1989 rfl (lv_at hl 1 rfl) ?_
  refine lv_aload_n hx hb dL_law_1990 rfl (lv_at hl 0 rfl) ?_
  refine lv_iload hx hb dL_law_1991 (lv_at hl 5 rfl) ?_
  refine lv_iconst (v := 1) hx hb dL_law_1993 (by decide) ?_
  refine lv_iadd hx hb dL_law_1994 ?_
  refine g_sld X hI hsc hsb hbs hr dL_law_1995 (fun v595 hr => ?_)
  refine lv_aload_n hx hb dL_law_1996 rfl (lv_at hl 3 rfl) ?_
  rcases gTX_i hr with ⟨v597, h599, n600, hc596, hr⟩ | ⟨q598, h601, n602, hc596, hr⟩
  · refine gXRet_i (g_wrunS X hI (w_X0_welfareByKnife hst hc596) hl (lw_SW q1392 q1393 q95 q1394) rfl rfl hd_X0_welfareByKnife ⟨Nat.le_of_ble_eq_true rfl, Nat.le_of_ble_eq_true rfl⟩ (as := [.ref z1, .int v595, .ref z3]) (rest := []) rfl rfl (Nat.le_of_ble_eq_true rfl) ⟨(show cells + 10 ≤ 1200144 from by omega), (show slots + 67 ≤ 5496442 from by omega)⟩ dL_law_1997) (fun H locs hI => ?_)
    refine lv_istore (lv' := [(6, .int v597), (0, .ref zb), (1, .ref z1), (2, .ref z2), (3, .ref z3), (4, .ref z4), (5, .int z5)]) hx hb dL_law_2000 hl (by decide) rfl (fun ls hl => ?_)
    refine lv_aload_n hx hb dL_law_2002 rfl (lv_at hl 3 rfl) ?_
    refine lv_aload_n hx hb dL_law_2003 rfl (lv_at hl 1 rfl) ?_
    refine lv_iload hx hb dL_law_2004 (lv_at hl 6 rfl) ?_
    refine lv_iconst (v := 1) hx hb dL_law_2006 (by decide) ?_
    refine lv_iadd hx hb dL_law_2007 ?_
    refine g_sld X hI hsc hsb hbs hr dL_law_2008 (fun v603 hr => ?_)
    obtain ⟨M604, hM605, hr⟩ := gB_i hr
    replace hI := hI.toM hM605
    obtain ⟨v607, aM_608, iT_609, aH_610, hc606, hr⟩ := gT4_i hr
    refine gRun_i (g_runV X hI (w_X6_welfareByKnife hc606) (g_obj_s mH_0) rfl hl (lw_V q2080 q2081 q2082 q122 q2083) rfl rfl hd_X6_welfareByKnife ⟨Nat.le_of_ble_eq_true rfl, Nat.le_of_ble_eq_true rfl⟩ (as := [.int v603]) (rest := []) rfl rfl (Nat.le_of_ble_eq_true rfl) ⟨(show (cells + 10) + 0 ≤ 1200144 from by omega), (show (slots + 67) + 0 ≤ 5496442 from by omega)⟩ dL_law_2009) (fun H locs hI => ?_)
    refine lv_istore (lv' := [(7, .int v607), (6, .int v597), (0, .ref zb), (1, .ref z1), (2, .ref z2), (3, .ref z3), (4, .ref z4), (5, .int z5)]) hx hb dL_law_2012 hl (by decide) rfl (fun ls hl => ?_)
    refine lv_aload_n hx hb dL_law_2014 rfl (lv_at hl 4 rfl) ?_
    obtain ⟨v612, hc611, hr⟩ := gB_i hr
    refine gRun_i (g_runV X hI (w_X6_thrown hc611) (g_obj_s mH_0) rfl hl (lw_V q1584 q1585 q1586 q122 q1587) rfl rfl hd_X6_thrown ⟨Nat.le_of_ble_eq_true rfl, Nat.le_of_ble_eq_true rfl⟩ (as := []) (rest := []) rfl rfl (Nat.le_of_ble_eq_true rfl) ⟨(show ((cells + 10) + 0) + 0 ≤ 1200144 from by omega), (show ((slots + 67) + 0) + 0 ≤ 5496442 from by omega)⟩ dL_law_2015) (fun H locs hI => ?_)
    refine lv_iload hx hb dL_law_2018 (lv_at hl 1 rfl) ?_
    refine lv_icmp_eq (tgt := 2025) hx hb dL_law_2020 (by decide) (fun c9 => ?_) (fun c9 => ?_)
    · replace hr := gIf_t c9 hr
      refine lv_iload hx hb dL_law_2025 (lv_at hl 1 rfl) ?_
      refine lv_if_ne (tgt := 2042) hx hb dL_law_2027 (by decide) (fun c9 => ?_) (fun c9 => ?_)
      · replace hr := gIf_f c9 hr
        refine lv_goto (tgt := 2884) hx hb dL_law_2042 (by decide) ?_
        exact w_L_law_J2884 X hst hsc hsb hbs Hr28 hr hI (lv_sub hl [2, 3, 4, 5, 6, 7] rfl) (by omega)
      · replace hr := gIf_t c9 hr
        refine lv_aload_n hx hb dL_law_2030 rfl (lv_at hl 5 rfl) ?_
        refine lv_iconst (v := 0) hx hb dL_law_2031 (by decide) ?_
        refine g_lald X hI hr dL_law_2032 (fun v613 hr => ?_)
        refine lv_iload hx hb dL_law_2033 (lv_at hl 0 rfl) ?_
        refine lv_i2l hx hb dL_law_2035 rfl ?_
        refine W.lcmp hx hb dL_law_2036 ?_
        refine lv_if_eq (tgt := 2042) hx hb dL_law_2037 (by decide) (fun c9 => ?_) (fun c9 => ?_)
        · replace hr := gIf_t c9 hr
          refine lv_goto (tgt := 2884) hx hb dL_law_2042 (by decide) ?_
          exact w_L_law_J2884 X hst hsc hsb hbs Hr28 hr hI (lv_sub hl [2, 3, 4, 5, 6, 7] rfl) (by omega)
        · replace hr := gIf_f c9 hr
          refine lv_iconst (v := 0) hx hb dL_law_2040 (by decide) ?_
          exact absurd hr (by decide)
    · replace hr := gIf_f c9 hr
      refine lv_iconst (v := 0) hx hb dL_law_2023 (by decide) ?_
      exact absurd hr (by decide)
  · exact nomatch hr
set_option maxHeartbeats 2000000 in
theorem w_L_law_J2045 {h : gH} {n : Nat} {r28 : Int32 → gH → Nat → Option Int32} {z1 : Nat} {z2 : Nat} {z3 : Nat} {z4 : Nat} {b28 : Nat} {d28 : Nat} {z5 : Int32} (X : gXX x base RX0 cL_law 10 (some .boolean) p l s m args meth c) (hst : l.stackTraces = false) (hsc : va_X zb zL zx s s.heap) (hsb : zb < s.heap.size) (hbs : base = s.heap.size) (Hr28 : ∀ {z5 : Int32} {h : gH} {n : Nat} {H : Heap} {locs : List Loc} {ls : Array Slot} {cells slots : Nat}, r28 z5 h n = some (1 : Int32) → gI x base s.heap h n H locs → lv_has ls 10 [(0, .ref zb), (1, .ref z1), (2, .ref z2), (3, .ref z3), (4, .ref z4), (5, .int z5)] → (cells + b28 ≤ 1200144 ∧ slots + d28 ≤ 5496442) → W p l e room_1 s m args below meth c H locs cells slots (lw_Z below args s) (F0 m 28 ls [])) {H : Heap} {locs : List Loc} {ls : Array Slot} {cells slots : Nat} (hr : f_L_law_J2045 x zL zx r28 z1 z2 z3 z4 z5 h n = some (1 : Int32)) (hI : gI x base s.heap h n H locs) (hl : lv_has ls 10 [(0, .ref zb), (1, .ref z1), (2, .ref z2), (3, .ref z3), (4, .ref z4), (5, .int z5)]) (hcc : cells + (10 + b28) ≤ 1200144 ∧ slots + (68 + d28) ≤ 5496442) : W p l e room_1 s m args below meth c H locs cells slots (lw_Z below args s) (F0 m 2045 ls []) := by
  have hx := X.1
  have hb := X.2.1
  unfold f_L_law_J2045 at hr
  refine lv_aload_n hx hb dL_law_2045 rfl (lv_at hl 1 rfl) ?_
  refine lv_aload_n hx hb dL_law_2046 rfl (lv_at hl 0 rfl) ?_
  refine lv_iload hx hb dL_law_2047 (lv_at hl 5 rfl) ?_
  refine lv_iconst (v := 1) hx hb dL_law_2049 (by decide) ?_
  refine lv_iadd hx hb dL_law_2050 ?_
  refine g_sld X hI hsc hsb hbs hr dL_law_2051 (fun v614 hr => ?_)
  refine lv_aload_n hx hb dL_law_2052 rfl (lv_at hl 0 rfl) ?_
  refine lv_iload hx hb dL_law_2053 (lv_at hl 5 rfl) ?_
  refine lv_iconst (v := 2) hx hb dL_law_2055 (by decide) ?_
  refine lv_iadd hx hb dL_law_2056 ?_
  refine g_sld X hI hsc hsb hbs hr dL_law_2057 (fun v615 hr => ?_)
  refine lv_aload_n hx hb dL_law_2058 rfl (lv_at hl 3 rfl) ?_
  rcases gTX_i hr with ⟨v617, h619, n620, hc616, hr⟩ | ⟨q618, h621, n622, hc616, hr⟩
  · refine gXRet_i (g_wrunS X hI (w_X0_welfareByRobin hst hc616) hl (lw_SW q1399 q1400 q95 q1401) rfl rfl hd_X0_welfareByRobin ⟨Nat.le_of_ble_eq_true rfl, Nat.le_of_ble_eq_true rfl⟩ (as := [.ref z1, .int v614, .int v615, .ref z3]) (rest := []) rfl rfl (Nat.le_of_ble_eq_true rfl) ⟨(show cells + 10 ≤ 1200144 from by omega), (show slots + 68 ≤ 5496442 from by omega)⟩ dL_law_2059) (fun H locs hI => ?_)
    refine lv_istore (lv' := [(6, .int v617), (0, .ref zb), (1, .ref z1), (2, .ref z2), (3, .ref z3), (4, .ref z4), (5, .int z5)]) hx hb dL_law_2062 hl (by decide) rfl (fun ls hl => ?_)
    refine lv_aload_n hx hb dL_law_2064 rfl (lv_at hl 3 rfl) ?_
    refine lv_aload_n hx hb dL_law_2065 rfl (lv_at hl 1 rfl) ?_
    refine lv_iload hx hb dL_law_2066 (lv_at hl 6 rfl) ?_
    refine lv_iconst (v := 1) hx hb dL_law_2068 (by decide) ?_
    refine lv_iadd hx hb dL_law_2069 ?_
    refine g_sld X hI hsc hsb hbs hr dL_law_2070 (fun v623 hr => ?_)
    refine lv_aload_n hx hb dL_law_2071 rfl (lv_at hl 1 rfl) ?_
    refine lv_iload hx hb dL_law_2072 (lv_at hl 6 rfl) ?_
    refine lv_iconst (v := 2) hx hb dL_law_2074 (by decide) ?_
    refine lv_iadd hx hb dL_law_2075 ?_
    refine g_sld X hI hsc hsb hbs hr dL_law_2076 (fun v624 hr => ?_)
    obtain ⟨M625, hM626, hr⟩ := gB_i hr
    replace hI := hI.toM hM626
    obtain ⟨v628, aM_629, iT_630, hc627, hr⟩ := gT3_i hr
    refine gRun_i (g_runV X hI (w_X6_welfareByRobin hc627) (g_obj_s mH_0) rfl hl (lw_V q2084 q2085 q2086 q122 q2087) rfl rfl hd_X6_welfareByRobin ⟨Nat.le_of_ble_eq_true rfl, Nat.le_of_ble_eq_true rfl⟩ (as := [.int v623, .int v624]) (rest := []) rfl rfl (Nat.le_of_ble_eq_true rfl) ⟨(show (cells + 10) + 0 ≤ 1200144 from by omega), (show (slots + 68) + 0 ≤ 5496442 from by omega)⟩ dL_law_2077) (fun H locs hI => ?_)
    refine lv_istore (lv' := [(7, .int v628), (6, .int v617), (0, .ref zb), (1, .ref z1), (2, .ref z2), (3, .ref z3), (4, .ref z4), (5, .int z5)]) hx hb dL_law_2080 hl (by decide) rfl (fun ls hl => ?_)
    refine lv_aload_n hx hb dL_law_2082 rfl (lv_at hl 4 rfl) ?_
    obtain ⟨v632, hc631, hr⟩ := gB_i hr
    refine gRun_i (g_runV X hI (w_X6_thrown hc631) (g_obj_s mH_0) rfl hl (lw_V q1584 q1585 q1586 q122 q1587) rfl rfl hd_X6_thrown ⟨Nat.le_of_ble_eq_true rfl, Nat.le_of_ble_eq_true rfl⟩ (as := []) (rest := []) rfl rfl (Nat.le_of_ble_eq_true rfl) ⟨(show ((cells + 10) + 0) + 0 ≤ 1200144 from by omega), (show ((slots + 68) + 0) + 0 ≤ 5496442 from by omega)⟩ dL_law_2083) (fun H locs hI => ?_)
    refine lv_iload hx hb dL_law_2086 (lv_at hl 1 rfl) ?_
    refine lv_icmp_eq (tgt := 2093) hx hb dL_law_2088 (by decide) (fun c9 => ?_) (fun c9 => ?_)
    · replace hr := gIf_t c9 hr
      refine lv_iload hx hb dL_law_2093 (lv_at hl 1 rfl) ?_
      refine lv_if_ne (tgt := 2110) hx hb dL_law_2095 (by decide) (fun c9 => ?_) (fun c9 => ?_)
      · replace hr := gIf_f c9 hr
        refine lv_goto (tgt := 2884) hx hb dL_law_2110 (by decide) ?_
        exact w_L_law_J2884 X hst hsc hsb hbs Hr28 hr hI (lv_sub hl [2, 3, 4, 5, 6, 7] rfl) (by omega)
      · replace hr := gIf_t c9 hr
        refine lv_aload_n hx hb dL_law_2098 rfl (lv_at hl 5 rfl) ?_
        refine lv_iconst (v := 0) hx hb dL_law_2099 (by decide) ?_
        refine g_lald X hI hr dL_law_2100 (fun v633 hr => ?_)
        refine lv_iload hx hb dL_law_2101 (lv_at hl 0 rfl) ?_
        refine lv_i2l hx hb dL_law_2103 rfl ?_
        refine W.lcmp hx hb dL_law_2104 ?_
        refine lv_if_eq (tgt := 2110) hx hb dL_law_2105 (by decide) (fun c9 => ?_) (fun c9 => ?_)
        · replace hr := gIf_t c9 hr
          refine lv_goto (tgt := 2884) hx hb dL_law_2110 (by decide) ?_
          exact w_L_law_J2884 X hst hsc hsb hbs Hr28 hr hI (lv_sub hl [2, 3, 4, 5, 6, 7] rfl) (by omega)
        · replace hr := gIf_f c9 hr
          refine lv_iconst (v := 0) hx hb dL_law_2108 (by decide) ?_
          exact absurd hr (by decide)
    · replace hr := gIf_f c9 hr
      refine lv_iconst (v := 0) hx hb dL_law_2091 (by decide) ?_
      exact absurd hr (by decide)
  · exact nomatch hr
set_option maxHeartbeats 2000000 in
theorem w_L_law_J2113 {h : gH} {n : Nat} {r28 : Int32 → gH → Nat → Option Int32} {z1 : Nat} {z2 : Nat} {z3 : Nat} {z4 : Nat} {b28 : Nat} {d28 : Nat} {z5 : Int32} (X : gXX x base RX0 cL_law 10 (some .boolean) p l s m args meth c) (hst : l.stackTraces = false) (hsc : va_X zb zL zx s s.heap) (hsb : zb < s.heap.size) (hbs : base = s.heap.size) (Hr28 : ∀ {z5 : Int32} {h : gH} {n : Nat} {H : Heap} {locs : List Loc} {ls : Array Slot} {cells slots : Nat}, r28 z5 h n = some (1 : Int32) → gI x base s.heap h n H locs → lv_has ls 10 [(0, .ref zb), (1, .ref z1), (2, .ref z2), (3, .ref z3), (4, .ref z4), (5, .int z5)] → (cells + b28 ≤ 1200144 ∧ slots + d28 ≤ 5496442) → W p l e room_1 s m args below meth c H locs cells slots (lw_Z below args s) (F0 m 28 ls [])) {H : Heap} {locs : List Loc} {ls : Array Slot} {cells slots : Nat} (hr : f_L_law_J2113 x zL zx r28 z1 z2 z3 z4 z5 h n = some (1 : Int32)) (hI : gI x base s.heap h n H locs) (hl : lv_has ls 10 [(0, .ref zb), (1, .ref z1), (2, .ref z2), (3, .ref z3), (4, .ref z4), (5, .int z5)]) (hcc : cells + (40 + b28) ≤ 1200144 ∧ slots + (336 + d28) ≤ 5496442) : W p l e room_1 s m args below meth c H locs cells slots (lw_Z below args s) (F0 m 2113 ls []) := by
  have hx := X.1
  have hb := X.2.1
  unfold f_L_law_J2113 at hr
  refine lv_aload_n hx hb dL_law_2113 rfl (lv_at hl 1 rfl) ?_
  obtain ⟨_, ho634, hr⟩ := gB_i hr
  obtain ⟨v636, h637, n638, hc635, hr⟩ := gT3_i hr
  refine gRun_i (g_runV X hI (w_X1_bestFirst hst hc635) ho634 rfl hl (lw_V q964 q965 q966 q96 q967) rfl rfl hd_X1_bestFirst ⟨Nat.le_of_ble_eq_true rfl, Nat.le_of_ble_eq_true rfl⟩ (as := []) (rest := []) rfl rfl (Nat.le_of_ble_eq_true rfl) ⟨(show cells + 40 ≤ 1200144 from by omega), (show slots + 336 ≤ 5496442 from by omega)⟩ dL_law_2114) (fun H locs hI => ?_)
  refine lv_aload_n hx hb dL_law_2117 rfl (lv_at hl 2 rfl) ?_
  obtain ⟨M639, hM640, hr⟩ := gB_i hr
  replace hI := hI.toM hM640
  obtain ⟨v642, aM_643, iT_644, hc641, hr⟩ := gT3_i hr
  refine gRun_i (g_runV X hI (w_X6_bestFirst hc641) (g_obj_s mH_0) rfl hl (lw_V q2088 q2089 q2090 q122 q2091) rfl rfl hd_X6_bestFirst ⟨Nat.le_of_ble_eq_true rfl, Nat.le_of_ble_eq_true rfl⟩ (as := []) (rest := [.int v636]) rfl rfl (Nat.le_of_ble_eq_true rfl) ⟨(show (cells + 40) + 0 ≤ 1200144 from by omega), (show (slots + 336) + 0 ≤ 5496442 from by omega)⟩ dL_law_2118) (fun H locs hI => ?_)
  refine lv_icmp_eq (tgt := 2884) hx hb dL_law_2121 (by decide) (fun c9 => ?_) (fun c9 => ?_)
  · replace hr := gIf_t c9 hr
    exact w_L_law_J2884 X hst hsc hsb hbs Hr28 hr hI (lv_sub hl [0, 1, 2, 3, 4, 5] rfl) (by omega)
  · replace hr := gIf_f c9 hr
    refine lv_iconst (v := 0) hx hb dL_law_2124 (by decide) ?_
    exact absurd hr (by decide)
set_option maxHeartbeats 2000000 in
theorem w_L_law_J2126 {h : gH} {n : Nat} {r28 : Int32 → gH → Nat → Option Int32} {z1 : Nat} {z2 : Nat} {z3 : Nat} {z4 : Nat} {b28 : Nat} {d28 : Nat} {z5 : Int32} (X : gXX x base RX0 cL_law 10 (some .boolean) p l s m args meth c) (hst : l.stackTraces = false) (hsc : va_X zb zL zx s s.heap) (hsb : zb < s.heap.size) (hbs : base = s.heap.size) (Hr28 : ∀ {z5 : Int32} {h : gH} {n : Nat} {H : Heap} {locs : List Loc} {ls : Array Slot} {cells slots : Nat}, r28 z5 h n = some (1 : Int32) → gI x base s.heap h n H locs → lv_has ls 10 [(0, .ref zb), (1, .ref z1), (2, .ref z2), (3, .ref z3), (4, .ref z4), (5, .int z5)] → (cells + b28 ≤ 1200144 ∧ slots + d28 ≤ 5496442) → W p l e room_1 s m args below meth c H locs cells slots (lw_Z below args s) (F0 m 28 ls [])) {H : Heap} {locs : List Loc} {ls : Array Slot} {cells slots : Nat} (hr : f_L_law_J2126 x zL zx r28 z1 z2 z3 z4 z5 h n = some (1 : Int32)) (hI : gI x base s.heap h n H locs) (hl : lv_has ls 10 [(0, .ref zb), (1, .ref z1), (2, .ref z2), (3, .ref z3), (4, .ref z4), (5, .int z5)]) (hcc : cells + (11 + b28) ≤ 1200144 ∧ slots + (73 + d28) ≤ 5496442) : W p l e room_1 s m args below meth c H locs cells slots (lw_Z below args s) (F0 m 2126 ls []) := by
  have hx := X.1
  have hb := X.2.1
  unfold f_L_law_J2126 at hr
  refine lv_aload_n hx hb dL_law_2126 rfl (lv_at hl 1 rfl) ?_
  refine lv_aload_n hx hb dL_law_2127 rfl (lv_at hl 0 rfl) ?_
  refine lv_iload hx hb dL_law_2128 (lv_at hl 5 rfl) ?_
  refine lv_iconst (v := 1) hx hb dL_law_2130 (by decide) ?_
  refine lv_iadd hx hb dL_law_2131 ?_
  refine g_sld X hI hsc hsb hbs hr dL_law_2132 (fun v645 hr => ?_)
  refine lv_aload_n hx hb dL_law_2133 rfl (lv_at hl 0 rfl) ?_
  refine lv_iload hx hb dL_law_2134 (lv_at hl 5 rfl) ?_
  refine lv_iconst (v := 2) hx hb dL_law_2136 (by decide) ?_
  refine lv_iadd hx hb dL_law_2137 ?_
  refine g_sld X hI hsc hsb hbs hr dL_law_2138 (fun v646 hr => ?_)
  refine lv_aload_n hx hb dL_law_2139 rfl (lv_at hl 0 rfl) ?_
  refine lv_iload hx hb dL_law_2140 (lv_at hl 5 rfl) ?_
  refine lv_iconst (v := 3) hx hb dL_law_2142 (by decide) ?_
  refine lv_iadd hx hb dL_law_2143 ?_
  refine g_sld X hI hsc hsb hbs hr dL_law_2144 (fun v647 hr => ?_)
  refine lv_aload_n hx hb dL_law_2145 rfl (lv_at hl 3 rfl) ?_
  rcases gTX_i hr with ⟨v649, h651, n652, hc648, hr⟩ | ⟨q650, h653, n654, hc648, hr⟩
  · refine gXRet_i (g_wrunS X hI (w_X0_give hst hc648) hl (lw_SW q1406 q1407 q95 q1408) rfl rfl hd_X0_give ⟨Nat.le_of_ble_eq_true rfl, Nat.le_of_ble_eq_true rfl⟩ (as := [.ref z1, .int v645, .int v646, .int v647, .ref z3]) (rest := []) rfl rfl (Nat.le_of_ble_eq_true rfl) ⟨(show cells + 11 ≤ 1200144 from by omega), (show slots + 73 ≤ 5496442 from by omega)⟩ dL_law_2146) (fun H locs hI => ?_)
    refine lv_istore (lv' := [(6, .int v649), (0, .ref zb), (1, .ref z1), (2, .ref z2), (3, .ref z3), (4, .ref z4), (5, .int z5)]) hx hb dL_law_2149 hl (by decide) rfl (fun ls hl => ?_)
    refine lv_aload_n hx hb dL_law_2151 rfl (lv_at hl 3 rfl) ?_
    refine lv_aload_n hx hb dL_law_2152 rfl (lv_at hl 1 rfl) ?_
    refine lv_iload hx hb dL_law_2153 (lv_at hl 6 rfl) ?_
    refine lv_iconst (v := 1) hx hb dL_law_2155 (by decide) ?_
    refine lv_iadd hx hb dL_law_2156 ?_
    refine g_sld X hI hsc hsb hbs hr dL_law_2157 (fun v655 hr => ?_)
    refine lv_aload_n hx hb dL_law_2158 rfl (lv_at hl 1 rfl) ?_
    refine lv_iload hx hb dL_law_2159 (lv_at hl 6 rfl) ?_
    refine lv_iconst (v := 2) hx hb dL_law_2161 (by decide) ?_
    refine lv_iadd hx hb dL_law_2162 ?_
    refine g_sld X hI hsc hsb hbs hr dL_law_2163 (fun v656 hr => ?_)
    refine lv_aload_n hx hb dL_law_2164 rfl (lv_at hl 1 rfl) ?_
    refine lv_iload hx hb dL_law_2165 (lv_at hl 6 rfl) ?_
    refine lv_iconst (v := 3) hx hb dL_law_2167 (by decide) ?_
    refine lv_iadd hx hb dL_law_2168 ?_
    refine g_sld X hI hsc hsb hbs hr dL_law_2169 (fun v657 hr => ?_)
    obtain ⟨M658, hM659, hr⟩ := gB_i hr
    replace hI := hI.toM hM659
    obtain ⟨v661, aM_662, iU_663, iT_664, hc660, hr⟩ := gT4_i hr
    refine gRun_i (g_runV X hI (w_X6_give hc660) (g_obj_s mH_0) rfl hl (lw_V q2092 q2093 q2094 q122 q2095) rfl rfl hd_X6_give ⟨Nat.le_of_ble_eq_true rfl, Nat.le_of_ble_eq_true rfl⟩ (as := [.int v655, .int v656, .int v657]) (rest := []) rfl rfl (Nat.le_of_ble_eq_true rfl) ⟨(show (cells + 11) + 0 ≤ 1200144 from by omega), (show (slots + 73) + 0 ≤ 5496442 from by omega)⟩ dL_law_2170) (fun H locs hI => ?_)
    refine lv_istore (lv' := [(7, .int v661), (6, .int v649), (0, .ref zb), (1, .ref z1), (2, .ref z2), (3, .ref z3), (4, .ref z4), (5, .int z5)]) hx hb dL_law_2173 hl (by decide) rfl (fun ls hl => ?_)
    refine lv_aload_n hx hb dL_law_2175 rfl (lv_at hl 4 rfl) ?_
    obtain ⟨v666, hc665, hr⟩ := gB_i hr
    refine gRun_i (g_runV X hI (w_X6_thrown hc665) (g_obj_s mH_0) rfl hl (lw_V q1584 q1585 q1586 q122 q1587) rfl rfl hd_X6_thrown ⟨Nat.le_of_ble_eq_true rfl, Nat.le_of_ble_eq_true rfl⟩ (as := []) (rest := []) rfl rfl (Nat.le_of_ble_eq_true rfl) ⟨(show ((cells + 11) + 0) + 0 ≤ 1200144 from by omega), (show ((slots + 73) + 0) + 0 ≤ 5496442 from by omega)⟩ dL_law_2176) (fun H locs hI => ?_)
    refine lv_iload hx hb dL_law_2179 (lv_at hl 1 rfl) ?_
    refine lv_icmp_eq (tgt := 2186) hx hb dL_law_2181 (by decide) (fun c9 => ?_) (fun c9 => ?_)
    · replace hr := gIf_t c9 hr
      refine lv_iload hx hb dL_law_2186 (lv_at hl 1 rfl) ?_
      refine lv_if_ne (tgt := 2203) hx hb dL_law_2188 (by decide) (fun c9 => ?_) (fun c9 => ?_)
      · replace hr := gIf_f c9 hr
        refine lv_goto (tgt := 2884) hx hb dL_law_2203 (by decide) ?_
        exact w_L_law_J2884 X hst hsc hsb hbs Hr28 hr hI (lv_sub hl [2, 3, 4, 5, 6, 7] rfl) (by omega)
      · replace hr := gIf_t c9 hr
        refine lv_aload_n hx hb dL_law_2191 rfl (lv_at hl 5 rfl) ?_
        refine lv_iconst (v := 0) hx hb dL_law_2192 (by decide) ?_
        refine g_lald X hI hr dL_law_2193 (fun v667 hr => ?_)
        refine lv_iload hx hb dL_law_2194 (lv_at hl 0 rfl) ?_
        refine lv_i2l hx hb dL_law_2196 rfl ?_
        refine W.lcmp hx hb dL_law_2197 ?_
        refine lv_if_eq (tgt := 2203) hx hb dL_law_2198 (by decide) (fun c9 => ?_) (fun c9 => ?_)
        · replace hr := gIf_t c9 hr
          refine lv_goto (tgt := 2884) hx hb dL_law_2203 (by decide) ?_
          exact w_L_law_J2884 X hst hsc hsb hbs Hr28 hr hI (lv_sub hl [2, 3, 4, 5, 6, 7] rfl) (by omega)
        · replace hr := gIf_f c9 hr
          refine lv_iconst (v := 0) hx hb dL_law_2201 (by decide) ?_
          exact absurd hr (by decide)
    · replace hr := gIf_f c9 hr
      refine lv_iconst (v := 0) hx hb dL_law_2184 (by decide) ?_
      exact absurd hr (by decide)
  · exact nomatch hr
set_option maxHeartbeats 2000000 in
theorem w_L_law_J2206 {h : gH} {n : Nat} {r28 : Int32 → gH → Nat → Option Int32} {z1 : Nat} {z2 : Nat} {z3 : Nat} {z4 : Nat} {b28 : Nat} {d28 : Nat} {z5 : Int32} (X : gXX x base RX0 cL_law 10 (some .boolean) p l s m args meth c) (hst : l.stackTraces = false) (hsc : va_X zb zL zx s s.heap) (hsb : zb < s.heap.size) (hbs : base = s.heap.size) (Hr28 : ∀ {z5 : Int32} {h : gH} {n : Nat} {H : Heap} {locs : List Loc} {ls : Array Slot} {cells slots : Nat}, r28 z5 h n = some (1 : Int32) → gI x base s.heap h n H locs → lv_has ls 10 [(0, .ref zb), (1, .ref z1), (2, .ref z2), (3, .ref z3), (4, .ref z4), (5, .int z5)] → (cells + b28 ≤ 1200144 ∧ slots + d28 ≤ 5496442) → W p l e room_1 s m args below meth c H locs cells slots (lw_Z below args s) (F0 m 28 ls [])) {H : Heap} {locs : List Loc} {ls : Array Slot} {cells slots : Nat} (hr : f_L_law_J2206 x zL zx r28 z1 z2 z3 z4 z5 h n = some (1 : Int32)) (hI : gI x base s.heap h n H locs) (hl : lv_has ls 10 [(0, .ref zb), (1, .ref z1), (2, .ref z2), (3, .ref z3), (4, .ref z4), (5, .int z5)]) (hcc : cells + (6 + b28) ≤ 1200144 ∧ slots + (48 + d28) ≤ 5496442) : W p l e room_1 s m args below meth c H locs cells slots (lw_Z below args s) (F0 m 2206 ls []) := by
  have hx := X.1
  have hb := X.2.1
  unfold f_L_law_J2206 at hr
  refine lv_aload_n hx hb dL_law_2206 rfl (lv_at hl 1 rfl) ?_
  refine lv_aload_n hx hb dL_law_2207 rfl (lv_at hl 0 rfl) ?_
  refine lv_iload hx hb dL_law_2208 (lv_at hl 5 rfl) ?_
  refine lv_iconst (v := 1) hx hb dL_law_2210 (by decide) ?_
  refine lv_iadd hx hb dL_law_2211 ?_
  refine g_sld X hI hsc hsb hbs hr dL_law_2212 (fun v668 hr => ?_)
  refine lv_aload_n hx hb dL_law_2213 rfl (lv_at hl 0 rfl) ?_
  refine lv_iload hx hb dL_law_2214 (lv_at hl 5 rfl) ?_
  refine lv_iconst (v := 2) hx hb dL_law_2216 (by decide) ?_
  refine lv_iadd hx hb dL_law_2217 ?_
  refine g_sld X hI hsc hsb hbs hr dL_law_2218 (fun v669 hr => ?_)
  refine lv_aload_n hx hb dL_law_2219 rfl (lv_at hl 3 rfl) ?_
  rcases gTX_i hr with ⟨v671, h673, n674, hc670, hr⟩ | ⟨q672, h675, n676, hc670, hr⟩
  · refine gXRet_i (g_wrunS X hI (w_X0_release hst hc670) hl (lw_SW q1418 q1419 q95 q1420) rfl rfl hd_X0_release ⟨Nat.le_of_ble_eq_true rfl, Nat.le_of_ble_eq_true rfl⟩ (as := [.ref z1, .int v668, .int v669, .ref z3]) (rest := []) rfl rfl (Nat.le_of_ble_eq_true rfl) ⟨(show cells + 6 ≤ 1200144 from by omega), (show slots + 48 ≤ 5496442 from by omega)⟩ dL_law_2220) (fun H locs hI => ?_)
    refine lv_istore (lv' := [(6, .int v671), (0, .ref zb), (1, .ref z1), (2, .ref z2), (3, .ref z3), (4, .ref z4), (5, .int z5)]) hx hb dL_law_2223 hl (by decide) rfl (fun ls hl => ?_)
    refine lv_aload_n hx hb dL_law_2225 rfl (lv_at hl 3 rfl) ?_
    refine lv_aload_n hx hb dL_law_2226 rfl (lv_at hl 1 rfl) ?_
    refine lv_iload hx hb dL_law_2227 (lv_at hl 6 rfl) ?_
    refine lv_iconst (v := 1) hx hb dL_law_2229 (by decide) ?_
    refine lv_iadd hx hb dL_law_2230 ?_
    refine g_sld X hI hsc hsb hbs hr dL_law_2231 (fun v677 hr => ?_)
    refine lv_aload_n hx hb dL_law_2232 rfl (lv_at hl 1 rfl) ?_
    refine lv_iload hx hb dL_law_2233 (lv_at hl 6 rfl) ?_
    refine lv_iconst (v := 2) hx hb dL_law_2235 (by decide) ?_
    refine lv_iadd hx hb dL_law_2236 ?_
    refine g_sld X hI hsc hsb hbs hr dL_law_2237 (fun v678 hr => ?_)
    obtain ⟨M679, hM680, hr⟩ := gB_i hr
    replace hI := hI.toM hM680
    obtain ⟨v682, aM_683, iU_684, iT_685, hc681, hr⟩ := gT4_i hr
    refine gRun_i (g_runV X hI (w_X6_release hc681) (g_obj_s mH_0) rfl hl (lw_V q2096 q2097 q2098 q122 q2099) rfl rfl hd_X6_release ⟨Nat.le_of_ble_eq_true rfl, Nat.le_of_ble_eq_true rfl⟩ (as := [.int v677, .int v678]) (rest := []) rfl rfl (Nat.le_of_ble_eq_true rfl) ⟨(show (cells + 6) + 0 ≤ 1200144 from by omega), (show (slots + 48) + 0 ≤ 5496442 from by omega)⟩ dL_law_2238) (fun H locs hI => ?_)
    refine lv_istore (lv' := [(7, .int v682), (6, .int v671), (0, .ref zb), (1, .ref z1), (2, .ref z2), (3, .ref z3), (4, .ref z4), (5, .int z5)]) hx hb dL_law_2241 hl (by decide) rfl (fun ls hl => ?_)
    refine lv_aload_n hx hb dL_law_2243 rfl (lv_at hl 4 rfl) ?_
    obtain ⟨v687, hc686, hr⟩ := gB_i hr
    refine gRun_i (g_runV X hI (w_X6_thrown hc686) (g_obj_s mH_0) rfl hl (lw_V q1584 q1585 q1586 q122 q1587) rfl rfl hd_X6_thrown ⟨Nat.le_of_ble_eq_true rfl, Nat.le_of_ble_eq_true rfl⟩ (as := []) (rest := []) rfl rfl (Nat.le_of_ble_eq_true rfl) ⟨(show ((cells + 6) + 0) + 0 ≤ 1200144 from by omega), (show ((slots + 48) + 0) + 0 ≤ 5496442 from by omega)⟩ dL_law_2244) (fun H locs hI => ?_)
    refine lv_iload hx hb dL_law_2247 (lv_at hl 1 rfl) ?_
    refine lv_icmp_eq (tgt := 2254) hx hb dL_law_2249 (by decide) (fun c9 => ?_) (fun c9 => ?_)
    · replace hr := gIf_t c9 hr
      refine lv_iload hx hb dL_law_2254 (lv_at hl 1 rfl) ?_
      refine lv_if_ne (tgt := 2271) hx hb dL_law_2256 (by decide) (fun c9 => ?_) (fun c9 => ?_)
      · replace hr := gIf_f c9 hr
        refine lv_goto (tgt := 2884) hx hb dL_law_2271 (by decide) ?_
        exact w_L_law_J2884 X hst hsc hsb hbs Hr28 hr hI (lv_sub hl [2, 3, 4, 5, 6, 7] rfl) (by omega)
      · replace hr := gIf_t c9 hr
        refine lv_aload_n hx hb dL_law_2259 rfl (lv_at hl 5 rfl) ?_
        refine lv_iconst (v := 0) hx hb dL_law_2260 (by decide) ?_
        refine g_lald X hI hr dL_law_2261 (fun v688 hr => ?_)
        refine lv_iload hx hb dL_law_2262 (lv_at hl 0 rfl) ?_
        refine lv_i2l hx hb dL_law_2264 rfl ?_
        refine W.lcmp hx hb dL_law_2265 ?_
        refine lv_if_eq (tgt := 2271) hx hb dL_law_2266 (by decide) (fun c9 => ?_) (fun c9 => ?_)
        · replace hr := gIf_t c9 hr
          refine lv_goto (tgt := 2884) hx hb dL_law_2271 (by decide) ?_
          exact w_L_law_J2884 X hst hsc hsb hbs Hr28 hr hI (lv_sub hl [2, 3, 4, 5, 6, 7] rfl) (by omega)
        · replace hr := gIf_f c9 hr
          refine lv_iconst (v := 0) hx hb dL_law_2269 (by decide) ?_
          exact absurd hr (by decide)
    · replace hr := gIf_f c9 hr
      refine lv_iconst (v := 0) hx hb dL_law_2252 (by decide) ?_
      exact absurd hr (by decide)
  · exact nomatch hr
set_option maxHeartbeats 2000000 in
theorem w_L_law_J2274 {h : gH} {n : Nat} {r28 : Int32 → gH → Nat → Option Int32} {z1 : Nat} {z2 : Nat} {z3 : Nat} {z4 : Nat} {b28 : Nat} {d28 : Nat} {z5 : Int32} (X : gXX x base RX0 cL_law 10 (some .boolean) p l s m args meth c) (hst : l.stackTraces = false) (hsc : va_X zb zL zx s s.heap) (hsb : zb < s.heap.size) (hbs : base = s.heap.size) (Hr28 : ∀ {z5 : Int32} {h : gH} {n : Nat} {H : Heap} {locs : List Loc} {ls : Array Slot} {cells slots : Nat}, r28 z5 h n = some (1 : Int32) → gI x base s.heap h n H locs → lv_has ls 10 [(0, .ref zb), (1, .ref z1), (2, .ref z2), (3, .ref z3), (4, .ref z4), (5, .int z5)] → (cells + b28 ≤ 1200144 ∧ slots + d28 ≤ 5496442) → W p l e room_1 s m args below meth c H locs cells slots (lw_Z below args s) (F0 m 28 ls [])) {H : Heap} {locs : List Loc} {ls : Array Slot} {cells slots : Nat} (hr : f_L_law_J2274 x zL zx r28 z1 z2 z3 z4 z5 h n = some (1 : Int32)) (hI : gI x base s.heap h n H locs) (hl : lv_has ls 10 [(0, .ref zb), (1, .ref z1), (2, .ref z2), (3, .ref z3), (4, .ref z4), (5, .int z5)]) (hcc : cells + (11 + b28) ≤ 1200144 ∧ slots + (74 + d28) ≤ 5496442) : W p l e room_1 s m args below meth c H locs cells slots (lw_Z below args s) (F0 m 2274 ls []) := by
  have hx := X.1
  have hb := X.2.1
  unfold f_L_law_J2274 at hr
  refine lv_aload_n hx hb dL_law_2274 rfl (lv_at hl 1 rfl) ?_
  refine lv_aload_n hx hb dL_law_2275 rfl (lv_at hl 0 rfl) ?_
  refine lv_iload hx hb dL_law_2276 (lv_at hl 5 rfl) ?_
  refine lv_iconst (v := 1) hx hb dL_law_2278 (by decide) ?_
  refine lv_iadd hx hb dL_law_2279 ?_
  refine g_sld X hI hsc hsb hbs hr dL_law_2280 (fun v689 hr => ?_)
  refine lv_aload_n hx hb dL_law_2281 rfl (lv_at hl 0 rfl) ?_
  refine lv_iload hx hb dL_law_2282 (lv_at hl 5 rfl) ?_
  refine lv_iconst (v := 2) hx hb dL_law_2284 (by decide) ?_
  refine lv_iadd hx hb dL_law_2285 ?_
  refine g_sld X hI hsc hsb hbs hr dL_law_2286 (fun v690 hr => ?_)
  refine lv_aload_n hx hb dL_law_2287 rfl (lv_at hl 3 rfl) ?_
  rcases gTX_i hr with ⟨v692, h694, n695, hc691, hr⟩ | ⟨q693, h696, n697, hc691, hr⟩
  · refine gXRet_i (g_wrunS X hI (w_X0_swapShares hst hc691) hl (lw_SW q1430 q1431 q95 q1432) rfl rfl hd_X0_swapShares ⟨Nat.le_of_ble_eq_true rfl, Nat.le_of_ble_eq_true rfl⟩ (as := [.ref z1, .int v689, .int v690, .ref z3]) (rest := []) rfl rfl (Nat.le_of_ble_eq_true rfl) ⟨(show cells + 11 ≤ 1200144 from by omega), (show slots + 74 ≤ 5496442 from by omega)⟩ dL_law_2288) (fun H locs hI => ?_)
    refine lv_istore (lv' := [(6, .int v692), (0, .ref zb), (1, .ref z1), (2, .ref z2), (3, .ref z3), (4, .ref z4), (5, .int z5)]) hx hb dL_law_2291 hl (by decide) rfl (fun ls hl => ?_)
    refine lv_aload_n hx hb dL_law_2293 rfl (lv_at hl 3 rfl) ?_
    refine lv_aload_n hx hb dL_law_2294 rfl (lv_at hl 1 rfl) ?_
    refine lv_iload hx hb dL_law_2295 (lv_at hl 6 rfl) ?_
    refine lv_iconst (v := 1) hx hb dL_law_2297 (by decide) ?_
    refine lv_iadd hx hb dL_law_2298 ?_
    refine g_sld X hI hsc hsb hbs hr dL_law_2299 (fun v698 hr => ?_)
    refine lv_aload_n hx hb dL_law_2300 rfl (lv_at hl 1 rfl) ?_
    refine lv_iload hx hb dL_law_2301 (lv_at hl 6 rfl) ?_
    refine lv_iconst (v := 2) hx hb dL_law_2303 (by decide) ?_
    refine lv_iadd hx hb dL_law_2304 ?_
    refine g_sld X hI hsc hsb hbs hr dL_law_2305 (fun v699 hr => ?_)
    obtain ⟨M700, hM701, hr⟩ := gB_i hr
    replace hI := hI.toM hM701
    obtain ⟨v703, aM_704, iU_705, iT_706, hc702, hr⟩ := gT4_i hr
    refine gRun_i (g_runV X hI (w_X6_swapShares hc702) (g_obj_s mH_0) rfl hl (lw_V q2100 q2101 q2102 q122 q2103) rfl rfl hd_X6_swapShares ⟨Nat.le_of_ble_eq_true rfl, Nat.le_of_ble_eq_true rfl⟩ (as := [.int v698, .int v699]) (rest := []) rfl rfl (Nat.le_of_ble_eq_true rfl) ⟨(show (cells + 11) + 0 ≤ 1200144 from by omega), (show (slots + 74) + 0 ≤ 5496442 from by omega)⟩ dL_law_2306) (fun H locs hI => ?_)
    refine lv_istore (lv' := [(7, .int v703), (6, .int v692), (0, .ref zb), (1, .ref z1), (2, .ref z2), (3, .ref z3), (4, .ref z4), (5, .int z5)]) hx hb dL_law_2309 hl (by decide) rfl (fun ls hl => ?_)
    refine lv_aload_n hx hb dL_law_2311 rfl (lv_at hl 4 rfl) ?_
    obtain ⟨v708, hc707, hr⟩ := gB_i hr
    refine gRun_i (g_runV X hI (w_X6_thrown hc707) (g_obj_s mH_0) rfl hl (lw_V q1584 q1585 q1586 q122 q1587) rfl rfl hd_X6_thrown ⟨Nat.le_of_ble_eq_true rfl, Nat.le_of_ble_eq_true rfl⟩ (as := []) (rest := []) rfl rfl (Nat.le_of_ble_eq_true rfl) ⟨(show ((cells + 11) + 0) + 0 ≤ 1200144 from by omega), (show ((slots + 74) + 0) + 0 ≤ 5496442 from by omega)⟩ dL_law_2312) (fun H locs hI => ?_)
    refine lv_iload hx hb dL_law_2315 (lv_at hl 1 rfl) ?_
    refine lv_icmp_eq (tgt := 2322) hx hb dL_law_2317 (by decide) (fun c9 => ?_) (fun c9 => ?_)
    · replace hr := gIf_t c9 hr
      refine lv_iload hx hb dL_law_2322 (lv_at hl 1 rfl) ?_
      refine lv_if_ne (tgt := 2339) hx hb dL_law_2324 (by decide) (fun c9 => ?_) (fun c9 => ?_)
      · replace hr := gIf_f c9 hr
        refine lv_goto (tgt := 2884) hx hb dL_law_2339 (by decide) ?_
        exact w_L_law_J2884 X hst hsc hsb hbs Hr28 hr hI (lv_sub hl [2, 3, 4, 5, 6, 7] rfl) (by omega)
      · replace hr := gIf_t c9 hr
        refine lv_aload_n hx hb dL_law_2327 rfl (lv_at hl 5 rfl) ?_
        refine lv_iconst (v := 0) hx hb dL_law_2328 (by decide) ?_
        refine g_lald X hI hr dL_law_2329 (fun v709 hr => ?_)
        refine lv_iload hx hb dL_law_2330 (lv_at hl 0 rfl) ?_
        refine lv_i2l hx hb dL_law_2332 rfl ?_
        refine W.lcmp hx hb dL_law_2333 ?_
        refine lv_if_eq (tgt := 2339) hx hb dL_law_2334 (by decide) (fun c9 => ?_) (fun c9 => ?_)
        · replace hr := gIf_t c9 hr
          refine lv_goto (tgt := 2884) hx hb dL_law_2339 (by decide) ?_
          exact w_L_law_J2884 X hst hsc hsb hbs Hr28 hr hI (lv_sub hl [2, 3, 4, 5, 6, 7] rfl) (by omega)
        · replace hr := gIf_f c9 hr
          refine lv_iconst (v := 0) hx hb dL_law_2337 (by decide) ?_
          exact absurd hr (by decide)
    · replace hr := gIf_f c9 hr
      refine lv_iconst (v := 0) hx hb dL_law_2320 (by decide) ?_
      exact absurd hr (by decide)
  · exact nomatch hr
set_option maxHeartbeats 2000000 in
theorem w_L_law_J2342 {h : gH} {n : Nat} {r28 : Int32 → gH → Nat → Option Int32} {z1 : Nat} {z2 : Nat} {z3 : Nat} {z4 : Nat} {b28 : Nat} {d28 : Nat} {z5 : Int32} (X : gXX x base RX0 cL_law 10 (some .boolean) p l s m args meth c) (hst : l.stackTraces = false) (hsc : va_X zb zL zx s s.heap) (hsb : zb < s.heap.size) (hbs : base = s.heap.size) (Hr28 : ∀ {z5 : Int32} {h : gH} {n : Nat} {H : Heap} {locs : List Loc} {ls : Array Slot} {cells slots : Nat}, r28 z5 h n = some (1 : Int32) → gI x base s.heap h n H locs → lv_has ls 10 [(0, .ref zb), (1, .ref z1), (2, .ref z2), (3, .ref z3), (4, .ref z4), (5, .int z5)] → (cells + b28 ≤ 1200144 ∧ slots + d28 ≤ 5496442) → W p l e room_1 s m args below meth c H locs cells slots (lw_Z below args s) (F0 m 28 ls [])) {H : Heap} {locs : List Loc} {ls : Array Slot} {cells slots : Nat} (hr : f_L_law_J2342 x zL zx r28 z1 z2 z3 z4 z5 h n = some (1 : Int32)) (hI : gI x base s.heap h n H locs) (hl : lv_has ls 10 [(0, .ref zb), (1, .ref z1), (2, .ref z2), (3, .ref z3), (4, .ref z4), (5, .int z5)]) (hcc : cells + (14 + b28) ≤ 1200144 ∧ slots + (105 + d28) ≤ 5496442) : W p l e room_1 s m args below meth c H locs cells slots (lw_Z below args s) (F0 m 2342 ls []) := by
  have hx := X.1
  have hb := X.2.1
  unfold f_L_law_J2342 at hr
  refine lv_aload_n hx hb dL_law_2342 rfl (lv_at hl 1 rfl) ?_
  refine lv_aload_n hx hb dL_law_2343 rfl (lv_at hl 0 rfl) ?_
  refine lv_iload hx hb dL_law_2344 (lv_at hl 5 rfl) ?_
  refine lv_iconst (v := 1) hx hb dL_law_2346 (by decide) ?_
  refine lv_iadd hx hb dL_law_2347 ?_
  refine g_sld X hI hsc hsb hbs hr dL_law_2348 (fun v710 hr => ?_)
  refine lv_aload_n hx hb dL_law_2349 rfl (lv_at hl 0 rfl) ?_
  refine lv_iload hx hb dL_law_2350 (lv_at hl 5 rfl) ?_
  refine lv_iconst (v := 2) hx hb dL_law_2352 (by decide) ?_
  refine lv_iadd hx hb dL_law_2353 ?_
  refine g_sld X hI hsc hsb hbs hr dL_law_2354 (fun v711 hr => ?_)
  refine lv_aload_n hx hb dL_law_2355 rfl (lv_at hl 0 rfl) ?_
  refine lv_iload hx hb dL_law_2356 (lv_at hl 5 rfl) ?_
  refine lv_iconst (v := 3) hx hb dL_law_2358 (by decide) ?_
  refine lv_iadd hx hb dL_law_2359 ?_
  refine g_sld X hI hsc hsb hbs hr dL_law_2360 (fun v712 hr => ?_)
  refine lv_aload_n hx hb dL_law_2361 rfl (lv_at hl 3 rfl) ?_
  rcases gTX_i hr with ⟨v714, h716, n717, hc713, hr⟩ | ⟨q715, h718, n719, hc713, hr⟩
  · refine gXRet_i (g_wrunS X hI (w_X0_setValue hst hc713) hl (lw_SW q1441 q1442 q95 q1443) rfl rfl hd_X0_setValue ⟨Nat.le_of_ble_eq_true rfl, Nat.le_of_ble_eq_true rfl⟩ (as := [.ref z1, .int v710, .int v711, .int v712, .ref z3]) (rest := []) rfl rfl (Nat.le_of_ble_eq_true rfl) ⟨(show cells + 14 ≤ 1200144 from by omega), (show slots + 105 ≤ 5496442 from by omega)⟩ dL_law_2362) (fun H locs hI => ?_)
    refine lv_istore (lv' := [(6, .int v714), (0, .ref zb), (1, .ref z1), (2, .ref z2), (3, .ref z3), (4, .ref z4), (5, .int z5)]) hx hb dL_law_2365 hl (by decide) rfl (fun ls hl => ?_)
    refine lv_aload_n hx hb dL_law_2367 rfl (lv_at hl 3 rfl) ?_
    refine lv_aload_n hx hb dL_law_2368 rfl (lv_at hl 1 rfl) ?_
    refine lv_iload hx hb dL_law_2369 (lv_at hl 6 rfl) ?_
    refine lv_iconst (v := 1) hx hb dL_law_2371 (by decide) ?_
    refine lv_iadd hx hb dL_law_2372 ?_
    refine g_sld X hI hsc hsb hbs hr dL_law_2373 (fun v720 hr => ?_)
    refine lv_aload_n hx hb dL_law_2374 rfl (lv_at hl 1 rfl) ?_
    refine lv_iload hx hb dL_law_2375 (lv_at hl 6 rfl) ?_
    refine lv_iconst (v := 2) hx hb dL_law_2377 (by decide) ?_
    refine lv_iadd hx hb dL_law_2378 ?_
    refine g_sld X hI hsc hsb hbs hr dL_law_2379 (fun v721 hr => ?_)
    refine lv_aload_n hx hb dL_law_2380 rfl (lv_at hl 1 rfl) ?_
    refine lv_iload hx hb dL_law_2381 (lv_at hl 6 rfl) ?_
    refine lv_iconst (v := 3) hx hb dL_law_2383 (by decide) ?_
    refine lv_iadd hx hb dL_law_2384 ?_
    refine g_sld X hI hsc hsb hbs hr dL_law_2385 (fun v722 hr => ?_)
    obtain ⟨M723, hM724, hr⟩ := gB_i hr
    replace hI := hI.toM hM724
    obtain ⟨v726, aM_727, iU_728, iT_729, hc725, hr⟩ := gT4_i hr
    refine gRun_i (g_runV X hI (w_X6_setValue hc725) (g_obj_s mH_0) rfl hl (lw_V q2104 q2105 q2106 q122 q2107) rfl rfl hd_X6_setValue ⟨Nat.le_of_ble_eq_true rfl, Nat.le_of_ble_eq_true rfl⟩ (as := [.int v720, .int v721, .int v722]) (rest := []) rfl rfl (Nat.le_of_ble_eq_true rfl) ⟨(show (cells + 14) + 0 ≤ 1200144 from by omega), (show (slots + 105) + 0 ≤ 5496442 from by omega)⟩ dL_law_2386) (fun H locs hI => ?_)
    refine lv_istore (lv' := [(7, .int v726), (6, .int v714), (0, .ref zb), (1, .ref z1), (2, .ref z2), (3, .ref z3), (4, .ref z4), (5, .int z5)]) hx hb dL_law_2389 hl (by decide) rfl (fun ls hl => ?_)
    refine lv_aload_n hx hb dL_law_2391 rfl (lv_at hl 4 rfl) ?_
    obtain ⟨v731, hc730, hr⟩ := gB_i hr
    refine gRun_i (g_runV X hI (w_X6_thrown hc730) (g_obj_s mH_0) rfl hl (lw_V q1584 q1585 q1586 q122 q1587) rfl rfl hd_X6_thrown ⟨Nat.le_of_ble_eq_true rfl, Nat.le_of_ble_eq_true rfl⟩ (as := []) (rest := []) rfl rfl (Nat.le_of_ble_eq_true rfl) ⟨(show ((cells + 14) + 0) + 0 ≤ 1200144 from by omega), (show ((slots + 105) + 0) + 0 ≤ 5496442 from by omega)⟩ dL_law_2392) (fun H locs hI => ?_)
    refine lv_iload hx hb dL_law_2395 (lv_at hl 1 rfl) ?_
    refine lv_icmp_eq (tgt := 2402) hx hb dL_law_2397 (by decide) (fun c9 => ?_) (fun c9 => ?_)
    · replace hr := gIf_t c9 hr
      refine lv_iload hx hb dL_law_2402 (lv_at hl 1 rfl) ?_
      refine lv_if_ne (tgt := 2419) hx hb dL_law_2404 (by decide) (fun c9 => ?_) (fun c9 => ?_)
      · replace hr := gIf_f c9 hr
        refine lv_goto (tgt := 2884) hx hb dL_law_2419 (by decide) ?_
        exact w_L_law_J2884 X hst hsc hsb hbs Hr28 hr hI (lv_sub hl [2, 3, 4, 5, 6, 7] rfl) (by omega)
      · replace hr := gIf_t c9 hr
        refine lv_aload_n hx hb dL_law_2407 rfl (lv_at hl 5 rfl) ?_
        refine lv_iconst (v := 0) hx hb dL_law_2408 (by decide) ?_
        refine g_lald X hI hr dL_law_2409 (fun v732 hr => ?_)
        refine lv_iload hx hb dL_law_2410 (lv_at hl 0 rfl) ?_
        refine lv_i2l hx hb dL_law_2412 rfl ?_
        refine W.lcmp hx hb dL_law_2413 ?_
        refine lv_if_eq (tgt := 2419) hx hb dL_law_2414 (by decide) (fun c9 => ?_) (fun c9 => ?_)
        · replace hr := gIf_t c9 hr
          refine lv_goto (tgt := 2884) hx hb dL_law_2419 (by decide) ?_
          exact w_L_law_J2884 X hst hsc hsb hbs Hr28 hr hI (lv_sub hl [2, 3, 4, 5, 6, 7] rfl) (by omega)
        · replace hr := gIf_f c9 hr
          refine lv_iconst (v := 0) hx hb dL_law_2417 (by decide) ?_
          exact absurd hr (by decide)
    · replace hr := gIf_f c9 hr
      refine lv_iconst (v := 0) hx hb dL_law_2400 (by decide) ?_
      exact absurd hr (by decide)
  · exact nomatch hr
set_option maxHeartbeats 2000000 in
theorem w_L_law_J2422 {h : gH} {n : Nat} {r28 : Int32 → gH → Nat → Option Int32} {z1 : Nat} {z2 : Nat} {z3 : Nat} {z4 : Nat} {b28 : Nat} {d28 : Nat} {z5 : Int32} (X : gXX x base RX0 cL_law 10 (some .boolean) p l s m args meth c) (hst : l.stackTraces = false) (hsc : va_X zb zL zx s s.heap) (hsb : zb < s.heap.size) (hbs : base = s.heap.size) (Hr28 : ∀ {z5 : Int32} {h : gH} {n : Nat} {H : Heap} {locs : List Loc} {ls : Array Slot} {cells slots : Nat}, r28 z5 h n = some (1 : Int32) → gI x base s.heap h n H locs → lv_has ls 10 [(0, .ref zb), (1, .ref z1), (2, .ref z2), (3, .ref z3), (4, .ref z4), (5, .int z5)] → (cells + b28 ≤ 1200144 ∧ slots + d28 ≤ 5496442) → W p l e room_1 s m args below meth c H locs cells slots (lw_Z below args s) (F0 m 28 ls [])) {H : Heap} {locs : List Loc} {ls : Array Slot} {cells slots : Nat} (hr : f_L_law_J2422 x zL zx r28 z1 z2 z3 z4 z5 h n = some (1 : Int32)) (hI : gI x base s.heap h n H locs) (hl : lv_has ls 10 [(0, .ref zb), (1, .ref z1), (2, .ref z2), (3, .ref z3), (4, .ref z4), (5, .int z5)]) (hcc : cells + (11 + b28) ≤ 1200144 ∧ slots + (74 + d28) ≤ 5496442) : W p l e room_1 s m args below meth c H locs cells slots (lw_Z below args s) (F0 m 2422 ls []) := by
  have hx := X.1
  have hb := X.2.1
  unfold f_L_law_J2422 at hr
  refine lv_aload_n hx hb dL_law_2422 rfl (lv_at hl 1 rfl) ?_
  refine lv_aload_n hx hb dL_law_2423 rfl (lv_at hl 0 rfl) ?_
  refine lv_iload hx hb dL_law_2424 (lv_at hl 5 rfl) ?_
  refine lv_iconst (v := 1) hx hb dL_law_2426 (by decide) ?_
  refine lv_iadd hx hb dL_law_2427 ?_
  refine g_sld X hI hsc hsb hbs hr dL_law_2428 (fun v733 hr => ?_)
  refine lv_aload_n hx hb dL_law_2429 rfl (lv_at hl 0 rfl) ?_
  refine lv_iload hx hb dL_law_2430 (lv_at hl 5 rfl) ?_
  refine lv_iconst (v := 2) hx hb dL_law_2432 (by decide) ?_
  refine lv_iadd hx hb dL_law_2433 ?_
  refine g_sld X hI hsc hsb hbs hr dL_law_2434 (fun v734 hr => ?_)
  refine lv_aload_n hx hb dL_law_2435 rfl (lv_at hl 3 rfl) ?_
  rcases gTX_i hr with ⟨v736, h738, n739, hc735, hr⟩ | ⟨q737, h740, n741, hc735, hr⟩
  · refine gXRet_i (g_wrunS X hI (w_X0_divideAndChoose hst hc735) hl (lw_SW q1460 q1461 q95 q1462) rfl rfl hd_X0_divideAndChoose ⟨Nat.le_of_ble_eq_true rfl, Nat.le_of_ble_eq_true rfl⟩ (as := [.ref z1, .int v733, .int v734, .ref z3]) (rest := []) rfl rfl (Nat.le_of_ble_eq_true rfl) ⟨(show cells + 11 ≤ 1200144 from by omega), (show slots + 74 ≤ 5496442 from by omega)⟩ dL_law_2436) (fun H locs hI => ?_)
    refine lv_istore (lv' := [(6, .int v736), (0, .ref zb), (1, .ref z1), (2, .ref z2), (3, .ref z3), (4, .ref z4), (5, .int z5)]) hx hb dL_law_2439 hl (by decide) rfl (fun ls hl => ?_)
    refine lv_aload_n hx hb dL_law_2441 rfl (lv_at hl 3 rfl) ?_
    refine lv_aload_n hx hb dL_law_2442 rfl (lv_at hl 1 rfl) ?_
    refine lv_iload hx hb dL_law_2443 (lv_at hl 6 rfl) ?_
    refine lv_iconst (v := 1) hx hb dL_law_2445 (by decide) ?_
    refine lv_iadd hx hb dL_law_2446 ?_
    refine g_sld X hI hsc hsb hbs hr dL_law_2447 (fun v742 hr => ?_)
    refine lv_aload_n hx hb dL_law_2448 rfl (lv_at hl 1 rfl) ?_
    refine lv_iload hx hb dL_law_2449 (lv_at hl 6 rfl) ?_
    refine lv_iconst (v := 2) hx hb dL_law_2451 (by decide) ?_
    refine lv_iadd hx hb dL_law_2452 ?_
    refine g_sld X hI hsc hsb hbs hr dL_law_2453 (fun v743 hr => ?_)
    obtain ⟨M744, hM745, hr⟩ := gB_i hr
    replace hI := hI.toM hM745
    obtain ⟨v747, aM_748, iU_749, iT_750, hc746, hr⟩ := gT4_i hr
    refine gRun_i (g_runV X hI (w_X6_divideAndChoose hc746) (g_obj_s mH_0) rfl hl (lw_V q2108 q2109 q2110 q122 q2111) rfl rfl hd_X6_divideAndChoose ⟨Nat.le_of_ble_eq_true rfl, Nat.le_of_ble_eq_true rfl⟩ (as := [.int v742, .int v743]) (rest := []) rfl rfl (Nat.le_of_ble_eq_true rfl) ⟨(show (cells + 11) + 0 ≤ 1200144 from by omega), (show (slots + 74) + 0 ≤ 5496442 from by omega)⟩ dL_law_2454) (fun H locs hI => ?_)
    refine lv_istore (lv' := [(7, .int v747), (6, .int v736), (0, .ref zb), (1, .ref z1), (2, .ref z2), (3, .ref z3), (4, .ref z4), (5, .int z5)]) hx hb dL_law_2457 hl (by decide) rfl (fun ls hl => ?_)
    refine lv_aload_n hx hb dL_law_2459 rfl (lv_at hl 4 rfl) ?_
    obtain ⟨v752, hc751, hr⟩ := gB_i hr
    refine gRun_i (g_runV X hI (w_X6_thrown hc751) (g_obj_s mH_0) rfl hl (lw_V q1584 q1585 q1586 q122 q1587) rfl rfl hd_X6_thrown ⟨Nat.le_of_ble_eq_true rfl, Nat.le_of_ble_eq_true rfl⟩ (as := []) (rest := []) rfl rfl (Nat.le_of_ble_eq_true rfl) ⟨(show ((cells + 11) + 0) + 0 ≤ 1200144 from by omega), (show ((slots + 74) + 0) + 0 ≤ 5496442 from by omega)⟩ dL_law_2460) (fun H locs hI => ?_)
    refine lv_iload hx hb dL_law_2463 (lv_at hl 1 rfl) ?_
    refine lv_icmp_eq (tgt := 2470) hx hb dL_law_2465 (by decide) (fun c9 => ?_) (fun c9 => ?_)
    · replace hr := gIf_t c9 hr
      refine lv_iload hx hb dL_law_2470 (lv_at hl 1 rfl) ?_
      refine lv_if_ne (tgt := 2487) hx hb dL_law_2472 (by decide) (fun c9 => ?_) (fun c9 => ?_)
      · replace hr := gIf_f c9 hr
        refine lv_goto (tgt := 2884) hx hb dL_law_2487 (by decide) ?_
        exact w_L_law_J2884 X hst hsc hsb hbs Hr28 hr hI (lv_sub hl [2, 3, 4, 5, 6, 7] rfl) (by omega)
      · replace hr := gIf_t c9 hr
        refine lv_aload_n hx hb dL_law_2475 rfl (lv_at hl 5 rfl) ?_
        refine lv_iconst (v := 0) hx hb dL_law_2476 (by decide) ?_
        refine g_lald X hI hr dL_law_2477 (fun v753 hr => ?_)
        refine lv_iload hx hb dL_law_2478 (lv_at hl 0 rfl) ?_
        refine lv_i2l hx hb dL_law_2480 rfl ?_
        refine W.lcmp hx hb dL_law_2481 ?_
        refine lv_if_eq (tgt := 2487) hx hb dL_law_2482 (by decide) (fun c9 => ?_) (fun c9 => ?_)
        · replace hr := gIf_t c9 hr
          refine lv_goto (tgt := 2884) hx hb dL_law_2487 (by decide) ?_
          exact w_L_law_J2884 X hst hsc hsb hbs Hr28 hr hI (lv_sub hl [2, 3, 4, 5, 6, 7] rfl) (by omega)
        · replace hr := gIf_f c9 hr
          refine lv_iconst (v := 0) hx hb dL_law_2485 (by decide) ?_
          exact absurd hr (by decide)
    · replace hr := gIf_f c9 hr
      refine lv_iconst (v := 0) hx hb dL_law_2468 (by decide) ?_
      exact absurd hr (by decide)
  · exact nomatch hr
set_option maxHeartbeats 2000000 in
theorem w_L_law_J2490 {h : gH} {n : Nat} {r28 : Int32 → gH → Nat → Option Int32} {z1 : Nat} {z2 : Nat} {z3 : Nat} {z4 : Nat} {b28 : Nat} {d28 : Nat} {z5 : Int32} (X : gXX x base RX0 cL_law 10 (some .boolean) p l s m args meth c) (hst : l.stackTraces = false) (hsc : va_X zb zL zx s s.heap) (hsb : zb < s.heap.size) (hbs : base = s.heap.size) (Hr28 : ∀ {z5 : Int32} {h : gH} {n : Nat} {H : Heap} {locs : List Loc} {ls : Array Slot} {cells slots : Nat}, r28 z5 h n = some (1 : Int32) → gI x base s.heap h n H locs → lv_has ls 10 [(0, .ref zb), (1, .ref z1), (2, .ref z2), (3, .ref z3), (4, .ref z4), (5, .int z5)] → (cells + b28 ≤ 1200144 ∧ slots + d28 ≤ 5496442) → W p l e room_1 s m args below meth c H locs cells slots (lw_Z below args s) (F0 m 28 ls [])) {H : Heap} {locs : List Loc} {ls : Array Slot} {cells slots : Nat} (hr : f_L_law_J2490 x zL zx r28 z1 z2 z3 z4 z5 h n = some (1 : Int32)) (hI : gI x base s.heap h n H locs) (hl : lv_has ls 10 [(0, .ref zb), (1, .ref z1), (2, .ref z2), (3, .ref z3), (4, .ref z4), (5, .int z5)]) (hcc : cells + (5 + b28) ≤ 1200144 ∧ slots + (42 + d28) ≤ 5496442) : W p l e room_1 s m args below meth c H locs cells slots (lw_Z below args s) (F0 m 2490 ls []) := by
  have hx := X.1
  have hb := X.2.1
  unfold f_L_law_J2490 at hr
  refine lv_aload_n hx hb dL_law_2490 rfl (lv_at hl 1 rfl) ?_
  obtain ⟨_, ho754, hr⟩ := gB_i hr
  obtain ⟨v756, h757, n758, hc755, hr⟩ := gT3_i hr
  refine gRun_i (g_runV X hI (w_X1_movingKnife hst hc755) ho754 rfl hl (lw_V q991 q992 q993 q96 q994) rfl rfl hd_X1_movingKnife ⟨Nat.le_of_ble_eq_true rfl, Nat.le_of_ble_eq_true rfl⟩ (as := []) (rest := []) rfl rfl (Nat.le_of_ble_eq_true rfl) ⟨(show cells + 5 ≤ 1200144 from by omega), (show slots + 42 ≤ 5496442 from by omega)⟩ dL_law_2491) (fun H locs hI => ?_)
  refine lv_aload_n hx hb dL_law_2494 rfl (lv_at hl 2 rfl) ?_
  obtain ⟨M759, hM760, hr⟩ := gB_i hr
  replace hI := hI.toM hM760
  obtain ⟨v762, aM_763, iU_764, iT_765, aH_766, hc761, hr⟩ := gT5_i hr
  refine gRun_i (g_runV X hI (w_X6_movingKnife hc761) (g_obj_s mH_0) rfl hl (lw_V q2112 q2113 q2114 q122 q2115) rfl rfl hd_X6_movingKnife ⟨Nat.le_of_ble_eq_true rfl, Nat.le_of_ble_eq_true rfl⟩ (as := []) (rest := [.int v756]) rfl rfl (Nat.le_of_ble_eq_true rfl) ⟨(show (cells + 5) + 0 ≤ 1200144 from by omega), (show (slots + 42) + 0 ≤ 5496442 from by omega)⟩ dL_law_2495) (fun H locs hI => ?_)
  refine lv_icmp_eq (tgt := 2884) hx hb dL_law_2498 (by decide) (fun c9 => ?_) (fun c9 => ?_)
  · replace hr := gIf_t c9 hr
    exact w_L_law_J2884 X hst hsc hsb hbs Hr28 hr hI (lv_sub hl [0, 1, 2, 3, 4, 5] rfl) (by omega)
  · replace hr := gIf_f c9 hr
    refine lv_iconst (v := 0) hx hb dL_law_2501 (by decide) ?_
    exact absurd hr (by decide)
set_option maxHeartbeats 2000000 in
theorem w_L_law_J2503 {h : gH} {n : Nat} {r28 : Int32 → gH → Nat → Option Int32} {z1 : Nat} {z2 : Nat} {z3 : Nat} {z4 : Nat} {b28 : Nat} {d28 : Nat} {z5 : Int32} (X : gXX x base RX0 cL_law 10 (some .boolean) p l s m args meth c) (hst : l.stackTraces = false) (hsc : va_X zb zL zx s s.heap) (hsb : zb < s.heap.size) (hbs : base = s.heap.size) (Hr28 : ∀ {z5 : Int32} {h : gH} {n : Nat} {H : Heap} {locs : List Loc} {ls : Array Slot} {cells slots : Nat}, r28 z5 h n = some (1 : Int32) → gI x base s.heap h n H locs → lv_has ls 10 [(0, .ref zb), (1, .ref z1), (2, .ref z2), (3, .ref z3), (4, .ref z4), (5, .int z5)] → (cells + b28 ≤ 1200144 ∧ slots + d28 ≤ 5496442) → W p l e room_1 s m args below meth c H locs cells slots (lw_Z below args s) (F0 m 28 ls [])) {H : Heap} {locs : List Loc} {ls : Array Slot} {cells slots : Nat} (hr : f_L_law_J2503 x zL zx r28 z1 z2 z3 z4 z5 h n = some (1 : Int32)) (hI : gI x base s.heap h n H locs) (hl : lv_has ls 10 [(0, .ref zb), (1, .ref z1), (2, .ref z2), (3, .ref z3), (4, .ref z4), (5, .int z5)]) (hcc : cells + (10 + b28) ≤ 1200144 ∧ slots + (67 + d28) ≤ 5496442) : W p l e room_1 s m args below meth c H locs cells slots (lw_Z below args s) (F0 m 2503 ls []) := by
  have hx := X.1
  have hb := X.2.1
  unfold f_L_law_J2503 at hr
  refine lv_aload_n hx hb dL_law_2503 rfl (lv_at hl 1 rfl) ?_
  refine lv_aload_n hx hb dL_law_2504 rfl (lv_at hl 0 rfl) ?_
  refine lv_iload hx hb dL_law_2505 (lv_at hl 5 rfl) ?_
  refine lv_iconst (v := 1) hx hb dL_law_2507 (by decide) ?_
  refine lv_iadd hx hb dL_law_2508 ?_
  refine g_sld X hI hsc hsb hbs hr dL_law_2509 (fun v767 hr => ?_)
  refine lv_aload_n hx hb dL_law_2510 rfl (lv_at hl 3 rfl) ?_
  rcases gTX_i hr with ⟨v769, h771, n772, hc768, hr⟩ | ⟨q770, h773, n774, hc768, hr⟩
  · refine gXRet_i (g_wrunS X hI (w_X0_roundRobin hst hc768) hl (lw_SW q1476 q1477 q95 q1478) rfl rfl hd_X0_roundRobin ⟨Nat.le_of_ble_eq_true rfl, Nat.le_of_ble_eq_true rfl⟩ (as := [.ref z1, .int v767, .ref z3]) (rest := []) rfl rfl (Nat.le_of_ble_eq_true rfl) ⟨(show cells + 10 ≤ 1200144 from by omega), (show slots + 67 ≤ 5496442 from by omega)⟩ dL_law_2511) (fun H locs hI => ?_)
    refine lv_istore (lv' := [(6, .int v769), (0, .ref zb), (1, .ref z1), (2, .ref z2), (3, .ref z3), (4, .ref z4), (5, .int z5)]) hx hb dL_law_2514 hl (by decide) rfl (fun ls hl => ?_)
    refine lv_aload_n hx hb dL_law_2516 rfl (lv_at hl 3 rfl) ?_
    refine lv_aload_n hx hb dL_law_2517 rfl (lv_at hl 1 rfl) ?_
    refine lv_iload hx hb dL_law_2518 (lv_at hl 6 rfl) ?_
    refine lv_iconst (v := 1) hx hb dL_law_2520 (by decide) ?_
    refine lv_iadd hx hb dL_law_2521 ?_
    refine g_sld X hI hsc hsb hbs hr dL_law_2522 (fun v775 hr => ?_)
    obtain ⟨M776, hM777, hr⟩ := gB_i hr
    replace hI := hI.toM hM777
    obtain ⟨v779, aM_780, iU_781, iT_782, hc778, hr⟩ := gT4_i hr
    refine gRun_i (g_runV X hI (w_X6_roundRobin hc778) (g_obj_s mH_0) rfl hl (lw_V q2116 q2117 q2118 q122 q2119) rfl rfl hd_X6_roundRobin ⟨Nat.le_of_ble_eq_true rfl, Nat.le_of_ble_eq_true rfl⟩ (as := [.int v775]) (rest := []) rfl rfl (Nat.le_of_ble_eq_true rfl) ⟨(show (cells + 10) + 0 ≤ 1200144 from by omega), (show (slots + 67) + 0 ≤ 5496442 from by omega)⟩ dL_law_2523) (fun H locs hI => ?_)
    refine lv_istore (lv' := [(7, .int v779), (6, .int v769), (0, .ref zb), (1, .ref z1), (2, .ref z2), (3, .ref z3), (4, .ref z4), (5, .int z5)]) hx hb dL_law_2526 hl (by decide) rfl (fun ls hl => ?_)
    refine lv_aload_n hx hb dL_law_2528 rfl (lv_at hl 4 rfl) ?_
    obtain ⟨v784, hc783, hr⟩ := gB_i hr
    refine gRun_i (g_runV X hI (w_X6_thrown hc783) (g_obj_s mH_0) rfl hl (lw_V q1584 q1585 q1586 q122 q1587) rfl rfl hd_X6_thrown ⟨Nat.le_of_ble_eq_true rfl, Nat.le_of_ble_eq_true rfl⟩ (as := []) (rest := []) rfl rfl (Nat.le_of_ble_eq_true rfl) ⟨(show ((cells + 10) + 0) + 0 ≤ 1200144 from by omega), (show ((slots + 67) + 0) + 0 ≤ 5496442 from by omega)⟩ dL_law_2529) (fun H locs hI => ?_)
    refine lv_iload hx hb dL_law_2532 (lv_at hl 1 rfl) ?_
    refine lv_icmp_eq (tgt := 2539) hx hb dL_law_2534 (by decide) (fun c9 => ?_) (fun c9 => ?_)
    · replace hr := gIf_t c9 hr
      refine lv_iload hx hb dL_law_2539 (lv_at hl 1 rfl) ?_
      refine lv_if_ne (tgt := 2556) hx hb dL_law_2541 (by decide) (fun c9 => ?_) (fun c9 => ?_)
      · replace hr := gIf_f c9 hr
        refine lv_goto (tgt := 2884) hx hb dL_law_2556 (by decide) ?_
        exact w_L_law_J2884 X hst hsc hsb hbs Hr28 hr hI (lv_sub hl [2, 3, 4, 5, 6, 7] rfl) (by omega)
      · replace hr := gIf_t c9 hr
        refine lv_aload_n hx hb dL_law_2544 rfl (lv_at hl 5 rfl) ?_
        refine lv_iconst (v := 0) hx hb dL_law_2545 (by decide) ?_
        refine g_lald X hI hr dL_law_2546 (fun v785 hr => ?_)
        refine lv_iload hx hb dL_law_2547 (lv_at hl 0 rfl) ?_
        refine lv_i2l hx hb dL_law_2549 rfl ?_
        refine W.lcmp hx hb dL_law_2550 ?_
        refine lv_if_eq (tgt := 2556) hx hb dL_law_2551 (by decide) (fun c9 => ?_) (fun c9 => ?_)
        · replace hr := gIf_t c9 hr
          refine lv_goto (tgt := 2884) hx hb dL_law_2556 (by decide) ?_
          exact w_L_law_J2884 X hst hsc hsb hbs Hr28 hr hI (lv_sub hl [2, 3, 4, 5, 6, 7] rfl) (by omega)
        · replace hr := gIf_f c9 hr
          refine lv_iconst (v := 0) hx hb dL_law_2554 (by decide) ?_
          exact absurd hr (by decide)
    · replace hr := gIf_f c9 hr
      refine lv_iconst (v := 0) hx hb dL_law_2537 (by decide) ?_
      exact absurd hr (by decide)
  · exact nomatch hr
set_option maxHeartbeats 2000000 in
theorem w_L_law_J2559 {h : gH} {n : Nat} {r28 : Int32 → gH → Nat → Option Int32} {z1 : Nat} {z2 : Nat} {z3 : Nat} {z4 : Nat} {b28 : Nat} {d28 : Nat} {z5 : Int32} (X : gXX x base RX0 cL_law 10 (some .boolean) p l s m args meth c) (hst : l.stackTraces = false) (hsc : va_X zb zL zx s s.heap) (hsb : zb < s.heap.size) (hbs : base = s.heap.size) (Hr28 : ∀ {z5 : Int32} {h : gH} {n : Nat} {H : Heap} {locs : List Loc} {ls : Array Slot} {cells slots : Nat}, r28 z5 h n = some (1 : Int32) → gI x base s.heap h n H locs → lv_has ls 10 [(0, .ref zb), (1, .ref z1), (2, .ref z2), (3, .ref z3), (4, .ref z4), (5, .int z5)] → (cells + b28 ≤ 1200144 ∧ slots + d28 ≤ 5496442) → W p l e room_1 s m args below meth c H locs cells slots (lw_Z below args s) (F0 m 28 ls [])) {H : Heap} {locs : List Loc} {ls : Array Slot} {cells slots : Nat} (hr : f_L_law_J2559 x zL zx r28 z1 z2 z3 z4 z5 h n = some (1 : Int32)) (hI : gI x base s.heap h n H locs) (hl : lv_has ls 10 [(0, .ref zb), (1, .ref z1), (2, .ref z2), (3, .ref z3), (4, .ref z4), (5, .int z5)]) (hcc : cells + (14 + b28) ≤ 1200144 ∧ slots + (89 + d28) ≤ 5496442) : W p l e room_1 s m args below meth c H locs cells slots (lw_Z below args s) (F0 m 2559 ls []) := by
  have hx := X.1
  have hb := X.2.1
  unfold f_L_law_J2559 at hr
  refine lv_aload_n hx hb dL_law_2559 rfl (lv_at hl 1 rfl) ?_
  refine lv_aload_n hx hb dL_law_2560 rfl (lv_at hl 0 rfl) ?_
  refine lv_iload hx hb dL_law_2561 (lv_at hl 5 rfl) ?_
  refine lv_iconst (v := 1) hx hb dL_law_2563 (by decide) ?_
  refine lv_iadd hx hb dL_law_2564 ?_
  refine g_sld X hI hsc hsb hbs hr dL_law_2565 (fun v786 hr => ?_)
  refine lv_aload_n hx hb dL_law_2566 rfl (lv_at hl 3 rfl) ?_
  rcases gTX_i hr with ⟨v788, h790, n791, hc787, hr⟩ | ⟨q789, h792, n793, hc787, hr⟩
  · refine gXRet_i (g_wrunS X hI (w_X0_rotate hst hc787) hl (lw_SW q1487 q1488 q95 q1489) rfl rfl hd_X0_rotate ⟨Nat.le_of_ble_eq_true rfl, Nat.le_of_ble_eq_true rfl⟩ (as := [.ref z1, .int v786, .ref z3]) (rest := []) rfl rfl (Nat.le_of_ble_eq_true rfl) ⟨(show cells + 14 ≤ 1200144 from by omega), (show slots + 89 ≤ 5496442 from by omega)⟩ dL_law_2567) (fun H locs hI => ?_)
    refine lv_istore (lv' := [(6, .int v788), (0, .ref zb), (1, .ref z1), (2, .ref z2), (3, .ref z3), (4, .ref z4), (5, .int z5)]) hx hb dL_law_2570 hl (by decide) rfl (fun ls hl => ?_)
    refine lv_aload_n hx hb dL_law_2572 rfl (lv_at hl 3 rfl) ?_
    refine lv_aload_n hx hb dL_law_2573 rfl (lv_at hl 1 rfl) ?_
    refine lv_iload hx hb dL_law_2574 (lv_at hl 6 rfl) ?_
    refine lv_iconst (v := 1) hx hb dL_law_2576 (by decide) ?_
    refine lv_iadd hx hb dL_law_2577 ?_
    refine g_sld X hI hsc hsb hbs hr dL_law_2578 (fun v794 hr => ?_)
    obtain ⟨M795, hM796, hr⟩ := gB_i hr
    replace hI := hI.toM hM796
    obtain ⟨v798, aM_799, iU_800, iT_801, aT_802, aC_803, hc797, hr⟩ := gT6_i hr
    refine gRun_i (g_runV X hI (w_X6_rotate hc797) (g_obj_s mH_0) rfl hl (lw_V q2120 q2121 q2122 q122 q2123) rfl rfl hd_X6_rotate ⟨Nat.le_of_ble_eq_true rfl, Nat.le_of_ble_eq_true rfl⟩ (as := [.int v794]) (rest := []) rfl rfl (Nat.le_of_ble_eq_true rfl) ⟨(show (cells + 14) + 0 ≤ 1200144 from by omega), (show (slots + 89) + 0 ≤ 5496442 from by omega)⟩ dL_law_2579) (fun H locs hI => ?_)
    refine lv_istore (lv' := [(7, .int v798), (6, .int v788), (0, .ref zb), (1, .ref z1), (2, .ref z2), (3, .ref z3), (4, .ref z4), (5, .int z5)]) hx hb dL_law_2582 hl (by decide) rfl (fun ls hl => ?_)
    refine lv_aload_n hx hb dL_law_2584 rfl (lv_at hl 4 rfl) ?_
    obtain ⟨v805, hc804, hr⟩ := gB_i hr
    refine gRun_i (g_runV X hI (w_X6_thrown hc804) (g_obj_s mH_0) rfl hl (lw_V q1584 q1585 q1586 q122 q1587) rfl rfl hd_X6_thrown ⟨Nat.le_of_ble_eq_true rfl, Nat.le_of_ble_eq_true rfl⟩ (as := []) (rest := []) rfl rfl (Nat.le_of_ble_eq_true rfl) ⟨(show ((cells + 14) + 0) + 0 ≤ 1200144 from by omega), (show ((slots + 89) + 0) + 0 ≤ 5496442 from by omega)⟩ dL_law_2585) (fun H locs hI => ?_)
    refine lv_iload hx hb dL_law_2588 (lv_at hl 1 rfl) ?_
    refine lv_icmp_eq (tgt := 2595) hx hb dL_law_2590 (by decide) (fun c9 => ?_) (fun c9 => ?_)
    · replace hr := gIf_t c9 hr
      refine lv_iload hx hb dL_law_2595 (lv_at hl 1 rfl) ?_
      refine lv_if_ne (tgt := 2612) hx hb dL_law_2597 (by decide) (fun c9 => ?_) (fun c9 => ?_)
      · replace hr := gIf_f c9 hr
        refine lv_goto (tgt := 2884) hx hb dL_law_2612 (by decide) ?_
        exact w_L_law_J2884 X hst hsc hsb hbs Hr28 hr hI (lv_sub hl [2, 3, 4, 5, 6, 7] rfl) (by omega)
      · replace hr := gIf_t c9 hr
        refine lv_aload_n hx hb dL_law_2600 rfl (lv_at hl 5 rfl) ?_
        refine lv_iconst (v := 0) hx hb dL_law_2601 (by decide) ?_
        refine g_lald X hI hr dL_law_2602 (fun v806 hr => ?_)
        refine lv_iload hx hb dL_law_2603 (lv_at hl 0 rfl) ?_
        refine lv_i2l hx hb dL_law_2605 rfl ?_
        refine W.lcmp hx hb dL_law_2606 ?_
        refine lv_if_eq (tgt := 2612) hx hb dL_law_2607 (by decide) (fun c9 => ?_) (fun c9 => ?_)
        · replace hr := gIf_t c9 hr
          refine lv_goto (tgt := 2884) hx hb dL_law_2612 (by decide) ?_
          exact w_L_law_J2884 X hst hsc hsb hbs Hr28 hr hI (lv_sub hl [2, 3, 4, 5, 6, 7] rfl) (by omega)
        · replace hr := gIf_f c9 hr
          refine lv_iconst (v := 0) hx hb dL_law_2610 (by decide) ?_
          exact absurd hr (by decide)
    · replace hr := gIf_f c9 hr
      refine lv_iconst (v := 0) hx hb dL_law_2593 (by decide) ?_
      exact absurd hr (by decide)
  · exact nomatch hr
set_option maxHeartbeats 2000000 in
theorem w_L_law_J2615 {h : gH} {n : Nat} {r28 : Int32 → gH → Nat → Option Int32} {z1 : Nat} {z2 : Nat} {z3 : Nat} {z4 : Nat} {b28 : Nat} {d28 : Nat} {z5 : Int32} (X : gXX x base RX0 cL_law 10 (some .boolean) p l s m args meth c) (hst : l.stackTraces = false) (hsc : va_X zb zL zx s s.heap) (hsb : zb < s.heap.size) (hbs : base = s.heap.size) (Hr28 : ∀ {z5 : Int32} {h : gH} {n : Nat} {H : Heap} {locs : List Loc} {ls : Array Slot} {cells slots : Nat}, r28 z5 h n = some (1 : Int32) → gI x base s.heap h n H locs → lv_has ls 10 [(0, .ref zb), (1, .ref z1), (2, .ref z2), (3, .ref z3), (4, .ref z4), (5, .int z5)] → (cells + b28 ≤ 1200144 ∧ slots + d28 ≤ 5496442) → W p l e room_1 s m args below meth c H locs cells slots (lw_Z below args s) (F0 m 28 ls [])) {H : Heap} {locs : List Loc} {ls : Array Slot} {cells slots : Nat} (hr : f_L_law_J2615 x zL zx r28 z1 z2 z3 z4 z5 h n = some (1 : Int32)) (hI : gI x base s.heap h n H locs) (hl : lv_has ls 10 [(0, .ref zb), (1, .ref z1), (2, .ref z2), (3, .ref z3), (4, .ref z4), (5, .int z5)]) (hcc : cells + (492 + b28) ≤ 1200144 ∧ slots + (3647 + d28) ≤ 5496442) : W p l e room_1 s m args below meth c H locs cells slots (lw_Z below args s) (F0 m 2615 ls []) := by
  have hx := X.1
  have hb := X.2.1
  unfold f_L_law_J2615 at hr
  refine lv_aload_n hx hb dL_law_2615 rfl (lv_at hl 1 rfl) ?_
  refine lv_aload_n hx hb dL_law_2616 rfl (lv_at hl 3 rfl) ?_
  rcases gTX_i hr with ⟨v808, h810, n811, hc807, hr⟩ | ⟨q809, h812, n813, hc807, hr⟩
  · refine gXRet_i (g_wrunS X hI (w_X0_runScript hst hc807) hl (lw_SW q1498 q1499 q95 q1500) rfl rfl hd_X0_runScript ⟨Nat.le_of_ble_eq_true rfl, Nat.le_of_ble_eq_true rfl⟩ (as := [.ref z1, .ref z3]) (rest := []) rfl rfl (Nat.le_of_ble_eq_true rfl) ⟨(show cells + 492 ≤ 1200144 from by omega), (show slots + 3647 ≤ 5496442 from by omega)⟩ dL_law_2617) (fun H locs hI => ?_)
    refine lv_istore (lv' := [(6, .int v808), (0, .ref zb), (1, .ref z1), (2, .ref z2), (3, .ref z3), (4, .ref z4), (5, .int z5)]) hx hb dL_law_2620 hl (by decide) rfl (fun ls hl => ?_)
    refine lv_aload_n hx hb dL_law_2622 rfl (lv_at hl 3 rfl) ?_
    obtain ⟨M814, hM815, hr⟩ := gB_i hr
    replace hI := hI.toM hM815
    obtain ⟨v817, aM_818, iU_819, iL_820, iE_821, iP_822, iT_823, aT_824, aC_825, aH_826, iA_827, iY_828, iF_829, iV_830, aK_831, hc816, hr⟩ := gT15_i hr
    refine gRun_i (g_runV X hI (w_X6_runScript hc816) (g_obj_s mH_0) rfl hl (lw_V q1737 q1738 q1739 q122 q1740) rfl rfl hd_X6_runScript ⟨Nat.le_of_ble_eq_true rfl, Nat.le_of_ble_eq_true rfl⟩ (as := []) (rest := []) rfl rfl (Nat.le_of_ble_eq_true rfl) ⟨(show (cells + 492) + 0 ≤ 1200144 from by omega), (show (slots + 3647) + 0 ≤ 5496442 from by omega)⟩ dL_law_2623) (fun H locs hI => ?_)
    refine lv_istore (lv' := [(7, .int v817), (6, .int v808), (0, .ref zb), (1, .ref z1), (2, .ref z2), (3, .ref z3), (4, .ref z4), (5, .int z5)]) hx hb dL_law_2626 hl (by decide) rfl (fun ls hl => ?_)
    refine lv_aload_n hx hb dL_law_2628 rfl (lv_at hl 4 rfl) ?_
    obtain ⟨v833, hc832, hr⟩ := gB_i hr
    refine gRun_i (g_runV X hI (w_X6_thrown hc832) (g_obj_s mH_0) rfl hl (lw_V q1584 q1585 q1586 q122 q1587) rfl rfl hd_X6_thrown ⟨Nat.le_of_ble_eq_true rfl, Nat.le_of_ble_eq_true rfl⟩ (as := []) (rest := []) rfl rfl (Nat.le_of_ble_eq_true rfl) ⟨(show ((cells + 492) + 0) + 0 ≤ 1200144 from by omega), (show ((slots + 3647) + 0) + 0 ≤ 5496442 from by omega)⟩ dL_law_2629) (fun H locs hI => ?_)
    refine lv_iload hx hb dL_law_2632 (lv_at hl 1 rfl) ?_
    refine lv_icmp_eq (tgt := 2639) hx hb dL_law_2634 (by decide) (fun c9 => ?_) (fun c9 => ?_)
    · replace hr := gIf_t c9 hr
      refine lv_iload hx hb dL_law_2639 (lv_at hl 1 rfl) ?_
      refine lv_if_ne (tgt := 2656) hx hb dL_law_2641 (by decide) (fun c9 => ?_) (fun c9 => ?_)
      · replace hr := gIf_f c9 hr
        refine lv_goto (tgt := 2884) hx hb dL_law_2656 (by decide) ?_
        exact w_L_law_J2884 X hst hsc hsb hbs Hr28 hr hI (lv_sub hl [2, 3, 4, 5, 6, 7] rfl) (by omega)
      · replace hr := gIf_t c9 hr
        refine lv_aload_n hx hb dL_law_2644 rfl (lv_at hl 5 rfl) ?_
        refine lv_iconst (v := 0) hx hb dL_law_2645 (by decide) ?_
        refine g_lald X hI hr dL_law_2646 (fun v834 hr => ?_)
        refine lv_iload hx hb dL_law_2647 (lv_at hl 0 rfl) ?_
        refine lv_i2l hx hb dL_law_2649 rfl ?_
        refine W.lcmp hx hb dL_law_2650 ?_
        refine lv_if_eq (tgt := 2656) hx hb dL_law_2651 (by decide) (fun c9 => ?_) (fun c9 => ?_)
        · replace hr := gIf_t c9 hr
          refine lv_goto (tgt := 2884) hx hb dL_law_2656 (by decide) ?_
          exact w_L_law_J2884 X hst hsc hsb hbs Hr28 hr hI (lv_sub hl [2, 3, 4, 5, 6, 7] rfl) (by omega)
        · replace hr := gIf_f c9 hr
          refine lv_iconst (v := 0) hx hb dL_law_2654 (by decide) ?_
          exact absurd hr (by decide)
    · replace hr := gIf_f c9 hr
      refine lv_iconst (v := 0) hx hb dL_law_2637 (by decide) ?_
      exact absurd hr (by decide)
  · exact nomatch hr
set_option maxHeartbeats 2000000 in
theorem w_L_law_J2659 {h : gH} {n : Nat} {r28 : Int32 → gH → Nat → Option Int32} {z1 : Nat} {z2 : Nat} {z3 : Nat} {z4 : Nat} {b28 : Nat} {d28 : Nat} {z5 : Int32} (X : gXX x base RX0 cL_law 10 (some .boolean) p l s m args meth c) (hst : l.stackTraces = false) (hsc : va_X zb zL zx s s.heap) (hsb : zb < s.heap.size) (hbs : base = s.heap.size) (Hr28 : ∀ {z5 : Int32} {h : gH} {n : Nat} {H : Heap} {locs : List Loc} {ls : Array Slot} {cells slots : Nat}, r28 z5 h n = some (1 : Int32) → gI x base s.heap h n H locs → lv_has ls 10 [(0, .ref zb), (1, .ref z1), (2, .ref z2), (3, .ref z3), (4, .ref z4), (5, .int z5)] → (cells + b28 ≤ 1200144 ∧ slots + d28 ≤ 5496442) → W p l e room_1 s m args below meth c H locs cells slots (lw_Z below args s) (F0 m 28 ls [])) {H : Heap} {locs : List Loc} {ls : Array Slot} {cells slots : Nat} (hr : f_L_law_J2659 x zL zx r28 z1 z2 z3 z4 z5 h n = some (1 : Int32)) (hI : gI x base s.heap h n H locs) (hl : lv_has ls 10 [(0, .ref zb), (1, .ref z1), (2, .ref z2), (3, .ref z3), (4, .ref z4), (5, .int z5)]) (hcc : cells + (1 + b28) ≤ 1200144 ∧ slots + (6 + d28) ≤ 5496442) : W p l e room_1 s m args below meth c H locs cells slots (lw_Z below args s) (F0 m 2659 ls []) := by
  have hx := X.1
  have hb := X.2.1
  unfold f_L_law_J2659 at hr
  refine lv_aload_n hx hb dL_law_2659 rfl (lv_at hl 1 rfl) ?_
  refine lv_aload_n hx hb dL_law_2660 rfl (lv_at hl 3 rfl) ?_
  rcases gTX_i hr with ⟨v836, h838, n839, hc835, hr⟩ | ⟨q837, h840, n841, hc835, hr⟩
  · refine gXRet_i (g_wrunS X hI (w_X0_undo hst hc835) hl (lw_SW q1541 q1542 q95 q1543) rfl rfl hd_X0_undo ⟨Nat.le_of_ble_eq_true rfl, Nat.le_of_ble_eq_true rfl⟩ (as := [.ref z1, .ref z3]) (rest := []) rfl rfl (Nat.le_of_ble_eq_true rfl) ⟨(show cells + 1 ≤ 1200144 from by omega), (show slots + 6 ≤ 5496442 from by omega)⟩ dL_law_2661) (fun H locs hI => ?_)
    refine lv_istore (lv' := [(6, .int v836), (0, .ref zb), (1, .ref z1), (2, .ref z2), (3, .ref z3), (4, .ref z4), (5, .int z5)]) hx hb dL_law_2664 hl (by decide) rfl (fun ls hl => ?_)
    refine lv_aload_n hx hb dL_law_2666 rfl (lv_at hl 3 rfl) ?_
    obtain ⟨M842, hM843, hr⟩ := gB_i hr
    replace hI := hI.toM hM843
    obtain ⟨v845, aM_846, iU_847, iT_848, hc844, hr⟩ := gT4_i hr
    refine gRun_i (g_runV X hI (w_X6_undo hc844) (g_obj_s mH_0) rfl hl (lw_V q2124 q2125 q2126 q122 q2127) rfl rfl hd_X6_undo ⟨Nat.le_of_ble_eq_true rfl, Nat.le_of_ble_eq_true rfl⟩ (as := []) (rest := []) rfl rfl (Nat.le_of_ble_eq_true rfl) ⟨(show (cells + 1) + 0 ≤ 1200144 from by omega), (show (slots + 6) + 0 ≤ 5496442 from by omega)⟩ dL_law_2667) (fun H locs hI => ?_)
    refine lv_istore (lv' := [(7, .int v845), (6, .int v836), (0, .ref zb), (1, .ref z1), (2, .ref z2), (3, .ref z3), (4, .ref z4), (5, .int z5)]) hx hb dL_law_2670 hl (by decide) rfl (fun ls hl => ?_)
    refine lv_aload_n hx hb dL_law_2672 rfl (lv_at hl 4 rfl) ?_
    obtain ⟨v850, hc849, hr⟩ := gB_i hr
    refine gRun_i (g_runV X hI (w_X6_thrown hc849) (g_obj_s mH_0) rfl hl (lw_V q1584 q1585 q1586 q122 q1587) rfl rfl hd_X6_thrown ⟨Nat.le_of_ble_eq_true rfl, Nat.le_of_ble_eq_true rfl⟩ (as := []) (rest := []) rfl rfl (Nat.le_of_ble_eq_true rfl) ⟨(show ((cells + 1) + 0) + 0 ≤ 1200144 from by omega), (show ((slots + 6) + 0) + 0 ≤ 5496442 from by omega)⟩ dL_law_2673) (fun H locs hI => ?_)
    refine lv_iload hx hb dL_law_2676 (lv_at hl 1 rfl) ?_
    refine lv_icmp_eq (tgt := 2683) hx hb dL_law_2678 (by decide) (fun c9 => ?_) (fun c9 => ?_)
    · replace hr := gIf_t c9 hr
      refine lv_iload hx hb dL_law_2683 (lv_at hl 1 rfl) ?_
      refine lv_if_ne (tgt := 2700) hx hb dL_law_2685 (by decide) (fun c9 => ?_) (fun c9 => ?_)
      · replace hr := gIf_f c9 hr
        refine lv_goto (tgt := 2884) hx hb dL_law_2700 (by decide) ?_
        exact w_L_law_J2884 X hst hsc hsb hbs Hr28 hr hI (lv_sub hl [2, 3, 4, 5, 6, 7] rfl) (by omega)
      · replace hr := gIf_t c9 hr
        refine lv_aload_n hx hb dL_law_2688 rfl (lv_at hl 5 rfl) ?_
        refine lv_iconst (v := 0) hx hb dL_law_2689 (by decide) ?_
        refine g_lald X hI hr dL_law_2690 (fun v851 hr => ?_)
        refine lv_iload hx hb dL_law_2691 (lv_at hl 0 rfl) ?_
        refine lv_i2l hx hb dL_law_2693 rfl ?_
        refine W.lcmp hx hb dL_law_2694 ?_
        refine lv_if_eq (tgt := 2700) hx hb dL_law_2695 (by decide) (fun c9 => ?_) (fun c9 => ?_)
        · replace hr := gIf_t c9 hr
          refine lv_goto (tgt := 2884) hx hb dL_law_2700 (by decide) ?_
          exact w_L_law_J2884 X hst hsc hsb hbs Hr28 hr hI (lv_sub hl [2, 3, 4, 5, 6, 7] rfl) (by omega)
        · replace hr := gIf_f c9 hr
          refine lv_iconst (v := 0) hx hb dL_law_2698 (by decide) ?_
          exact absurd hr (by decide)
    · replace hr := gIf_f c9 hr
      refine lv_iconst (v := 0) hx hb dL_law_2681 (by decide) ?_
      exact absurd hr (by decide)
  · exact nomatch hr
set_option maxHeartbeats 2000000 in
theorem w_L_law_J2703 {h : gH} {n : Nat} {r28 : Int32 → gH → Nat → Option Int32} {z1 : Nat} {z2 : Nat} {z3 : Nat} {z4 : Nat} {b28 : Nat} {d28 : Nat} {z5 : Int32} (X : gXX x base RX0 cL_law 10 (some .boolean) p l s m args meth c) (hst : l.stackTraces = false) (hsc : va_X zb zL zx s s.heap) (hsb : zb < s.heap.size) (hbs : base = s.heap.size) (Hr28 : ∀ {z5 : Int32} {h : gH} {n : Nat} {H : Heap} {locs : List Loc} {ls : Array Slot} {cells slots : Nat}, r28 z5 h n = some (1 : Int32) → gI x base s.heap h n H locs → lv_has ls 10 [(0, .ref zb), (1, .ref z1), (2, .ref z2), (3, .ref z3), (4, .ref z4), (5, .int z5)] → (cells + b28 ≤ 1200144 ∧ slots + d28 ≤ 5496442) → W p l e room_1 s m args below meth c H locs cells slots (lw_Z below args s) (F0 m 28 ls [])) {H : Heap} {locs : List Loc} {ls : Array Slot} {cells slots : Nat} (hr : f_L_law_J2703 x zL zx r28 z1 z2 z3 z4 z5 h n = some (1 : Int32)) (hI : gI x base s.heap h n H locs) (hl : lv_has ls 10 [(0, .ref zb), (1, .ref z1), (2, .ref z2), (3, .ref z3), (4, .ref z4), (5, .int z5)]) (hcc : cells + (6 + b28) ≤ 1200144 ∧ slots + (48 + d28) ≤ 5496442) : W p l e room_1 s m args below meth c H locs cells slots (lw_Z below args s) (F0 m 2703 ls []) := by
  have hx := X.1
  have hb := X.2.1
  unfold f_L_law_J2703 at hr
  refine lv_aload_n hx hb dL_law_2703 rfl (lv_at hl 1 rfl) ?_
  refine lv_aload_n hx hb dL_law_2704 rfl (lv_at hl 0 rfl) ?_
  refine lv_iload hx hb dL_law_2705 (lv_at hl 5 rfl) ?_
  refine lv_iconst (v := 1) hx hb dL_law_2707 (by decide) ?_
  refine lv_iadd hx hb dL_law_2708 ?_
  refine g_sld X hI hsc hsb hbs hr dL_law_2709 (fun v852 hr => ?_)
  refine lv_aload_n hx hb dL_law_2710 rfl (lv_at hl 3 rfl) ?_
  rcases gTX_i hr with ⟨v854, h856, n857, hc853, hr⟩ | ⟨q855, h858, n859, hc853, hr⟩
  · refine gXRet_i (g_wrunS X hI (w_X0_save hst hc853) hl (lw_SW q1563 q1564 q95 q1565) rfl rfl hd_X0_save ⟨Nat.le_of_ble_eq_true rfl, Nat.le_of_ble_eq_true rfl⟩ (as := [.ref z1, .int v852, .ref z3]) (rest := []) rfl rfl (Nat.le_of_ble_eq_true rfl) ⟨(show cells + 6 ≤ 1200144 from by omega), (show slots + 48 ≤ 5496442 from by omega)⟩ dL_law_2711) (fun H locs hI => ?_)
    refine lv_istore (lv' := [(6, .int v854), (0, .ref zb), (1, .ref z1), (2, .ref z2), (3, .ref z3), (4, .ref z4), (5, .int z5)]) hx hb dL_law_2714 hl (by decide) rfl (fun ls hl => ?_)
    refine lv_aload_n hx hb dL_law_2716 rfl (lv_at hl 3 rfl) ?_
    refine lv_aload_n hx hb dL_law_2717 rfl (lv_at hl 1 rfl) ?_
    refine lv_iload hx hb dL_law_2718 (lv_at hl 6 rfl) ?_
    refine lv_iconst (v := 1) hx hb dL_law_2720 (by decide) ?_
    refine lv_iadd hx hb dL_law_2721 ?_
    refine g_sld X hI hsc hsb hbs hr dL_law_2722 (fun v860 hr => ?_)
    obtain ⟨M861, hM862, hr⟩ := gB_i hr
    replace hI := hI.toM hM862
    obtain ⟨v864, aM_865, aS_866, iT_867, hc863, hr⟩ := gT4_i hr
    refine gRun_i (g_runV X hI (w_X6_save hc863) (g_obj_s mH_0) rfl hl (lw_V q2128 q2129 q2130 q122 q2131) rfl rfl hd_X6_save ⟨Nat.le_of_ble_eq_true rfl, Nat.le_of_ble_eq_true rfl⟩ (as := [.int v860]) (rest := []) rfl rfl (Nat.le_of_ble_eq_true rfl) ⟨(show (cells + 6) + 0 ≤ 1200144 from by omega), (show (slots + 48) + 0 ≤ 5496442 from by omega)⟩ dL_law_2723) (fun H locs hI => ?_)
    refine lv_istore (lv' := [(7, .int v864), (6, .int v854), (0, .ref zb), (1, .ref z1), (2, .ref z2), (3, .ref z3), (4, .ref z4), (5, .int z5)]) hx hb dL_law_2726 hl (by decide) rfl (fun ls hl => ?_)
    refine lv_aload_n hx hb dL_law_2728 rfl (lv_at hl 4 rfl) ?_
    obtain ⟨v869, hc868, hr⟩ := gB_i hr
    refine gRun_i (g_runV X hI (w_X6_thrown hc868) (g_obj_s mH_0) rfl hl (lw_V q1584 q1585 q1586 q122 q1587) rfl rfl hd_X6_thrown ⟨Nat.le_of_ble_eq_true rfl, Nat.le_of_ble_eq_true rfl⟩ (as := []) (rest := []) rfl rfl (Nat.le_of_ble_eq_true rfl) ⟨(show ((cells + 6) + 0) + 0 ≤ 1200144 from by omega), (show ((slots + 48) + 0) + 0 ≤ 5496442 from by omega)⟩ dL_law_2729) (fun H locs hI => ?_)
    refine lv_iload hx hb dL_law_2732 (lv_at hl 1 rfl) ?_
    refine lv_icmp_eq (tgt := 2739) hx hb dL_law_2734 (by decide) (fun c9 => ?_) (fun c9 => ?_)
    · replace hr := gIf_t c9 hr
      refine lv_iload hx hb dL_law_2739 (lv_at hl 1 rfl) ?_
      refine lv_if_ne (tgt := 2756) hx hb dL_law_2741 (by decide) (fun c9 => ?_) (fun c9 => ?_)
      · replace hr := gIf_f c9 hr
        refine lv_goto (tgt := 2884) hx hb dL_law_2756 (by decide) ?_
        exact w_L_law_J2884 X hst hsc hsb hbs Hr28 hr hI (lv_sub hl [2, 3, 4, 5, 6, 7] rfl) (by omega)
      · replace hr := gIf_t c9 hr
        refine lv_aload_n hx hb dL_law_2744 rfl (lv_at hl 5 rfl) ?_
        refine lv_iconst (v := 0) hx hb dL_law_2745 (by decide) ?_
        refine g_lald X hI hr dL_law_2746 (fun v870 hr => ?_)
        refine lv_iload hx hb dL_law_2747 (lv_at hl 0 rfl) ?_
        refine lv_i2l hx hb dL_law_2749 rfl ?_
        refine W.lcmp hx hb dL_law_2750 ?_
        refine lv_if_eq (tgt := 2756) hx hb dL_law_2751 (by decide) (fun c9 => ?_) (fun c9 => ?_)
        · replace hr := gIf_t c9 hr
          refine lv_goto (tgt := 2884) hx hb dL_law_2756 (by decide) ?_
          exact w_L_law_J2884 X hst hsc hsb hbs Hr28 hr hI (lv_sub hl [2, 3, 4, 5, 6, 7] rfl) (by omega)
        · replace hr := gIf_f c9 hr
          refine lv_iconst (v := 0) hx hb dL_law_2754 (by decide) ?_
          exact absurd hr (by decide)
    · replace hr := gIf_f c9 hr
      refine lv_iconst (v := 0) hx hb dL_law_2737 (by decide) ?_
      exact absurd hr (by decide)
  · exact nomatch hr
set_option maxHeartbeats 2000000 in
theorem w_L_law_J2759 {h : gH} {n : Nat} {r28 : Int32 → gH → Nat → Option Int32} {z1 : Nat} {z2 : Nat} {z3 : Nat} {z4 : Nat} {b28 : Nat} {d28 : Nat} {z5 : Int32} (X : gXX x base RX0 cL_law 10 (some .boolean) p l s m args meth c) (hst : l.stackTraces = false) (hsc : va_X zb zL zx s s.heap) (hsb : zb < s.heap.size) (hbs : base = s.heap.size) (Hr28 : ∀ {z5 : Int32} {h : gH} {n : Nat} {H : Heap} {locs : List Loc} {ls : Array Slot} {cells slots : Nat}, r28 z5 h n = some (1 : Int32) → gI x base s.heap h n H locs → lv_has ls 10 [(0, .ref zb), (1, .ref z1), (2, .ref z2), (3, .ref z3), (4, .ref z4), (5, .int z5)] → (cells + b28 ≤ 1200144 ∧ slots + d28 ≤ 5496442) → W p l e room_1 s m args below meth c H locs cells slots (lw_Z below args s) (F0 m 28 ls [])) {H : Heap} {locs : List Loc} {ls : Array Slot} {cells slots : Nat} (hr : f_L_law_J2759 x zL zx r28 z1 z2 z3 z4 z5 h n = some (1 : Int32)) (hI : gI x base s.heap h n H locs) (hl : lv_has ls 10 [(0, .ref zb), (1, .ref z1), (2, .ref z2), (3, .ref z3), (4, .ref z4), (5, .int z5)]) (hcc : cells + (7 + b28) ≤ 1200144 ∧ slots + (54 + d28) ≤ 5496442) : W p l e room_1 s m args below meth c H locs cells slots (lw_Z below args s) (F0 m 2759 ls []) := by
  have hx := X.1
  have hb := X.2.1
  unfold f_L_law_J2759 at hr
  refine lv_aload_n hx hb dL_law_2759 rfl (lv_at hl 1 rfl) ?_
  refine lv_aload_n hx hb dL_law_2760 rfl (lv_at hl 0 rfl) ?_
  refine lv_iload hx hb dL_law_2761 (lv_at hl 5 rfl) ?_
  refine lv_iconst (v := 1) hx hb dL_law_2763 (by decide) ?_
  refine lv_iadd hx hb dL_law_2764 ?_
  refine g_sld X hI hsc hsb hbs hr dL_law_2765 (fun v871 hr => ?_)
  refine lv_aload_n hx hb dL_law_2766 rfl (lv_at hl 3 rfl) ?_
  rcases gTX_i hr with ⟨v873, h875, n876, hc872, hr⟩ | ⟨q874, h877, n878, hc872, hr⟩
  · refine gXRet_i (g_wrunS X hI (w_X0_restore hst hc872) hl (lw_SW q1570 q1571 q95 q1572) rfl rfl hd_X0_restore ⟨Nat.le_of_ble_eq_true rfl, Nat.le_of_ble_eq_true rfl⟩ (as := [.ref z1, .int v871, .ref z3]) (rest := []) rfl rfl (Nat.le_of_ble_eq_true rfl) ⟨(show cells + 7 ≤ 1200144 from by omega), (show slots + 54 ≤ 5496442 from by omega)⟩ dL_law_2767) (fun H locs hI => ?_)
    refine lv_istore (lv' := [(6, .int v873), (0, .ref zb), (1, .ref z1), (2, .ref z2), (3, .ref z3), (4, .ref z4), (5, .int z5)]) hx hb dL_law_2770 hl (by decide) rfl (fun ls hl => ?_)
    refine lv_aload_n hx hb dL_law_2772 rfl (lv_at hl 3 rfl) ?_
    refine lv_aload_n hx hb dL_law_2773 rfl (lv_at hl 1 rfl) ?_
    refine lv_iload hx hb dL_law_2774 (lv_at hl 6 rfl) ?_
    refine lv_iconst (v := 1) hx hb dL_law_2776 (by decide) ?_
    refine lv_iadd hx hb dL_law_2777 ?_
    refine g_sld X hI hsc hsb hbs hr dL_law_2778 (fun v879 hr => ?_)
    obtain ⟨M880, hM881, hr⟩ := gB_i hr
    replace hI := hI.toM hM881
    obtain ⟨v883, aM_884, iU_885, iT_886, hc882, hr⟩ := gT4_i hr
    refine gRun_i (g_runV X hI (w_X6_restore hc882) (g_obj_s mH_0) rfl hl (lw_V q2132 q2133 q2134 q122 q2135) rfl rfl hd_X6_restore ⟨Nat.le_of_ble_eq_true rfl, Nat.le_of_ble_eq_true rfl⟩ (as := [.int v879]) (rest := []) rfl rfl (Nat.le_of_ble_eq_true rfl) ⟨(show (cells + 7) + 0 ≤ 1200144 from by omega), (show (slots + 54) + 0 ≤ 5496442 from by omega)⟩ dL_law_2779) (fun H locs hI => ?_)
    refine lv_istore (lv' := [(7, .int v883), (6, .int v873), (0, .ref zb), (1, .ref z1), (2, .ref z2), (3, .ref z3), (4, .ref z4), (5, .int z5)]) hx hb dL_law_2782 hl (by decide) rfl (fun ls hl => ?_)
    refine lv_aload_n hx hb dL_law_2784 rfl (lv_at hl 4 rfl) ?_
    obtain ⟨v888, hc887, hr⟩ := gB_i hr
    refine gRun_i (g_runV X hI (w_X6_thrown hc887) (g_obj_s mH_0) rfl hl (lw_V q1584 q1585 q1586 q122 q1587) rfl rfl hd_X6_thrown ⟨Nat.le_of_ble_eq_true rfl, Nat.le_of_ble_eq_true rfl⟩ (as := []) (rest := []) rfl rfl (Nat.le_of_ble_eq_true rfl) ⟨(show ((cells + 7) + 0) + 0 ≤ 1200144 from by omega), (show ((slots + 54) + 0) + 0 ≤ 5496442 from by omega)⟩ dL_law_2785) (fun H locs hI => ?_)
    refine lv_iload hx hb dL_law_2788 (lv_at hl 1 rfl) ?_
    refine lv_icmp_eq (tgt := 2795) hx hb dL_law_2790 (by decide) (fun c9 => ?_) (fun c9 => ?_)
    · replace hr := gIf_t c9 hr
      refine lv_iload hx hb dL_law_2795 (lv_at hl 1 rfl) ?_
      refine lv_if_ne (tgt := 2812) hx hb dL_law_2797 (by decide) (fun c9 => ?_) (fun c9 => ?_)
      · replace hr := gIf_f c9 hr
        refine lv_goto (tgt := 2884) hx hb dL_law_2812 (by decide) ?_
        exact w_L_law_J2884 X hst hsc hsb hbs Hr28 hr hI (lv_sub hl [2, 3, 4, 5, 6, 7] rfl) (by omega)
      · replace hr := gIf_t c9 hr
        refine lv_aload_n hx hb dL_law_2800 rfl (lv_at hl 5 rfl) ?_
        refine lv_iconst (v := 0) hx hb dL_law_2801 (by decide) ?_
        refine g_lald X hI hr dL_law_2802 (fun v889 hr => ?_)
        refine lv_iload hx hb dL_law_2803 (lv_at hl 0 rfl) ?_
        refine lv_i2l hx hb dL_law_2805 rfl ?_
        refine W.lcmp hx hb dL_law_2806 ?_
        refine lv_if_eq (tgt := 2812) hx hb dL_law_2807 (by decide) (fun c9 => ?_) (fun c9 => ?_)
        · replace hr := gIf_t c9 hr
          refine lv_goto (tgt := 2884) hx hb dL_law_2812 (by decide) ?_
          exact w_L_law_J2884 X hst hsc hsb hbs Hr28 hr hI (lv_sub hl [2, 3, 4, 5, 6, 7] rfl) (by omega)
        · replace hr := gIf_f c9 hr
          refine lv_iconst (v := 0) hx hb dL_law_2810 (by decide) ?_
          exact absurd hr (by decide)
    · replace hr := gIf_f c9 hr
      refine lv_iconst (v := 0) hx hb dL_law_2793 (by decide) ?_
      exact absurd hr (by decide)
  · exact nomatch hr
set_option maxHeartbeats 2000000 in
theorem w_L_law_J2815 {h : gH} {n : Nat} {r28 : Int32 → gH → Nat → Option Int32} {z1 : Nat} {z2 : Nat} {z3 : Nat} {z4 : Nat} {b28 : Nat} {d28 : Nat} {z5 : Int32} (X : gXX x base RX0 cL_law 10 (some .boolean) p l s m args meth c) (hst : l.stackTraces = false) (hsc : va_X zb zL zx s s.heap) (hsb : zb < s.heap.size) (hbs : base = s.heap.size) (Hr28 : ∀ {z5 : Int32} {h : gH} {n : Nat} {H : Heap} {locs : List Loc} {ls : Array Slot} {cells slots : Nat}, r28 z5 h n = some (1 : Int32) → gI x base s.heap h n H locs → lv_has ls 10 [(0, .ref zb), (1, .ref z1), (2, .ref z2), (3, .ref z3), (4, .ref z4), (5, .int z5)] → (cells + b28 ≤ 1200144 ∧ slots + d28 ≤ 5496442) → W p l e room_1 s m args below meth c H locs cells slots (lw_Z below args s) (F0 m 28 ls [])) {H : Heap} {locs : List Loc} {ls : Array Slot} {cells slots : Nat} (hr : f_L_law_J2815 x zL zx r28 z1 z2 z3 z4 z5 h n = some (1 : Int32)) (hI : gI x base s.heap h n H locs) (hl : lv_has ls 10 [(0, .ref zb), (1, .ref z1), (2, .ref z2), (3, .ref z3), (4, .ref z4), (5, .int z5)]) (hcc : cells + (286 + b28) ≤ 1200144 ∧ slots + (286 + d28) ≤ 5496442) : W p l e room_1 s m args below meth c H locs cells slots (lw_Z below args s) (F0 m 2815 ls []) := by
  have hx := X.1
  have hb := X.2.1
  unfold f_L_law_J2815 at hr
  refine lv_aload_n hx hb dL_law_2815 rfl (lv_at hl 1 rfl) ?_
  obtain ⟨_, ho890, hr⟩ := gB_i hr
  obtain ⟨v892, h893, n894, hc891, hr⟩ := gT3_i hr
  refine gRun_i (g_runV X hI (w_X1_writeOwners hst hc891) ho890 rfl hl (lw_V q1084 q1085 q1086 q96 q1087) rfl rfl hd_X1_writeOwners ⟨Nat.le_of_ble_eq_true rfl, Nat.le_of_ble_eq_true rfl⟩ (as := []) (rest := []) rfl rfl (Nat.le_of_ble_eq_true rfl) ⟨(show cells + 286 ≤ 1200144 from by omega), (show slots + 286 ≤ 5496442 from by omega)⟩ dL_law_2816) (fun H locs hI => ?_)
  refine lv_aload_n hx hb dL_law_2819 rfl (lv_at hl 2 rfl) ?_
  obtain ⟨M895, hM896, hr⟩ := gB_i hr
  replace hI := hI.toM hM896
  obtain ⟨v898, aR_899, iW_900, iT_901, hc897, hr⟩ := gT4_i hr
  refine gRun_i (g_runV X hI (w_X6_writeOwners hc897) (g_obj_s mH_0) rfl hl (lw_V q2136 q2137 q2138 q122 q2139) rfl rfl hd_X6_writeOwners ⟨Nat.le_of_ble_eq_true rfl, Nat.le_of_ble_eq_true rfl⟩ (as := []) (rest := [.int v892]) rfl rfl (Nat.le_of_ble_eq_true rfl) ⟨(show (cells + 286) + 0 ≤ 1200144 from by omega), (show (slots + 286) + 0 ≤ 5496442 from by omega)⟩ dL_law_2820) (fun H locs hI => ?_)
  refine lv_icmp_eq (tgt := 2884) hx hb dL_law_2823 (by decide) (fun c9 => ?_) (fun c9 => ?_)
  · replace hr := gIf_t c9 hr
    exact w_L_law_J2884 X hst hsc hsb hbs Hr28 hr hI (lv_sub hl [0, 1, 2, 3, 4, 5] rfl) (by omega)
  · replace hr := gIf_f c9 hr
    refine lv_iconst (v := 0) hx hb dL_law_2826 (by decide) ?_
    exact absurd hr (by decide)
set_option maxHeartbeats 2000000 in
theorem w_L_law_J2828 {h : gH} {n : Nat} {r28 : Int32 → gH → Nat → Option Int32} {z1 : Nat} {z2 : Nat} {z3 : Nat} {z4 : Nat} {b28 : Nat} {d28 : Nat} {z5 : Int32} (X : gXX x base RX0 cL_law 10 (some .boolean) p l s m args meth c) (hst : l.stackTraces = false) (hsc : va_X zb zL zx s s.heap) (hsb : zb < s.heap.size) (hbs : base = s.heap.size) (Hr28 : ∀ {z5 : Int32} {h : gH} {n : Nat} {H : Heap} {locs : List Loc} {ls : Array Slot} {cells slots : Nat}, r28 z5 h n = some (1 : Int32) → gI x base s.heap h n H locs → lv_has ls 10 [(0, .ref zb), (1, .ref z1), (2, .ref z2), (3, .ref z3), (4, .ref z4), (5, .int z5)] → (cells + b28 ≤ 1200144 ∧ slots + d28 ≤ 5496442) → W p l e room_1 s m args below meth c H locs cells slots (lw_Z below args s) (F0 m 28 ls [])) {H : Heap} {locs : List Loc} {ls : Array Slot} {cells slots : Nat} (hr : f_L_law_J2828 x zL zx r28 z1 z2 z3 z4 z5 h n = some (1 : Int32)) (hI : gI x base s.heap h n H locs) (hl : lv_has ls 10 [(0, .ref zb), (1, .ref z1), (2, .ref z2), (3, .ref z3), (4, .ref z4), (5, .int z5)]) (hcc : cells + (1 + b28) ≤ 1200144 ∧ slots + (6 + d28) ≤ 5496442) : W p l e room_1 s m args below meth c H locs cells slots (lw_Z below args s) (F0 m 2828 ls []) := by
  have hx := X.1
  have hb := X.2.1
  unfold f_L_law_J2828 at hr
  refine lv_aload_n hx hb dL_law_2828 rfl (lv_at hl 1 rfl) ?_
  refine lv_aload_n hx hb dL_law_2829 rfl (lv_at hl 0 rfl) ?_
  refine lv_iload hx hb dL_law_2830 (lv_at hl 5 rfl) ?_
  refine lv_iconst (v := 1) hx hb dL_law_2832 (by decide) ?_
  refine lv_iadd hx hb dL_law_2833 ?_
  refine g_sld X hI hsc hsb hbs hr dL_law_2834 (fun v902 hr => ?_)
  refine lv_aload_n hx hb dL_law_2835 rfl (lv_at hl 3 rfl) ?_
  rcases gTX_i hr with ⟨v904, h906, n907, hc903, hr⟩ | ⟨q905, h908, n909, hc903, hr⟩
  · refine gXRet_i (g_wrunS X hI (w_X0_outputByte hst hc903) hl (lw_SW q1577 q1578 q95 q1579) rfl rfl hd_X0_outputByte ⟨Nat.le_of_ble_eq_true rfl, Nat.le_of_ble_eq_true rfl⟩ (as := [.ref z1, .int v902, .ref z3]) (rest := []) rfl rfl (Nat.le_of_ble_eq_true rfl) ⟨(show cells + 1 ≤ 1200144 from by omega), (show slots + 6 ≤ 5496442 from by omega)⟩ dL_law_2836) (fun H locs hI => ?_)
    refine lv_istore (lv' := [(6, .int v904), (0, .ref zb), (1, .ref z1), (2, .ref z2), (3, .ref z3), (4, .ref z4), (5, .int z5)]) hx hb dL_law_2839 hl (by decide) rfl (fun ls hl => ?_)
    refine lv_aload_n hx hb dL_law_2841 rfl (lv_at hl 3 rfl) ?_
    refine lv_aload_n hx hb dL_law_2842 rfl (lv_at hl 1 rfl) ?_
    refine lv_iload hx hb dL_law_2843 (lv_at hl 6 rfl) ?_
    refine lv_iconst (v := 1) hx hb dL_law_2845 (by decide) ?_
    refine lv_iadd hx hb dL_law_2846 ?_
    refine g_sld X hI hsc hsb hbs hr dL_law_2847 (fun v910 hr => ?_)
    obtain ⟨M911, hM912, hr⟩ := gB_i hr
    replace hI := hI.toM hM912
    obtain ⟨v914, iT_915, hc913, hr⟩ := gT2_i hr
    refine gRun_i (g_runV X hI (w_X6_outputByte hc913) (g_obj_s mH_0) rfl hl (lw_V q2148 q2149 q2150 q122 q2151) rfl rfl hd_X6_outputByte ⟨Nat.le_of_ble_eq_true rfl, Nat.le_of_ble_eq_true rfl⟩ (as := [.int v910]) (rest := []) rfl rfl (Nat.le_of_ble_eq_true rfl) ⟨(show (cells + 1) + 0 ≤ 1200144 from by omega), (show (slots + 6) + 0 ≤ 5496442 from by omega)⟩ dL_law_2848) (fun H locs hI => ?_)
    refine lv_istore (lv' := [(7, .int v914), (6, .int v904), (0, .ref zb), (1, .ref z1), (2, .ref z2), (3, .ref z3), (4, .ref z4), (5, .int z5)]) hx hb dL_law_2851 hl (by decide) rfl (fun ls hl => ?_)
    refine lv_aload_n hx hb dL_law_2853 rfl (lv_at hl 4 rfl) ?_
    obtain ⟨v917, hc916, hr⟩ := gB_i hr
    refine gRun_i (g_runV X hI (w_X6_thrown hc916) (g_obj_s mH_0) rfl hl (lw_V q1584 q1585 q1586 q122 q1587) rfl rfl hd_X6_thrown ⟨Nat.le_of_ble_eq_true rfl, Nat.le_of_ble_eq_true rfl⟩ (as := []) (rest := []) rfl rfl (Nat.le_of_ble_eq_true rfl) ⟨(show ((cells + 1) + 0) + 0 ≤ 1200144 from by omega), (show ((slots + 6) + 0) + 0 ≤ 5496442 from by omega)⟩ dL_law_2854) (fun H locs hI => ?_)
    refine lv_iload hx hb dL_law_2857 (lv_at hl 1 rfl) ?_
    refine lv_icmp_eq (tgt := 2864) hx hb dL_law_2859 (by decide) (fun c9 => ?_) (fun c9 => ?_)
    · replace hr := gIf_t c9 hr
      refine lv_iload hx hb dL_law_2864 (lv_at hl 1 rfl) ?_
      refine lv_if_ne (tgt := 2881) hx hb dL_law_2866 (by decide) (fun c9 => ?_) (fun c9 => ?_)
      · replace hr := gIf_f c9 hr
        refine lv_goto (tgt := 2884) hx hb dL_law_2881 (by decide) ?_
        exact w_L_law_J2884 X hst hsc hsb hbs Hr28 hr hI (lv_sub hl [2, 3, 4, 5, 6, 7] rfl) (by omega)
      · replace hr := gIf_t c9 hr
        refine lv_aload_n hx hb dL_law_2869 rfl (lv_at hl 5 rfl) ?_
        refine lv_iconst (v := 0) hx hb dL_law_2870 (by decide) ?_
        refine g_lald X hI hr dL_law_2871 (fun v918 hr => ?_)
        refine lv_iload hx hb dL_law_2872 (lv_at hl 0 rfl) ?_
        refine lv_i2l hx hb dL_law_2874 rfl ?_
        refine W.lcmp hx hb dL_law_2875 ?_
        refine lv_if_eq (tgt := 2881) hx hb dL_law_2876 (by decide) (fun c9 => ?_) (fun c9 => ?_)
        · replace hr := gIf_t c9 hr
          refine lv_goto (tgt := 2884) hx hb dL_law_2881 (by decide) ?_
          exact w_L_law_J2884 X hst hsc hsb hbs Hr28 hr hI (lv_sub hl [2, 3, 4, 5, 6, 7] rfl) (by omega)
        · replace hr := gIf_f c9 hr
          refine lv_iconst (v := 0) hx hb dL_law_2879 (by decide) ?_
          exact absurd hr (by decide)
    · replace hr := gIf_f c9 hr
      refine lv_iconst (v := 0) hx hb dL_law_2862 (by decide) ?_
      exact absurd hr (by decide)
  · exact nomatch hr
set_option maxHeartbeats 2000000 in
theorem w_L_law_L28 {z1 : Nat} {z2 : Nat} {z3 : Nat} {z4 : Nat} (X : gXX x base RX0 cL_law 10 (some .boolean) p l s m args meth c) (hst : l.stackTraces = false) (hsc : va_X zb zL zx s s.heap) (hsb : zb < s.heap.size) (hbs : base = s.heap.size) : ∀ (k : Nat) {z5 : Int32} {h : gH} {n : Nat} {H : Heap} {locs : List Loc} {ls : Array Slot} {cells slots : Nat}, gL3 (f_L_law_L28 x zL zx z1 z2 z3 z4) k z5 h n = some (1 : Int32) → gI x base s.heap h n H locs → lv_has ls 10 [(0, .ref zb), (1, .ref z1), (2, .ref z2), (3, .ref z3), (4, .ref z4), (5, .int z5)] → (cells + (k * 492 + (492)) ≤ 1200144 ∧ slots + (k * 3647 + (3647)) ≤ 5496442) → W p l e room_1 s m args below meth c H locs cells slots (lw_Z below args s) (F0 m 28 ls []) := by
  have hx := X.1
  have hb := X.2.1
  intro k
  induction k with
  | zero =>
    intros
    rename_i hr _ _ _
    exact nomatch (show (none : Option _) = some _ from hr)
  | succ k ih =>
    intro z5 h n H locs ls cells slots hr hI hl hcc
    replace hr : f_L_law_L28 x zL zx z1 z2 z3 z4 (gL3 (f_L_law_L28 x zL zx z1 z2 z3 z4) k) z5 h n = some (1 : Int32) := hr
    unfold f_L_law_L28 at hr
    refine lv_iload hx hb dL_law_28 (lv_at hl 5 rfl) ?_
    refine lv_aload_n hx hb dL_law_30 rfl (lv_at hl 0 rfl) ?_
    refine g_slen X hI hsc hsb hbs dL_law_31 ?_
    refine lv_bipush (v := 6) hx hb dL_law_32 (by decide) ?_
    refine lv_isub hx hb dL_law_34 ?_
    refine lv_icmp_gt (tgt := 2890) hx hb dL_law_35 (by decide) (fun c9 => ?_) (fun c9 => ?_)
    · replace hr := gIf_t c9 hr
      refine lv_iconst (v := 1) hx hb dL_law_2890 (by decide) ?_
      exact g_lawret X hI hbs (show cells ≤ 1200144 from by omega) (show slots ≤ 5496442 from by omega) dL_law_2891
    · replace hr := gIf_f c9 hr
      refine lv_aload_n hx hb dL_law_38 rfl (lv_at hl 0 rfl) ?_
      refine lv_iload hx hb dL_law_39 (lv_at hl 5 rfl) ?_
      refine g_sld X hI hsc hsb hbs hr dL_law_41 (fun v25 hr => ?_)
      refine lv_bipush (v := 63) hx hb dL_law_42 (by decide) ?_
      refine lv_iand hx hb dL_law_44 ?_
      by_cases c9 : (v25 &&& (63 : Int32)) = 0
      · replace hr := gIf_t c9 hr
        refine lv_tableIn (off := 243) (tgt := 288) hx hb dL_law_45 (by rw [c9]; decide) (by rw [c9]; decide) (by rw [c9]; rfl) (by decide) ?_
        exact w_L_law_J288 X hst hsc hsb hbs ih hr hI (lv_sub hl [0, 1, 2, 3, 4, 5] rfl) (by omega)
      replace hr := gIf_f c9 hr
      have n0 := c9
      by_cases c9 : (v25 &&& (63 : Int32)) = 1
      · replace hr := gIf_t c9 hr
        refine lv_tableIn (off := 347) (tgt := 392) hx hb dL_law_45 (by rw [c9]; decide) (by rw [c9]; decide) (by rw [c9]; rfl) (by decide) ?_
        exact w_L_law_J392 X hst hsc hsb hbs ih hr hI (lv_sub hl [0, 1, 2, 3, 4, 5] rfl) (by omega)
      replace hr := gIf_f c9 hr
      have n1 := c9
      by_cases c9 : (v25 &&& (63 : Int32)) = 2
      · replace hr := gIf_t c9 hr
        refine lv_tableIn (off := 403) (tgt := 448) hx hb dL_law_45 (by rw [c9]; decide) (by rw [c9]; decide) (by rw [c9]; rfl) (by decide) ?_
        exact w_L_law_J448 X hst hsc hsb hbs ih hr hI (lv_sub hl [0, 1, 2, 3, 4, 5] rfl) (by omega)
      replace hr := gIf_f c9 hr
      have n2 := c9
      by_cases c9 : (v25 &&& (63 : Int32)) = 3
      · replace hr := gIf_t c9 hr
        refine lv_tableIn (off := 447) (tgt := 492) hx hb dL_law_45 (by rw [c9]; decide) (by rw [c9]; decide) (by rw [c9]; rfl) (by decide) ?_
        exact w_L_law_J492 X hst hsc hsb hbs ih hr hI (lv_sub hl [0, 1, 2, 3, 4, 5] rfl) (by omega)
      replace hr := gIf_f c9 hr
      have n3 := c9
      by_cases c9 : (v25 &&& (63 : Int32)) = 4
      · replace hr := gIf_t c9 hr
        refine lv_tableIn (off := 460) (tgt := 505) hx hb dL_law_45 (by rw [c9]; decide) (by rw [c9]; decide) (by rw [c9]; rfl) (by decide) ?_
        exact w_L_law_J505 X hst hsc hsb hbs ih hr hI (lv_sub hl [0, 1, 2, 3, 4, 5] rfl) (by omega)
      replace hr := gIf_f c9 hr
      have n4 := c9
      by_cases c9 : (v25 &&& (63 : Int32)) = 5
      · replace hr := gIf_t c9 hr
        refine lv_tableIn (off := 473) (tgt := 518) hx hb dL_law_45 (by rw [c9]; decide) (by rw [c9]; decide) (by rw [c9]; rfl) (by decide) ?_
        exact w_L_law_J518 X hst hsc hsb hbs ih hr hI (lv_sub hl [0, 1, 2, 3, 4, 5] rfl) (by omega)
      replace hr := gIf_f c9 hr
      have n5 := c9
      by_cases c9 : (v25 &&& (63 : Int32)) = 6
      · replace hr := gIf_t c9 hr
        refine lv_tableIn (off := 486) (tgt := 531) hx hb dL_law_45 (by rw [c9]; decide) (by rw [c9]; decide) (by rw [c9]; rfl) (by decide) ?_
        exact w_L_law_J531 X hst hsc hsb hbs ih hr hI (lv_sub hl [0, 1, 2, 3, 4, 5] rfl) (by omega)
      replace hr := gIf_f c9 hr
      have n6 := c9
      by_cases c9 : (v25 &&& (63 : Int32)) = 7
      · replace hr := gIf_t c9 hr
        refine lv_tableIn (off := 499) (tgt := 544) hx hb dL_law_45 (by rw [c9]; decide) (by rw [c9]; decide) (by rw [c9]; rfl) (by decide) ?_
        exact w_L_law_J544 X hst hsc hsb hbs ih hr hI (lv_sub hl [0, 1, 2, 3, 4, 5] rfl) (by omega)
      replace hr := gIf_f c9 hr
      have n7 := c9
      by_cases c9 : (v25 &&& (63 : Int32)) = 8
      · replace hr := gIf_t c9 hr
        refine lv_tableIn (off := 567) (tgt := 612) hx hb dL_law_45 (by rw [c9]; decide) (by rw [c9]; decide) (by rw [c9]; rfl) (by decide) ?_
        exact w_L_law_J612 X hst hsc hsb hbs ih hr hI (lv_sub hl [0, 1, 2, 3, 4, 5] rfl) (by omega)
      replace hr := gIf_f c9 hr
      have n8 := c9
      by_cases c9 : (v25 &&& (63 : Int32)) = 9
      · replace hr := gIf_t c9 hr
        refine lv_tableIn (off := 611) (tgt := 656) hx hb dL_law_45 (by rw [c9]; decide) (by rw [c9]; decide) (by rw [c9]; rfl) (by decide) ?_
        exact w_L_law_J656 X hst hsc hsb hbs ih hr hI (lv_sub hl [0, 1, 2, 3, 4, 5] rfl) (by omega)
      replace hr := gIf_f c9 hr
      have n9 := c9
      by_cases c9 : (v25 &&& (63 : Int32)) = 10
      · replace hr := gIf_t c9 hr
        refine lv_tableIn (off := 679) (tgt := 724) hx hb dL_law_45 (by rw [c9]; decide) (by rw [c9]; decide) (by rw [c9]; rfl) (by decide) ?_
        exact w_L_law_J724 X hst hsc hsb hbs ih hr hI (lv_sub hl [0, 1, 2, 3, 4, 5] rfl) (by omega)
      replace hr := gIf_f c9 hr
      have n10 := c9
      by_cases c9 : (v25 &&& (63 : Int32)) = 11
      · replace hr := gIf_t c9 hr
        refine lv_tableIn (off := 735) (tgt := 780) hx hb dL_law_45 (by rw [c9]; decide) (by rw [c9]; decide) (by rw [c9]; rfl) (by decide) ?_
        exact w_L_law_J780 X hst hsc hsb hbs ih hr hI (lv_sub hl [0, 1, 2, 3, 4, 5] rfl) (by omega)
      replace hr := gIf_f c9 hr
      have n11 := c9
      by_cases c9 : (v25 &&& (63 : Int32)) = 12
      · replace hr := gIf_t c9 hr
        refine lv_tableIn (off := 815) (tgt := 860) hx hb dL_law_45 (by rw [c9]; decide) (by rw [c9]; decide) (by rw [c9]; rfl) (by decide) ?_
        exact w_L_law_J860 X hst hsc hsb hbs ih hr hI (lv_sub hl [0, 1, 2, 3, 4, 5] rfl) (by omega)
      replace hr := gIf_f c9 hr
      have n12 := c9
      by_cases c9 : (v25 &&& (63 : Int32)) = 13
      · replace hr := gIf_t c9 hr
        refine lv_tableIn (off := 871) (tgt := 916) hx hb dL_law_45 (by rw [c9]; decide) (by rw [c9]; decide) (by rw [c9]; rfl) (by decide) ?_
        exact w_L_law_J916 X hst hsc hsb hbs ih hr hI (lv_sub hl [0, 1, 2, 3, 4, 5] rfl) (by omega)
      replace hr := gIf_f c9 hr
      have n13 := c9
      by_cases c9 : (v25 &&& (63 : Int32)) = 14
      · replace hr := gIf_t c9 hr
        refine lv_tableIn (off := 939) (tgt := 984) hx hb dL_law_45 (by rw [c9]; decide) (by rw [c9]; decide) (by rw [c9]; rfl) (by decide) ?_
        exact w_L_law_J984 X hst hsc hsb hbs ih hr hI (lv_sub hl [0, 1, 2, 3, 4, 5] rfl) (by omega)
      replace hr := gIf_f c9 hr
      have n14 := c9
      by_cases c9 : (v25 &&& (63 : Int32)) = 15
      · replace hr := gIf_t c9 hr
        refine lv_tableIn (off := 995) (tgt := 1040) hx hb dL_law_45 (by rw [c9]; decide) (by rw [c9]; decide) (by rw [c9]; rfl) (by decide) ?_
        exact w_L_law_J1040 X hst hsc hsb hbs ih hr hI (lv_sub hl [0, 1, 2, 3, 4, 5] rfl) (by omega)
      replace hr := gIf_f c9 hr
      have n15 := c9
      by_cases c9 : (v25 &&& (63 : Int32)) = 16
      · replace hr := gIf_t c9 hr
        refine lv_tableIn (off := 1051) (tgt := 1096) hx hb dL_law_45 (by rw [c9]; decide) (by rw [c9]; decide) (by rw [c9]; rfl) (by decide) ?_
        exact w_L_law_J1096 X hst hsc hsb hbs ih hr hI (lv_sub hl [0, 1, 2, 3, 4, 5] rfl) (by omega)
      replace hr := gIf_f c9 hr
      have n16 := c9
      by_cases c9 : (v25 &&& (63 : Int32)) = 17
      · replace hr := gIf_t c9 hr
        refine lv_tableIn (off := 1064) (tgt := 1109) hx hb dL_law_45 (by rw [c9]; decide) (by rw [c9]; decide) (by rw [c9]; rfl) (by decide) ?_
        exact w_L_law_J1109 X hst hsc hsb hbs ih hr hI (lv_sub hl [0, 1, 2, 3, 4, 5] rfl) (by omega)
      replace hr := gIf_f c9 hr
      have n17 := c9
      by_cases c9 : (v25 &&& (63 : Int32)) = 18
      · replace hr := gIf_t c9 hr
        refine lv_tableIn (off := 1144) (tgt := 1189) hx hb dL_law_45 (by rw [c9]; decide) (by rw [c9]; decide) (by rw [c9]; rfl) (by decide) ?_
        exact w_L_law_J1189 X hst hsc hsb hbs ih hr hI (lv_sub hl [0, 1, 2, 3, 4, 5] rfl) (by omega)
      replace hr := gIf_f c9 hr
      have n18 := c9
      by_cases c9 : (v25 &&& (63 : Int32)) = 19
      · replace hr := gIf_t c9 hr
        refine lv_tableIn (off := 1200) (tgt := 1245) hx hb dL_law_45 (by rw [c9]; decide) (by rw [c9]; decide) (by rw [c9]; rfl) (by decide) ?_
        exact w_L_law_J1245 X hst hsc hsb hbs ih hr hI (lv_sub hl [0, 1, 2, 3, 4, 5] rfl) (by omega)
      replace hr := gIf_f c9 hr
      have n19 := c9
      by_cases c9 : (v25 &&& (63 : Int32)) = 20
      · replace hr := gIf_t c9 hr
        refine lv_tableIn (off := 1275) (tgt := 1320) hx hb dL_law_45 (by rw [c9]; decide) (by rw [c9]; decide) (by rw [c9]; rfl) (by decide) ?_
        exact w_L_law_J1320 X hst hsc hsb hbs ih hr hI (lv_sub hl [0, 1, 2, 3, 4, 5] rfl) (by omega)
      replace hr := gIf_f c9 hr
      have n20 := c9
      by_cases c9 : (v25 &&& (63 : Int32)) = 21
      · replace hr := gIf_t c9 hr
        refine lv_tableIn (off := 1350) (tgt := 1395) hx hb dL_law_45 (by rw [c9]; decide) (by rw [c9]; decide) (by rw [c9]; rfl) (by decide) ?_
        exact w_L_law_J1395 X hst hsc hsb hbs ih hr hI (lv_sub hl [0, 1, 2, 3, 4, 5] rfl) (by omega)
      replace hr := gIf_f c9 hr
      have n21 := c9
      by_cases c9 : (v25 &&& (63 : Int32)) = 22
      · replace hr := gIf_t c9 hr
        refine lv_tableIn (off := 1363) (tgt := 1408) hx hb dL_law_45 (by rw [c9]; decide) (by rw [c9]; decide) (by rw [c9]; rfl) (by decide) ?_
        exact w_L_law_J1408 X hst hsc hsb hbs ih hr hI (lv_sub hl [0, 1, 2, 3, 4, 5] rfl) (by omega)
      replace hr := gIf_f c9 hr
      have n22 := c9
      by_cases c9 : (v25 &&& (63 : Int32)) = 23
      · replace hr := gIf_t c9 hr
        refine lv_tableIn (off := 1376) (tgt := 1421) hx hb dL_law_45 (by rw [c9]; decide) (by rw [c9]; decide) (by rw [c9]; rfl) (by decide) ?_
        exact w_L_law_J1421 X hst hsc hsb hbs ih hr hI (lv_sub hl [0, 1, 2, 3, 4, 5] rfl) (by omega)
      replace hr := gIf_f c9 hr
      have n23 := c9
      by_cases c9 : (v25 &&& (63 : Int32)) = 24
      · replace hr := gIf_t c9 hr
        refine lv_tableIn (off := 1389) (tgt := 1434) hx hb dL_law_45 (by rw [c9]; decide) (by rw [c9]; decide) (by rw [c9]; rfl) (by decide) ?_
        exact w_L_law_J1434 X hst hsc hsb hbs ih hr hI (lv_sub hl [0, 1, 2, 3, 4, 5] rfl) (by omega)
      replace hr := gIf_f c9 hr
      have n24 := c9
      by_cases c9 : (v25 &&& (63 : Int32)) = 25
      · replace hr := gIf_t c9 hr
        refine lv_tableIn (off := 1452) (tgt := 1497) hx hb dL_law_45 (by rw [c9]; decide) (by rw [c9]; decide) (by rw [c9]; rfl) (by decide) ?_
        exact w_L_law_J1497 X hst hsc hsb hbs ih hr hI (lv_sub hl [0, 1, 2, 3, 4, 5] rfl) (by omega)
      replace hr := gIf_f c9 hr
      have n25 := c9
      by_cases c9 : (v25 &&& (63 : Int32)) = 26
      · replace hr := gIf_t c9 hr
        refine lv_tableIn (off := 1465) (tgt := 1510) hx hb dL_law_45 (by rw [c9]; decide) (by rw [c9]; decide) (by rw [c9]; rfl) (by decide) ?_
        exact w_L_law_J1510 X hst hsc hsb hbs ih hr hI (lv_sub hl [0, 1, 2, 3, 4, 5] rfl) (by omega)
      replace hr := gIf_f c9 hr
      have n26 := c9
      by_cases c9 : (v25 &&& (63 : Int32)) = 27
      · replace hr := gIf_t c9 hr
        refine lv_tableIn (off := 1521) (tgt := 1566) hx hb dL_law_45 (by rw [c9]; decide) (by rw [c9]; decide) (by rw [c9]; rfl) (by decide) ?_
        exact w_L_law_J1566 X hst hsc hsb hbs ih hr hI (lv_sub hl [0, 1, 2, 3, 4, 5] rfl) (by omega)
      replace hr := gIf_f c9 hr
      have n27 := c9
      by_cases c9 : (v25 &&& (63 : Int32)) = 28
      · replace hr := gIf_t c9 hr
        refine lv_tableIn (off := 1589) (tgt := 1634) hx hb dL_law_45 (by rw [c9]; decide) (by rw [c9]; decide) (by rw [c9]; rfl) (by decide) ?_
        exact w_L_law_J1634 X hst hsc hsb hbs ih hr hI (lv_sub hl [0, 1, 2, 3, 4, 5] rfl) (by omega)
      replace hr := gIf_f c9 hr
      have n28 := c9
      by_cases c9 : (v25 &&& (63 : Int32)) = 29
      · replace hr := gIf_t c9 hr
        refine lv_tableIn (off := 1664) (tgt := 1709) hx hb dL_law_45 (by rw [c9]; decide) (by rw [c9]; decide) (by rw [c9]; rfl) (by decide) ?_
        exact w_L_law_J1709 X hst hsc hsb hbs ih hr hI (lv_sub hl [0, 1, 2, 3, 4, 5] rfl) (by omega)
      replace hr := gIf_f c9 hr
      have n29 := c9
      by_cases c9 : (v25 &&& (63 : Int32)) = 30
      · replace hr := gIf_t c9 hr
        refine lv_tableIn (off := 1677) (tgt := 1722) hx hb dL_law_45 (by rw [c9]; decide) (by rw [c9]; decide) (by rw [c9]; rfl) (by decide) ?_
        exact w_L_law_J1722 X hst hsc hsb hbs ih hr hI (lv_sub hl [0, 1, 2, 3, 4, 5] rfl) (by omega)
      replace hr := gIf_f c9 hr
      have n30 := c9
      by_cases c9 : (v25 &&& (63 : Int32)) = 31
      · replace hr := gIf_t c9 hr
        refine lv_tableIn (off := 1690) (tgt := 1735) hx hb dL_law_45 (by rw [c9]; decide) (by rw [c9]; decide) (by rw [c9]; rfl) (by decide) ?_
        exact w_L_law_J1735 X hst hsc hsb hbs ih hr hI (lv_sub hl [0, 1, 2, 3, 4, 5] rfl) (by omega)
      replace hr := gIf_f c9 hr
      have n31 := c9
      by_cases c9 : (v25 &&& (63 : Int32)) = 32
      · replace hr := gIf_t c9 hr
        refine lv_tableIn (off := 1704) (tgt := 1749) hx hb dL_law_45 (by rw [c9]; decide) (by rw [c9]; decide) (by rw [c9]; rfl) (by decide) ?_
        exact w_L_law_J1749 X hst hsc hsb hbs ih hr hI (lv_sub hl [0, 1, 2, 3, 4, 5] rfl) (by omega)
      replace hr := gIf_f c9 hr
      have n32 := c9
      by_cases c9 : (v25 &&& (63 : Int32)) = 33
      · replace hr := gIf_t c9 hr
        refine lv_tableIn (off := 1717) (tgt := 1762) hx hb dL_law_45 (by rw [c9]; decide) (by rw [c9]; decide) (by rw [c9]; rfl) (by decide) ?_
        exact w_L_law_J1762 X hst hsc hsb hbs ih hr hI (lv_sub hl [0, 1, 2, 3, 4, 5] rfl) (by omega)
      replace hr := gIf_f c9 hr
      have n33 := c9
      by_cases c9 : (v25 &&& (63 : Int32)) = 34
      · replace hr := gIf_t c9 hr
        refine lv_tableIn (off := 1730) (tgt := 1775) hx hb dL_law_45 (by rw [c9]; decide) (by rw [c9]; decide) (by rw [c9]; rfl) (by decide) ?_
        exact w_L_law_J1775 X hst hsc hsb hbs ih hr hI (lv_sub hl [0, 1, 2, 3, 4, 5] rfl) (by omega)
      replace hr := gIf_f c9 hr
      have n34 := c9
      by_cases c9 : (v25 &&& (63 : Int32)) = 35
      · replace hr := gIf_t c9 hr
        refine lv_tableIn (off := 1743) (tgt := 1788) hx hb dL_law_45 (by rw [c9]; decide) (by rw [c9]; decide) (by rw [c9]; rfl) (by decide) ?_
        exact w_L_law_J1788 X hst hsc hsb hbs ih hr hI (lv_sub hl [0, 1, 2, 3, 4, 5] rfl) (by omega)
      replace hr := gIf_f c9 hr
      have n35 := c9
      by_cases c9 : (v25 &&& (63 : Int32)) = 36
      · replace hr := gIf_t c9 hr
        refine lv_tableIn (off := 1756) (tgt := 1801) hx hb dL_law_45 (by rw [c9]; decide) (by rw [c9]; decide) (by rw [c9]; rfl) (by decide) ?_
        exact w_L_law_J1801 X hst hsc hsb hbs ih hr hI (lv_sub hl [0, 1, 2, 3, 4, 5] rfl) (by omega)
      replace hr := gIf_f c9 hr
      have n36 := c9
      by_cases c9 : (v25 &&& (63 : Int32)) = 37
      · replace hr := gIf_t c9 hr
        refine lv_tableIn (off := 1834) (tgt := 1879) hx hb dL_law_45 (by rw [c9]; decide) (by rw [c9]; decide) (by rw [c9]; rfl) (by decide) ?_
        exact w_L_law_J1879 X hst hsc hsb hbs ih hr hI (lv_sub hl [0, 1, 2, 3, 4, 5] rfl) (by omega)
      replace hr := gIf_f c9 hr
      have n37 := c9
      by_cases c9 : (v25 &&& (63 : Int32)) = 38
      · replace hr := gIf_t c9 hr
        refine lv_tableIn (off := 1875) (tgt := 1920) hx hb dL_law_45 (by rw [c9]; decide) (by rw [c9]; decide) (by rw [c9]; rfl) (by decide) ?_
        exact w_L_law_J1920 X hst hsc hsb hbs ih hr hI (lv_sub hl [0, 1, 2, 3, 4, 5] rfl) (by omega)
      replace hr := gIf_f c9 hr
      have n38 := c9
      by_cases c9 : (v25 &&& (63 : Int32)) = 39
      · replace hr := gIf_t c9 hr
        refine lv_tableIn (off := 1888) (tgt := 1933) hx hb dL_law_45 (by rw [c9]; decide) (by rw [c9]; decide) (by rw [c9]; rfl) (by decide) ?_
        exact w_L_law_J1933 X hst hsc hsb hbs ih hr hI (lv_sub hl [0, 1, 2, 3, 4, 5] rfl) (by omega)
      replace hr := gIf_f c9 hr
      have n39 := c9
      by_cases c9 : (v25 &&& (63 : Int32)) = 40
      · replace hr := gIf_t c9 hr
        refine lv_tableIn (off := 1944) (tgt := 1989) hx hb dL_law_45 (by rw [c9]; decide) (by rw [c9]; decide) (by rw [c9]; rfl) (by decide) ?_
        exact w_L_law_J1989 X hst hsc hsb hbs ih hr hI (lv_sub hl [0, 1, 2, 3, 4, 5] rfl) (by omega)
      replace hr := gIf_f c9 hr
      have n40 := c9
      by_cases c9 : (v25 &&& (63 : Int32)) = 41
      · replace hr := gIf_t c9 hr
        refine lv_tableIn (off := 2000) (tgt := 2045) hx hb dL_law_45 (by rw [c9]; decide) (by rw [c9]; decide) (by rw [c9]; rfl) (by decide) ?_
        exact w_L_law_J2045 X hst hsc hsb hbs ih hr hI (lv_sub hl [0, 1, 2, 3, 4, 5] rfl) (by omega)
      replace hr := gIf_f c9 hr
      have n41 := c9
      by_cases c9 : (v25 &&& (63 : Int32)) = 42
      · replace hr := gIf_t c9 hr
        refine lv_tableIn (off := 2068) (tgt := 2113) hx hb dL_law_45 (by rw [c9]; decide) (by rw [c9]; decide) (by rw [c9]; rfl) (by decide) ?_
        exact w_L_law_J2113 X hst hsc hsb hbs ih hr hI (lv_sub hl [0, 1, 2, 3, 4, 5] rfl) (by omega)
      replace hr := gIf_f c9 hr
      have n42 := c9
      by_cases c9 : (v25 &&& (63 : Int32)) = 43
      · replace hr := gIf_t c9 hr
        refine lv_tableIn (off := 2081) (tgt := 2126) hx hb dL_law_45 (by rw [c9]; decide) (by rw [c9]; decide) (by rw [c9]; rfl) (by decide) ?_
        exact w_L_law_J2126 X hst hsc hsb hbs ih hr hI (lv_sub hl [0, 1, 2, 3, 4, 5] rfl) (by omega)
      replace hr := gIf_f c9 hr
      have n43 := c9
      by_cases c9 : (v25 &&& (63 : Int32)) = 44
      · replace hr := gIf_t c9 hr
        refine lv_tableIn (off := 2161) (tgt := 2206) hx hb dL_law_45 (by rw [c9]; decide) (by rw [c9]; decide) (by rw [c9]; rfl) (by decide) ?_
        exact w_L_law_J2206 X hst hsc hsb hbs ih hr hI (lv_sub hl [0, 1, 2, 3, 4, 5] rfl) (by omega)
      replace hr := gIf_f c9 hr
      have n44 := c9
      by_cases c9 : (v25 &&& (63 : Int32)) = 45
      · replace hr := gIf_t c9 hr
        refine lv_tableIn (off := 2229) (tgt := 2274) hx hb dL_law_45 (by rw [c9]; decide) (by rw [c9]; decide) (by rw [c9]; rfl) (by decide) ?_
        exact w_L_law_J2274 X hst hsc hsb hbs ih hr hI (lv_sub hl [0, 1, 2, 3, 4, 5] rfl) (by omega)
      replace hr := gIf_f c9 hr
      have n45 := c9
      by_cases c9 : (v25 &&& (63 : Int32)) = 46
      · replace hr := gIf_t c9 hr
        refine lv_tableIn (off := 2297) (tgt := 2342) hx hb dL_law_45 (by rw [c9]; decide) (by rw [c9]; decide) (by rw [c9]; rfl) (by decide) ?_
        exact w_L_law_J2342 X hst hsc hsb hbs ih hr hI (lv_sub hl [0, 1, 2, 3, 4, 5] rfl) (by omega)
      replace hr := gIf_f c9 hr
      have n46 := c9
      by_cases c9 : (v25 &&& (63 : Int32)) = 47
      · replace hr := gIf_t c9 hr
        refine lv_tableIn (off := 2377) (tgt := 2422) hx hb dL_law_45 (by rw [c9]; decide) (by rw [c9]; decide) (by rw [c9]; rfl) (by decide) ?_
        exact w_L_law_J2422 X hst hsc hsb hbs ih hr hI (lv_sub hl [0, 1, 2, 3, 4, 5] rfl) (by omega)
      replace hr := gIf_f c9 hr
      have n47 := c9
      by_cases c9 : (v25 &&& (63 : Int32)) = 48
      · replace hr := gIf_t c9 hr
        refine lv_tableIn (off := 2445) (tgt := 2490) hx hb dL_law_45 (by rw [c9]; decide) (by rw [c9]; decide) (by rw [c9]; rfl) (by decide) ?_
        exact w_L_law_J2490 X hst hsc hsb hbs ih hr hI (lv_sub hl [0, 1, 2, 3, 4, 5] rfl) (by omega)
      replace hr := gIf_f c9 hr
      have n48 := c9
      by_cases c9 : (v25 &&& (63 : Int32)) = 49
      · replace hr := gIf_t c9 hr
        refine lv_tableIn (off := 2458) (tgt := 2503) hx hb dL_law_45 (by rw [c9]; decide) (by rw [c9]; decide) (by rw [c9]; rfl) (by decide) ?_
        exact w_L_law_J2503 X hst hsc hsb hbs ih hr hI (lv_sub hl [0, 1, 2, 3, 4, 5] rfl) (by omega)
      replace hr := gIf_f c9 hr
      have n49 := c9
      by_cases c9 : (v25 &&& (63 : Int32)) = 50
      · replace hr := gIf_t c9 hr
        refine lv_tableIn (off := 2514) (tgt := 2559) hx hb dL_law_45 (by rw [c9]; decide) (by rw [c9]; decide) (by rw [c9]; rfl) (by decide) ?_
        exact w_L_law_J2559 X hst hsc hsb hbs ih hr hI (lv_sub hl [0, 1, 2, 3, 4, 5] rfl) (by omega)
      replace hr := gIf_f c9 hr
      have n50 := c9
      by_cases c9 : (v25 &&& (63 : Int32)) = 51
      · replace hr := gIf_t c9 hr
        refine lv_tableIn (off := 2570) (tgt := 2615) hx hb dL_law_45 (by rw [c9]; decide) (by rw [c9]; decide) (by rw [c9]; rfl) (by decide) ?_
        exact w_L_law_J2615 X hst hsc hsb hbs ih hr hI (lv_sub hl [0, 1, 2, 3, 4, 5] rfl) (by omega)
      replace hr := gIf_f c9 hr
      have n51 := c9
      by_cases c9 : (v25 &&& (63 : Int32)) = 52
      · replace hr := gIf_t c9 hr
        refine lv_tableIn (off := 2614) (tgt := 2659) hx hb dL_law_45 (by rw [c9]; decide) (by rw [c9]; decide) (by rw [c9]; rfl) (by decide) ?_
        exact w_L_law_J2659 X hst hsc hsb hbs ih hr hI (lv_sub hl [0, 1, 2, 3, 4, 5] rfl) (by omega)
      replace hr := gIf_f c9 hr
      have n52 := c9
      by_cases c9 : (v25 &&& (63 : Int32)) = 53
      · replace hr := gIf_t c9 hr
        refine lv_tableIn (off := 2658) (tgt := 2703) hx hb dL_law_45 (by rw [c9]; decide) (by rw [c9]; decide) (by rw [c9]; rfl) (by decide) ?_
        exact w_L_law_J2703 X hst hsc hsb hbs ih hr hI (lv_sub hl [0, 1, 2, 3, 4, 5] rfl) (by omega)
      replace hr := gIf_f c9 hr
      have n53 := c9
      by_cases c9 : (v25 &&& (63 : Int32)) = 54
      · replace hr := gIf_t c9 hr
        refine lv_tableIn (off := 2714) (tgt := 2759) hx hb dL_law_45 (by rw [c9]; decide) (by rw [c9]; decide) (by rw [c9]; rfl) (by decide) ?_
        exact w_L_law_J2759 X hst hsc hsb hbs ih hr hI (lv_sub hl [0, 1, 2, 3, 4, 5] rfl) (by omega)
      replace hr := gIf_f c9 hr
      have n54 := c9
      by_cases c9 : (v25 &&& (63 : Int32)) = 55
      · replace hr := gIf_t c9 hr
        refine lv_tableIn (off := 2770) (tgt := 2815) hx hb dL_law_45 (by rw [c9]; decide) (by rw [c9]; decide) (by rw [c9]; rfl) (by decide) ?_
        exact w_L_law_J2815 X hst hsc hsb hbs ih hr hI (lv_sub hl [0, 1, 2, 3, 4, 5] rfl) (by omega)
      replace hr := gIf_f c9 hr
      have n55 := c9
      by_cases c9 : (v25 &&& (63 : Int32)) = 56
      · replace hr := gIf_t c9 hr
        refine lv_tableIn (off := 2783) (tgt := 2828) hx hb dL_law_45 (by rw [c9]; decide) (by rw [c9]; decide) (by rw [c9]; rfl) (by decide) ?_
        exact w_L_law_J2828 X hst hsc hsb hbs ih hr hI (lv_sub hl [0, 1, 2, 3, 4, 5] rfl) (by omega)
      replace hr := gIf_f c9 hr
      have n56 := c9
      refine lv_tableOut (tgt := 2884) hx hb dL_law_45 (by have m0 := lv_neT (a := 0) n0 (by decide); have m1 := lv_neT (a := 1) n1 (by decide); have m2 := lv_neT (a := 2) n2 (by decide); have m3 := lv_neT (a := 3) n3 (by decide); have m4 := lv_neT (a := 4) n4 (by decide); have m5 := lv_neT (a := 5) n5 (by decide); have m6 := lv_neT (a := 6) n6 (by decide); have m7 := lv_neT (a := 7) n7 (by decide); have m8 := lv_neT (a := 8) n8 (by decide); have m9 := lv_neT (a := 9) n9 (by decide); have m10 := lv_neT (a := 10) n10 (by decide); have m11 := lv_neT (a := 11) n11 (by decide); have m12 := lv_neT (a := 12) n12 (by decide); have m13 := lv_neT (a := 13) n13 (by decide); have m14 := lv_neT (a := 14) n14 (by decide); have m15 := lv_neT (a := 15) n15 (by decide); have m16 := lv_neT (a := 16) n16 (by decide); have m17 := lv_neT (a := 17) n17 (by decide); have m18 := lv_neT (a := 18) n18 (by decide); have m19 := lv_neT (a := 19) n19 (by decide); have m20 := lv_neT (a := 20) n20 (by decide); have m21 := lv_neT (a := 21) n21 (by decide); have m22 := lv_neT (a := 22) n22 (by decide); have m23 := lv_neT (a := 23) n23 (by decide); have m24 := lv_neT (a := 24) n24 (by decide); have m25 := lv_neT (a := 25) n25 (by decide); have m26 := lv_neT (a := 26) n26 (by decide); have m27 := lv_neT (a := 27) n27 (by decide); have m28 := lv_neT (a := 28) n28 (by decide); have m29 := lv_neT (a := 29) n29 (by decide); have m30 := lv_neT (a := 30) n30 (by decide); have m31 := lv_neT (a := 31) n31 (by decide); have m32 := lv_neT (a := 32) n32 (by decide); have m33 := lv_neT (a := 33) n33 (by decide); have m34 := lv_neT (a := 34) n34 (by decide); have m35 := lv_neT (a := 35) n35 (by decide); have m36 := lv_neT (a := 36) n36 (by decide); have m37 := lv_neT (a := 37) n37 (by decide); have m38 := lv_neT (a := 38) n38 (by decide); have m39 := lv_neT (a := 39) n39 (by decide); have m40 := lv_neT (a := 40) n40 (by decide); have m41 := lv_neT (a := 41) n41 (by decide); have m42 := lv_neT (a := 42) n42 (by decide); have m43 := lv_neT (a := 43) n43 (by decide); have m44 := lv_neT (a := 44) n44 (by decide); have m45 := lv_neT (a := 45) n45 (by decide); have m46 := lv_neT (a := 46) n46 (by decide); have m47 := lv_neT (a := 47) n47 (by decide); have m48 := lv_neT (a := 48) n48 (by decide); have m49 := lv_neT (a := 49) n49 (by decide); have m50 := lv_neT (a := 50) n50 (by decide); have m51 := lv_neT (a := 51) n51 (by decide); have m52 := lv_neT (a := 52) n52 (by decide); have m53 := lv_neT (a := 53) n53 (by decide); have m54 := lv_neT (a := 54) n54 (by decide); have m55 := lv_neT (a := 55) n55 (by decide); have m56 := lv_neT (a := 56) n56 (by decide); omega) (by decide) ?_
      exact w_L_law_J2884 X hst hsc hsb hbs ih hr hI (lv_sub hl [0, 1, 2, 3, 4, 5] rfl) (by omega)
set_option maxHeartbeats 2000000 in
theorem w_L_law {h : gH} {n : Nat} (X : gXX x base RX0 cL_law 10 (some .boolean) p l s m args meth c) (hst : l.stackTraces = false) (hsc : va_X zb zL zx s s.heap) (hsb : zb < s.heap.size) (hbs : base = s.heap.size) {H : Heap} {locs : List Loc} {ls : Array Slot} (hr : f_L_law x zL zx h n = some (1 : Int32)) (hI : gI x base s.heap h n H locs) (hl : lv_has ls 10 [(0, .ref zb)]) : W p l e room_1 s m args below meth c H locs 0 0 (lw_Z below args s) (F0 m 0 ls []) := by
  have hx := X.1
  have hb := X.2.1
  have hcc : 0 + 13606 ≤ 1200144 ∧ 0 + 106840 ≤ 5496442 := ⟨Nat.le_of_ble_eq_true rfl, Nat.le_of_ble_eq_true rfl⟩
  unfold f_L_law at hr
  refine g_newO (C := RX1) (T := TX1) (N := 10) (ci := 3) (fs := [.null, .int 0, .int 0, .int 0, .null, .null, .null, .null, .null, .int 0]) X hI in_X1 tyX1 tyX1_ok q129 q130 q96 rfl (g_dflt10 rfl rfl rfl rfl rfl rfl rfl rfl rfl rfl) (show 0 + 1 ≤ 1200144 from by omega) (show 0 + 10 ≤ 5496442 from by omega) hr dL_law_0 (fun q1 h2 n3 H locs hI hr => ?_)
  refine lv_dup hx hb dL_law_3 rfl ?_
  obtain ⟨h5, n6, hc4, hr⟩ := gT2_i hr
  refine gRun_v (g_runI X hI (w_X1_init hst hc4) hl q133 q131 q132 q96 rfl rfl rfl hd_X1_init ⟨Nat.le_of_ble_eq_true rfl, Nat.le_of_ble_eq_true rfl⟩ (as := []) (rest := [.ref q1]) rfl rfl (Nat.le_of_ble_eq_true rfl) ⟨(show (0 + 1) + 308 ≤ 1200144 from by omega), (show (0 + 10) + 3633 ≤ 5496442 from by omega)⟩ dL_law_4) (fun H locs hI => ?_)
  refine lv_astore_n (lv' := [(1, .ref q1), (0, .ref zb)]) hx hb dL_law_7 rfl hl (by decide) rfl (fun ls hl => ?_)
  refine g_newO (C := RX6) (T := TX6) (N := 20) (ci := 4) (fs := [.null, .null, .int 0, .null, .int 0, .int 0, .int 0, .null, .int 0, .int 0, .null, .null, .null, .null, .null, .int 0, .int 0, .int 0, .int 0, .null]) X hI in_X6 tyX6 tyX6_ok q1588 q1589 q122 rfl (g_dflt20 rfl rfl rfl rfl rfl rfl rfl rfl rfl rfl rfl rfl rfl rfl rfl rfl rfl rfl rfl rfl) (show ((0 + 1) + 308) + 1 ≤ 1200144 from by omega) (show ((0 + 10) + 3633) + 20 ≤ 5496442 from by omega) hr dL_law_8 (fun q7 h8 n9 H locs hI hr => ?_)
  refine lv_dup hx hb dL_law_11 rfl ?_
  obtain ⟨h11, n12, hc10, hr⟩ := gT2_i hr
  refine gRun_v (g_runI X hI (w_X6_init hst hc10) hl q1592 q1590 q1591 q122 rfl rfl rfl hd_X6_init ⟨Nat.le_of_ble_eq_true rfl, Nat.le_of_ble_eq_true rfl⟩ (as := []) (rest := [.ref q7]) rfl rfl (Nat.le_of_ble_eq_true rfl) ⟨(show (((0 + 1) + 308) + 1) + 10 ≤ 1200144 from by omega), (show (((0 + 10) + 3633) + 20) + 4706 ≤ 5496442 from by omega)⟩ dL_law_12) (fun H locs hI => ?_)
  refine lv_astore_n (lv' := [(2, .ref q7), (1, .ref q1), (0, .ref zb)]) hx hb dL_law_15 rfl hl (by decide) rfl (fun ls hl => ?_)
  refine lv_iconst (v := 1) hx hb dL_law_16 (by decide) ?_
  refine g_newL (b := 1) X hI q2152 (by decide) (show ((((0 + 1) + 308) + 1) + 10) + 1 ≤ 1200144 from by omega) (show ((((0 + 10) + 3633) + 20) + 4706) + 1 ≤ 5496442 from by omega) hr dL_law_17 (fun q16 h17 n18 H locs hI hr => ?_)
  refine lv_astore_n (lv' := [(3, .ref q16), (2, .ref q7), (1, .ref q1), (0, .ref zb)]) hx hb dL_law_19 rfl hl (by decide) rfl (fun ls hl => ?_)
  refine lv_iconst (v := 1) hx hb dL_law_20 (by decide) ?_
  refine g_newD (b := 1) X hI q2153 (by decide) (show (((((0 + 1) + 308) + 1) + 10) + 1) + 1 ≤ 1200144 from by omega) (show (((((0 + 10) + 3633) + 20) + 4706) + 1) + 1 ≤ 5496442 from by omega) hr dL_law_21 (fun q22 h23 n24 H locs hI hr => ?_)
  refine lv_astore (lv' := [(4, .ref q22), (3, .ref q16), (2, .ref q7), (1, .ref q1), (0, .ref zb)]) hx hb dL_law_23 hl (by decide) rfl (fun ls hl => ?_)
  refine lv_iconst (v := 0) hx hb dL_law_25 (by decide) ?_
  refine lv_istore (lv' := [(5, .int (0 : Int32)), (4, .ref q22), (3, .ref q16), (2, .ref q7), (1, .ref q1), (0, .ref zb)]) hx hb dL_law_26 hl (by decide) rfl (fun ls hl => ?_)
  exact w_L_law_L28 X hst hsc hsb hbs 26 hr hI (lv_sub hl [5, 4, 3, 2, 1, 0] rfl) (by omega)
end GENL
