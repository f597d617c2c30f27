/-! ROWS over the abstract heap: new exceptions -/
section GROW7
variable {p : Program} {l : Launch} {e : Env} {R : Room} {s : State} {m : MethodId} {args : Array Value} {below : List Frame} {meth : Method} {c : Code} {H : Heap} {locs : List Loc} {cells slots : Nat} {Q : State → Prop}
variable {x : gV} {base : Nat} {own : String} {cc : ByteArray} {nL : Nat} {ret : Option FieldType} {pc : Nat} {ls : Array Slot} {rest : List Value} {h : gH} {n : Nat} {H0 : Heap} {ρ : Type} {res : ρ} {a : Nat}
/-- the words of a new exception, at a state of the same tables -/
theorem gx_at {U : State} {L : List Cond} (X : gXX x base own cc nL ret p l s m args meth c) (hvm : s.vm = U.vm) (hG : gG x base U) (hL : ∀ w ∈ L, gxP w) : ∀ w ∈ L.filter vx_no, w.before args U = true := by
  intro w hw
  obtain ⟨hw, hno⟩ := List.mem_filter.mp hw
  have hW0 : s.WarmedH U.vm := by rw [← hvm]; exact State.WarmedH.refl s
  rcases hL w hw with h | ⟨q, hq, rfl⟩ | ⟨y, hy, rfl⟩ | h
  · exact vx_ot_at hW0 hvm (by unfold vx_ot; rw [(List.mem_filter.mp h).2]; exact Bool.or_true _) (X.w h)
  · exact va_Nw.use rfl (hG.2.1 q hq)
  · exact va_Nw.use rfl (hG.2.2.2.2.2.2.2.2.2.2.2.2 y hy)
  · rw [h] at hno; cases hno
theorem g_mk0 {cls : String} {names : List String} {ik ic ci : Nat} (X : gXX x base own cc nL ret p l s m args meth c) (hst : l.stackTraces = false) (hI : gI x base s.heap h n H locs) {lv' : List (Nat × Value)} (hl : lv_has ls nL lv')
    (hcls : Bundle.fit cls = true) (hnames : ∀ n ∈ names, Bundle.fit n = true) (hkl : Cond.classLink own ik cls ∈ lw_all) (hini0 : Cond.initialized cls ∈ lw_all) (hat : ∀ w ∈ Bundle.ownAtoms0 own ic cls names, gxP w) {T0 : u_T} (hc : gCl[ci]? = some (cls, T0, 0))
    (d0 : decode cc pc = .ok (.new ik, 3)) (d3 : decode cc (pc + 3) = .ok (.dup, 1)) (d4 : decode cc (pc + 4) = .ok (.invokespecial ic, 3))
    (hRframes : names.length + 3 < R.frames) (hRlocals : (rest.map fun v => v.category).sum + (13 * (names.length + 1) + 42) ≤ R.locals) (hRcells : cells + 1 ≤ R.cells) (hRslots : slots + 6 ≤ R.slots) {K : Nat → gH → Nat → Option ρ} (hr : gT3 (g_new h n (.inr (ci, []))) K = some res)
    (kk : ∀ (q : Nat) (h1 : gH) (n1 : Nat) (H1 : Heap) (locs1 : List Loc), gI x base s.heap h1 n1 H1 locs1 → K q h1 n1 = some res → W p l e R s m args below meth c H1 locs1 (cells + 1) (slots + 6) Q (F0 m (pc + 7) ls (.ref q :: rest))) :
    W p l e R s m args below meth c H locs cells slots Q (F0 m pc ls rest) := by
  have hr : K n (g_up h n (.inr (ci, []))) (n + 1) = some res := hr
  intro T hT XS
  subst hT
  have e2 := hI.1
  subst e2
  have hexec := X.1
  have hb := X.2.1
  have hown := X.2.2.2.2.1
  have hsize : ls.size = c.maxLocals := hl.1.trans X.2.2.1.symm
  have htr : e.platform.stackTraces = false := (show e.platform.stackTraces = l.stackTraces by rw [XS.admits.platform]).trans hst
  have Y := vx_rebase XS (R' := { frames := R.frames, locals := R.locals, cells := 1, slots := 6 }) (Nat.le_refl _) (Nat.le_refl _) hRcells hRslots
  obtain ⟨s', hA'⟩ : ∃ z, z = (T.setVm s.vm).setFrames (.invoking m args :: below) := ⟨_, rfl⟩
  rw [← hA'] at Y
  have hvm : s'.vm = s.vm := by rw [hA']; rfl
  have hhp : s'.heap = T.heap := by rw [hA']; rfl
  have hW0 : s.WarmedH s'.vm := by rw [hvm]; exact State.WarmedH.refl s
  have hG' : gG x base s' := X.2.2.2.2.2.2.1.go hI.2.2.2.1 hhp hW0
  have good : ∀ w ∈ lw_all, w.before args s' = true := fun w h => vx_ot_at hW0 hvm.symm (by unfold vx_ot; rw [(List.mem_filter.mp h).2]; exact Bool.or_true _) (X.w h)
  have hU' := hG'.2.2.2.2.2.2.2.2.2.2.1
  have hN' := hG'.2.2.2.2.2.2.2.2.2.2.2.1
  have h9 : ∀ w ∈ Bundle.ownAtoms0 own ic cls names, w.before args s' = true := vx_own (gx_at X hvm.symm hG' hat) (vx_isRefq hU'.1) (vx_isRefq hN'.1) hU'.2.word hN'.2.word
  have hown' : s'.vm.findClass own = some m.cls := by rw [hvm]; exact hown
  have hins : (Cond.instantiable cls 6).before args s' = true := h9 _ (by simp [Bundle.ownAtoms0])
  obtain ⟨vm₁, cX, kX, hfX, hkX, -, -, X₁, st1⟩ := Y.newCold hexec (own := own) (C := cls) (index := ik) (n := 6) hown' (good _ hkl) hins (good _ hini0)
    (g := F0 m pc ls rest) rfl (by rw [hb]; exact d0) (Nat.le_refl _) (Nat.le_refl _)
  generalize hT1 : (T.setVm vm₁).pushCell { cls := cX, slots := kX.instanceTypes.map defaultValue, vm := .none } = T1 at X₁ st1
  have hcat : (Value.ref T.heap.size).category = 1 := rfl
  have hcellA : T1.heap[T.heap.size]? = some (freshCell cX kX) := by rw [← hT1]; exact State.heap_pushCell_size _ _
  have d3' : decode c.code (pc + 3) = .ok (.dup, 1) := by rw [hb]; exact d3
  obtain ⟨V, ce, L, Z, hL, hlt, hcl9, hvm9, st⟩ := vx_ctorMade0 X₁ hexec htr (own := own) (cls := cls) (names := names) (ic := ic) hown' hcls hnames h9 (fun x hx => nomatch hx) hfX hkX hcellA (by rw [hhp]; exact Nat.le_refl _)
    (g := { method := m, pc := pc + 4, locals := ls, stack := .ref T.heap.size :: .ref T.heap.size :: rest, locked := none }) rfl hsize (rest := rest) rfl
    (by rw [hb]; exact d4) hRframes (by simp only [List.map_cons, List.sum_cons, hcat]; omega)
  have Z0 := Stand.forget (locs := []) Z (fun y hy => by rw [hL y hy, hhp]; exact Nat.le_refl _)
  obtain ⟨f1, f2⟩ := vx_frame Z0.same
  have f0 := Z0.same.2.2.1
  rw [hhp] at f1 f2
  have hh : (V.setCell T.heap.size ce).heap[T.heap.size]? = some ce := heapAt_setCell_self (s := V) ce hlt
  have hz : (V.setCell T.heap.size ce).heap.size = T.heap.size + 1 := by
    have g1 : T.heap.size < (V.setCell T.heap.size ce).heap.size := (Array.getElem?_eq_some_iff.mp hh).1
    have g2 : (V.setCell T.heap.size ce).heap.size ≤ T.heap.size + 1 := by
      rw [hhp] at f0
      exact f0
    omega
  have hcid : ce.cls = x.1.1 ci := by
    rw [hcl9]
    have h1 := (X.2.2.2.2.2.2.1.1.1 ci _ hc).2.1
    rw [hvm] at hfX
    exact Option.some.inj (hfX.symm.trans h1)
  subst hA'
  have X5 := vx_back9 XS Y Z0
  have X6 : Stand p l e R s m args below meth c (V.setCell T.heap.size ce) locs (cells + 1) (slots + 6) := { X5 with same := X5.same.mono (by omega) (by omega) }
  obtain ⟨t, a1, b1⟩ := kk T.heap.size _ (T.heap.size + 1) (V.setCell T.heap.size ce).heap locs (hI.new (e1 := .inr (ci, [])) hz ⟨_, hc, ce, hh, hcid, hvm9, fun k hk => absurd hk (Nat.not_lt_zero k)⟩ (fun q hq => f2 q hq (fun z hz => nomatch hz))) hr _ rfl X6
  refine ⟨t, st1 _ ?_, b1⟩
  show Steps p.tables e below (T1.setTop { method := m, pc := pc + 3, locals := ls, stack := .ref T.heap.size :: rest, locked := none }) _
  jvm_step X₁.here [X₁.here.top, hexec, d3', Value.category]
  exact st _ a1
end GROW7
