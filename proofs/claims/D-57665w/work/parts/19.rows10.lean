def f_X3_error (z0 : Nat) (z1 : Int32) (h : gH) (n : Nat) : Option (Nat × gH × Nat) := Option.bind (g_fI h z0 2 1) fun v => some (n, g_up h n (.inr (9, [.int z1, .int v])), n + 1)
abbrev rm_X3_error : Room := { frames := 12, cells := 1, slots := 8, locals := 400 }
theorem hd_X3_error : yX3_error.cls = RX3 ∧ yX3_error.cls ≠ "java/lang/invoke/MethodHandle" ∧ yX3_error.cls ≠ "java/lang/invoke/VarHandle" ∧ (parseMethodDescriptor yX3_error.desc).map (fun d => d.parameters.length) = some 1 := by decide +kernel
/-! TextError: the call of Exception's constructor on it, its own constructor, Scanner.error -/
section VXK10
variable {p : Program} {l : Launch} {e : Env} {R : Room} {s : State} {m₀ : MethodId} {args : Array Value} {below : List Frame} {meth : Method} {c : Code} {W : State} {locs : List Loc} {cells slots : Nat}
set_option maxHeartbeats 1000000 in
theorem g_superMade (X : Stand p l e R s m₀ args below meth c W locs cells slots) (hexec : p.tables.exec = Jvm.exec) (htr : e.platform.stackTraces = false) 
    (hown : s.vm.findClass "CakeDivision$TextError" = some m₀.cls) (h : ∀ a ∈ (Bundle.throwableAtoms ++ Bundle.chain0Atoms "java/lang/Exception" []) ++ g_TEw, a.before args s = true)
    (hlocs : ∀ x ∈ locs, ∀ cell, s.heap[x.base]? = some cell → cell.vm.isStatics = false)
    {a : Addr} {cX : ClassId} {kX : Class} (hfoundX : s.vm.findClass "CakeDivision$TextError" = some cX) (hkX : s.vm.classes[cX]? = some kX) (hcell : W.heap[a]? = some (freshCell cX kX)) (hnotS : ∀ cell, s.heap[a]? = some cell → cell.vm.isStatics = false)
    {g : JFrame} (hg : g.method = m₀) (hsize : g.locals.size = c.maxLocals) {rest : List Value} (hstack : g.stack = .ref a :: rest)
    (hd6 : decode c.code g.pc = .ok (.invokespecial 1, 3))
    (hRframes : 0 + 3 < R.frames) (hRlocals : 2 * g.monitorRoom + (rest.map fun v => v.category).sum + (13 * (0 + 1) + 41) ≤ R.locals) :
    ∃ (V : State) (ce : Cell) (L : List Loc), Stand p l e R s m₀ args below meth c (V.setCell a ce) (locs ++ L) cells slots ∧ (∀ y ∈ L, y.base = a) ∧ a < V.heap.size ∧ ce.cls = cX ∧ ce.vm = .none ∧ ce.slots.size = (freshCell cX kX).slots.size ∧ V.heap = W.heap ∧
      ∀ target, Steps p.tables e below ((V.setCell a ce).setTop { g with stack := rest, pc := g.pc + 3 }) target → Steps p.tables e below (W.setTop g) target := by
  have howns : e.platform.frameOwnsMonitors = true := by rw [X.admits.platform]
  have hfin : e.platform.finalization = false := by rw [X.admits.platform]
  have hpl : e.platform.magicAccessors = ({} : Platform).magicAccessors := by rw [X.admits.platform]
  have a' : ∀ x, x ∈ (Bundle.throwableAtoms ++ Bundle.chain0Atoms "java/lang/Exception" []) ++ g_TEw → x.holds args s none s [] = true := fun x hx => h x hx
  obtain ⟨T, Z, L, LZ, Y⟩ := ThrowableC.of_atoms (args := args) howns hfin hpl (fun x hx => h x (by simp [hx]))
  obtain ⟨P1, Ps, hlen, L1, hL, hP1m, hlink1, hlink⟩ := Bundle.chain0 (args := args) hpl Y.init0 [] "java/lang/Exception" (by decide) (fun n hn => nomatch hn) (fun x hx => h x (by simp [hx]))
  have hfound := hfoundX
  obtain ⟨c1, kX', hc1, hk, hord, -, -, hn6⟩ := Cond.instantiable_spec (a' (.instantiable "CakeDivision$TextError" 8) (by simp [g_TEw]))
  cases Option.some.inj (hc1.symm.trans hfound)
  cases Option.some.inj (hkX.symm.trans hk)
  have hsel0 : selectMethod e.platform s.vm cX T.fill0 = .method T.fill0 := by
    obtain ⟨c2, r2, m2, q1, q2, q3, q4, -⟩ := Cond.selects_spec (a' (.selects "CakeDivision$TextError" Bundle.tFill0 Bundle.tFill0) (by simp [g_TEw]))
    cases Option.some.inj (q1.symm.trans hfound)
    cases Option.some.inj (q2.symm.trans (State.methodFound?_of_named Y.fill0 (by decide)))
    cases Option.some.inj (q3.symm.trans Y.fill0)
    rw [Launch.admits_selectMethod X.admits]; exact q4
  have hselF : selectMethod e.platform s.vm cX T.fill = .method T.fill := by
    obtain ⟨c2, r2, m2, q1, q2, q3, q4, -⟩ := Cond.selects_spec (a' (.selects "CakeDivision$TextError" Bundle.tFill Bundle.tFill) (by simp [g_TEw]))
    cases Option.some.inj (q1.symm.trans hfound)
    cases Option.some.inj (q2.symm.trans (State.methodFound?_of_named Y.fill (by decide)))
    cases Option.some.inj (q3.symm.trans Y.fill)
    rw [Launch.admits_selectMethod X.admits]; exact q4
  obtain ⟨cellS0, hcS0, hiss⟩ := Y.statics
  obtain ⟨u0, hu0⟩ := Cond.staticRefV Y.unassigned L.unassignedStatic L.statics hcS0 hiss (a' (.isRef (.static Bundle.tN "UNASSIGNED_STACK" Bundle.steD)) (by simp [g_TEw]))
  obtain ⟨sen, hsen⟩ := Cond.staticRefV Y.sentinel L.sentinelStatic L.statics hcS0 hiss (a' (.isRef (.static Bundle.tN "SUPPRESSED_SENTINEL" Bundle.listD)) (by simp [g_TEw]))
  obtain ⟨ci198, i198, fB, hk198, hg198, ha198, hsB, -, hnB, htB, hffB⟩ := Cond.ownField (t := .object "java/lang/Object") Y.found L.cls (by decide +kernel) (a' (.fieldLink Bundle.tN 198 Bundle.tN "backtrace" "Ljava/lang/Object;") (by simp [g_TEw])) (a' (.lays Bundle.tN Bundle.tN "backtrace" "Ljava/lang/Object;") (by simp [g_TEw])) e.platform hpl
  obtain ⟨cellS, hcS', heS, -, hkeep⟩ := X.same.2.2.2.2.2 T.aS cellS0 hcS0
  have hcellS : W.heap[T.aS]? = some cellS := hcS'
  have hout' : ∀ i, (⟨T.aS, i⟩ : Loc) ∉ locs := fun i hmem => by
    have := hlocs _ hmem cellS0 hcS0
    rw [hiss] at this; cases this
  have hknownS : cellS.vm ≠ .unknown := by
    rw [heS]; intro hu
    rw [show cellS0.vm = .unknown from hu] at hiss
    cases hiss
  have hneS : T.aS ≠ a := fun e9 => by
    have := hnotS cellS0 (by rw [← e9]; exact hcS0)
    rw [hiss] at this; cases this
  obtain ⟨iM, hffM⟩ := Y.msg
  obtain ⟨tyC, dC, hdC, hdnC⟩ := Cond.laysAt hfound hk Y.cause (a' (.lays "CakeDivision$TextError" Bundle.tN "cause" "Ljava/lang/Throwable;") (by simp [g_TEw]))
  obtain ⟨tyS, dS, hdS, hdnS⟩ := Cond.laysAt hfound hk Y.stack (a' (.lays "CakeDivision$TextError" Bundle.tN "stackTrace" Bundle.steD) (by simp [g_TEw]))
  obtain ⟨tyP, dP, hdP, hdnP⟩ := Cond.laysAt hfound hk Y.supp (a' (.lays "CakeDivision$TextError" Bundle.tN "suppressedExceptions" Bundle.listD) (by simp [g_TEw]))
  obtain ⟨tyM, dM, hdM, hdnM⟩ := Cond.laysAt hfound hk hffM (a' (.lays "CakeDivision$TextError" Bundle.tN "detailMessage" "Ljava/lang/String;") (by simp [g_TEw]))
  obtain ⟨tyB, dB, hdB, hdnB⟩ := Cond.laysAt hfound hk hffB (a' (.lays "CakeDivision$TextError" Bundle.tN "backtrace" "Ljava/lang/Object;") (by simp [g_TEw]))
  have bC := Cond.laysApart hdB hdC hdnB hdnC (by rw [hnB, Y.causeName]; decide)
  have bS := Cond.laysApart hdB hdS hdnB hdnS (by rw [hnB, Y.stackName]; decide)
  have bP := Cond.laysApart hdB hdP hdnB hdnP (by rw [hnB, Y.suppName]; decide)
  have hskip : SkipFacts T e.platform s (fun u => u) u0 ((preparedCellV T.toThrowableT (freshCell cX kX) a u0 sen).withEntry W.cur) :=
    ⟨{ ci198 := ci198, i198 := i198, fBack := fB }, ⟨hk198, hg198, ha198, hsB⟩, by
      have := fresh_default (c := cX) tyB
      rw [htB] at this
      simpa [preparedCellV, Cell.setSlot, Cell.withEntry, Array.getElem?_setIfInBounds, bC, bS, bP, bC.symm, bS.symm, bP.symm, defaultValue] using this, fun _ _ => rfl⟩
  obtain ⟨tm, methC, cdC, kC, vm₁, hnC, -, -, -, -, -, -, -, hW₁, st1⟩ := Steps.initCold (tb := p.tables) (e := e) (below := below) (s := s) (U := W) X.here hexec X.warmed hpl hown (t := Bundle.init0 "java/lang/Exception") rfl rfl (by decide)
    (a' (.methodLink "CakeDivision$TextError" 1 (Bundle.init0 "java/lang/Exception")) (by simp [g_TEw])) (h (.instanceMethod (Bundle.init0 "java/lang/Exception")) (by simp [Bundle.chain0Atoms, Bundle.passAtoms])) (bytes := Bundle.five) (maxL := 1) (h (.code (Bundle.init0 "java/lang/Exception") Bundle.five 1 none) (by simp [Bundle.chain0Atoms, Bundle.passAtoms]))
    (f := g) hg (a := a) (rest := rest) hstack hd6
  cases Option.some.inj (hnC.symm.trans hP1m)
  have X₁ := X.noted hW₁
  obtain ⟨vm₂, X₂, st2⟩ := X₁.ctorPlainOffV hexec (g := { g with stack := rest }) hg hsize T L Z LZ (P1 :: Ps)
    (fun P hP => by rcases List.mem_cons.mp hP with rfl | hP; exact L1; exact hL P hP) ⟨hlink1, hlink⟩ (u0 := u0) (sen := sen) (self := a) (cell := freshCell cX kX) (cellS := cellS)
    hcell (fun _ => by simp) (by simp) rfl rfl hsel0 hselF hcellS hneS hknownS (by rw [hkeep _ (hout' _)]; exact hu0) (by rw [hkeep _ (hout' _)]; exact hsen)
    (Takes.of_laid hk hord tyC (by rw [Y.causeType]; rfl)) (Takes.of_laid hk hord tyS (by rw [Y.stackType]; exact fits_refV_array _ u0)) (Takes.of_laid hk hord tyP (by rw [Y.suppType]; exact fits_refV_object _ sen)) Y.objLocals hskip htr [] hd6
    (by simp only [List.length_cons, hlen, List.length_nil]; omega) (by simp only [List.length_cons, hlen, List.length_nil]; exact hRlocals)
  have hlt : a < ((W.setVm vm₁).setVm vm₂).heap.size := (Array.getElem?_eq_some_iff.mp hcell).1
  refine ⟨(W.setVm vm₁).setVm vm₂, _, _, X₂, fun y hy => ?_, hlt, rfl, rfl, ?_, rfl, fun target hwalk => st1 _ (fun acts => ?_)⟩
  · simp only [List.mem_cons, List.not_mem_nil, or_false] at hy
    rcases hy with rfl | rfl | rfl | rfl <;> rfl
  · simp [preparedCellV, Cell.setSlot, Cell.withEntry]
  · rw [doInvoke_state]
    exact st2 _ hwalk
end VXK10
section GROW10
variable {p : Program} {l : Launch} {e : Env} {R : Room} {s : State} {m : MethodId} {args : Array Value} {below : List Frame} {meth : Method} {c : Code} {H : Heap} {locs : List Loc} {cells slots : Nat} {Q : State → Prop}
variable {x : gV} {base : Nat} {own : String} {cc : ByteArray} {nL : Nat} {ret : Option FieldType} {pc : Nat} {ls : Array Slot} {rest : List Value} {h : gH} {n : Nat} {H0 : Heap} {a : Nat}
theorem g_super {cX : ClassId} {kX : Class} {lv' : List (Nat × Value)} (X : gXX x base "CakeDivision$TextError" cc nL ret p l s m args meth c) (hst : l.stackTraces = false) (hl : lv_has ls nL lv') (hfX : s.vm.findClass "CakeDivision$TextError" = some cX) (hkX : s.vm.classes[cX]? = some kX) (hcell : H[a]? = some (freshCell cX kX)) (hs0 : ∀ cell, s.heap[a]? = some cell → cell.vm.isStatics = false) (hA : base ≤ a) (hS : va_S (fun q => base ≤ q) s.heap H []) (hdg : decode cc pc = .ok (.invokespecial 1, 3)) (hRf : 0 + 3 < R.frames) (hRl : (rest.map fun v => v.category).sum + (13 * (0 + 1) + 41) ≤ R.locals)
    (kk : ∀ (H1 : Heap) (locs1 : List Loc) (ce : Cell), H1[a]? = some ce → ce.cls = cX → ce.vm = .none → ce.slots.size = (freshCell cX kX).slots.size → H1.size = H.size → (∀ q : Nat, q ≠ a → H1[q]? = H[q]?) → va_S (fun q => base ≤ q) s.heap H1 locs1 → W p l e R s m args below meth c H1 locs1 cells slots Q (F0 m (pc + 3) ls rest)) : W p l e R s m args below meth c H [] cells slots Q (F0 m pc ls (.ref a :: rest)) := by
  intro T hT XS
  subst hT
  have htr : e.platform.stackTraces = false := (show e.platform.stackTraces = l.stackTraces by rw [XS.admits.platform]).trans hst
  have hG := X.2.2.2.2.2.2.1
  have hU' := hG.2.2.2.2.2.2.2.2.2.2.1
  have hN' := hG.2.2.2.2.2.2.2.2.2.2.2.1
  have h9 : ∀ w ∈ (Bundle.throwableAtoms ++ Bundle.chain0Atoms "java/lang/Exception" []) ++ g_TEw, w.before args s = true := vx_own (gx_at X rfl hG gx_TE) (vx_isRefq hU'.1) (vx_isRefq hN'.1) hU'.2.word hN'.2.word
  obtain ⟨V, ce, L, Z, hL, hlt, hcl9, hvm9, hsz, hVh, st⟩ := g_superMade XS X.1 htr X.2.2.2.2.1 h9 (fun x hx => nomatch hx) hfX hkX hcell hs0 (g := F0 m pc ls (.ref a :: rest)) rfl (hl.1.trans X.2.2.1.symm) (rest := rest) rfl (by rw [X.2.1]; exact hdg) hRf (by show 2 * 0 + _ + _ ≤ _; omega)
  have hh : (V.setCell a ce).heap[a]? = some ce := heapAt_setCell_self (s := V) ce hlt
  have hz : (V.setCell a ce).heap.size = T.heap.size := by rw [← hVh]; simp [State.setCell]
  have hq : ∀ q : Nat, q ≠ a → (V.setCell a ce).heap[q]? = T.heap[q]? := fun q hq => by rw [← hVh]; exact heapAt_setCell_ne (s := V) ce (fun h => hq h.symm)
  obtain ⟨t, a1, b1⟩ := kk (V.setCell a ce).heap ([] ++ L) ce hh hcl9 hvm9 hsz hz hq ⟨by rw [hz]; exact hS.1, fun q h1 h2 => (hq q (fun h => h2 (by rw [h]; exact hA))).trans (hS.2.1 q h1 h2), fun y hy => by rw [hL y (by simpa using hy)]; exact hA⟩ _ rfl Z
  exact ⟨t, st t a1, b1⟩
/-- the start of TextError's constructor: the object is new -/
def gTEp (x : gV) (base : Nat) (h : gH) (n : Nat) (U : State) : Prop := U.heap.size = n + 1 ∧ gP x h U.heap ∧ (∀ (a : Nat) (e : gE), h a = some e → base ≤ a ∧ a < n) ∧ base ≤ n ∧ gG x base U ∧ ∃ (cX : ClassId) (kX : Class), U.vm.findClass "CakeDivision$TextError" = some cX ∧ U.vm.classes[cX]? = some kX ∧ U.heap[n]? = some (freshCell cX kX)
theorem gTEp.blind {as : List Value} : FrameBlind (va_Pc as (gTEp x base h n)) := by
  intro a U g mk q
  obtain ⟨q0, q1, q2, q3, q4, q5, q6⟩ := q
  exact ⟨q0, q1, q2, q3, q4, q5.blind (U := U) (U' := U.calling g mk a) rfl rfl, q6⟩
abbrev rm_X4_init : Room := { frames := 5, cells := 0, slots := 0, locals := 80 }
theorem hd_X4_init : yX4_init.cls ≠ "java/lang/invoke/MethodHandle" ∧ yX4_init.cls ≠ "java/lang/invoke/VarHandle" ∧ (parseMethodDescriptor yX4_init.desc).map (fun d => d.parameters.length) = some 2 := by decide +kernel
theorem g_pf_s {h : gH} {a ci k : Nat} {fs : List Value} {v : Value} (e : h a = some (.inr (ci, fs))) (hk : k < fs.length) : g_pf h a ci k v = some (g_up h a (.inr (ci, fs.set k v))) := by
  unfold g_pf
  rw [g_obj_s e]
  exact if_pos hk
theorem w_X4_init {l : Launch} {x : gV} {base : Nat} (hst : l.stackTraces = false) {z1 z2 : Int32} {h : gH} {n : Nat} : Met l yX4_init (ws_ yX4_init cX4_init 3 none) rm_X4_init (va_Pc [.ref n, .int z1, .int z2] (gTEp x base h n)) (gQ x base none (g_up h n (.inr (9, [.int z1, .int z2]))) (n + 1)) 0 0 (fun q => base ≤ q) := by
  refine Met.ofW (cc := cX4_init) (maxL := 3) (ret := none) (by decide) rfl ?_
  intro p e s m args below meth c s₁ B hml hv
  obtain ⟨rfl, hsz, hP, hW, hbn, hG, cX, kX, hfX, hkX, hcell⟩ := hv
  have hts := atoms_spec (ws := ws_ yX4_init cX4_init 3 none) B.pre
  have hl := lv_entry [.ref n, .int z1, .int z2] (show (lg_sl [.ref n, .int z1, .int z2]).length ≤ 3 from Nat.le_of_ble_eq_true rfl)
  rw [lg_entry_eq]
  generalize (lg_sl [.ref n, .int z1, .int z2] ++ List.replicate (3 - (lg_sl [.ref n, .int z1, .int z2]).length) Slot.unset).toArray = ls at hl ⊢
  have hl : lv_has ls 3 [(0, .ref n), (1, .int z1), (2, .int z2)] := hl
  have hnm : meth.name = "<init>" := (name_of_methodNamed B.named B.method).1
  have X : gXX x base "CakeDivision$TextError" cX4_init 3 none p l s m _ meth c := ⟨B.exec, B.bytes, hml, B.returns, findClass_of_methodNamed B.named, fun w h => hts w (List.mem_cons_of_mem _ h), hG, B.notSynchronized, by rw [hsz]; exact Nat.le_succ_of_le hbn⟩
  have hx := X.1
  have hb := X.2.1
  refine lv_aload_n hx hb dX4_init_0 rfl (lv_at hl 0 rfl) ?_
  refine g_super X hst hl hfX hkX hcell (fun cell hc => by rw [hcell] at hc; cases hc; rfl) hbn va_S.rf dX4_init_1 (Nat.le_of_ble_eq_true rfl) (Nat.le_of_ble_eq_true rfl) (fun H1 locs1 ce e1 e2 e3 e4 e5 e6 hS => ?_)
  obtain ⟨cell0, b1, b2, b3, b4⟩ := u_born tyX9 X.2.2.2.2.2.1 in_X9 (X.2.2.2.2.2.2.1.1.1 9 _ rfl) (by rw [← Option.some.inj (hfX.symm.trans (X.2.2.2.2.2.2.1.1.1 9 _ rfl).2.1)]; exact hkX) (by rw [← Option.some.inj (hfX.symm.trans (X.2.2.2.2.2.2.1.1.1 9 _ rfl).2.1)]; exact hcell) tyX9_ok
  have hslot : ∀ k, k < 2 → ∃ v, ce.slots[x.1.2 9 k]? = some v := fun k hk => by
    have h1 := k2_hasslot (b4 k hk)
    rw [hcell] at b1
    cases b1
    rw [← e4] at h1
    exact ⟨_, Array.getElem?_eq_getElem h1⟩
  obtain ⟨v0, hv0⟩ := hslot 0 (by decide)
  obtain ⟨v1, hv1⟩ := hslot 1 (by decide)
  have hcid : ce.cls = x.1.1 9 := e2.trans (Option.some.inj (hfX.symm.trans (X.2.2.2.2.2.2.1.1.1 9 _ rfl).2.1))
  have hI : gI x base s.heap (g_up h n (.inr (9, [v0, v1]))) (n + 1) H1 locs1 := by
    refine ⟨e5.trans hsz, fun q f hf => ?_, fun q f hf => ?_, hS, by rw [hsz]; exact Nat.le_succ_of_le hbn⟩
    · by_cases hq : q = n
      · subst hq
        rw [g_up_s] at hf
        cases hf
        refine ⟨_, rfl, ce, e1, hcid, e3, fun k hk => ?_⟩
        match k, hk with
        | 0, _ => exact hv0
        | 1, _ => exact hv1
      · rw [g_up_n hq] at hf
        have h1 := hP q f hf
        unfold va_at at h1 ⊢
        cases hg : g_to x.2.1 f with
        | inl a9 => rw [hg] at h1; simp only at h1 ⊢; rw [e6 q hq]; exact h1
        | inr a9 =>
          rw [hg] at h1
          simp only at h1 ⊢
          obtain ⟨r, h2, h3⟩ := h1
          exact ⟨r, h2, h3.kept (e6 q hq)⟩
    · by_cases hq : q = n
      · rw [hq]; exact hbn
      · rw [g_up_n hq] at hf
        exact (hW q f hf).1
  refine lv_aload_n hx hb dX4_init_4 rfl (lv_at hl 0 rfl) ?_
  refine lv_iload_n hx hb dX4_init_5 rfl (lv_at hl 1 rfl) ?_
  refine g_putF (C := RX9) (T := TX9) (N := 2) (v := .int z1) (ty := .int) (ci := 9) (ρ := gH) (K := some) X hI in_X9 tyX9 tyX9_ok nmX9 rfl 0 (by decide) q618 (fun _ h9 => h9) rfl hnm rfl (by decide +kernel) rfl rfl (congrArg (fun o => Option.bind o some) (g_pf_s (fs := [v0, v1]) g_up_s (by simp))) dX4_init_6 (fun h2 H2 locs2 hI hr => ?_)
  cases hr
  refine lv_aload_n hx hb dX4_init_9 rfl (lv_at hl 0 rfl) ?_
  refine lv_iload_n hx hb dX4_init_10 rfl (lv_at hl 2 rfl) ?_
  refine g_putF (C := RX9) (T := TX9) (N := 2) (v := .int z2) (ty := .int) (ci := 9) (ρ := gH) (K := some) X hI in_X9 tyX9 tyX9_ok nmX9 rfl 1 (by decide) q620 (fun _ h9 => h9) rfl hnm rfl (by decide +kernel) rfl rfl (congrArg (fun o => Option.bind o some) (g_pf_s (fs := [v0, v1].set 0 (.int z1)) g_up_s (by simp))) dX4_init_11 (fun h2 H2 locs2 hI hr => ?_)
  cases hr
  rw [g_up_up, g_up_up] at hI
  exact g_vret X hI (Nat.le_refl _) (Nat.le_refl _) dX4_init_14
theorem w_X3_error {l : Launch} {x : gV} {base : Nat} (hst : l.stackTraces = false) {z0 : Nat} {z1 : Int32} {h : gH} {n : Nat} {res : Nat × gH × Nat} (hr : f_X3_error z0 z1 h n = some res) : gM l yX3_error (ws_ yX3_error cX3_error 2 (some (.object "CakeDivision$TextError"))) rm_X3_error x base [.ref z0, .int z1] h n (some (.ref res.1)) res.2.1 res.2.2 1 8 := by
  refine g_met (cc := cX3_error) (nL := 2) (ret := (some (.object "CakeDivision$TextError"))) (by decide) (Nat.le_of_ble_eq_true rfl) (fun p e s m below meth c ls X hnm hl hI => ?_)
  have hl : lv_has ls 2 [(0, .ref z0), (1, .int z1)] := hl
  have hx := X.1
  have hb := X.2.1
  obtain ⟨v9, hv9, hr⟩ := gB_i hr
  have hr := gS_i hr
  subst hr
  have hsz := hI.1
  have hlt : ∀ (a : Nat) (e : gE), h a = some e → a < n := fun a e he => by
    rw [← hsz]; exact (hI.2.1 a e he).lt
  have hKn := X.2.2.2.2.2.2.1.1.1 9 _ rfl
  refine W.newcK hx hb X.2.2.2.2.1 (X.w q602) (X.w q603) (X.w q119) rfl dX3_error_0 (Nat.le_refl _) (Nat.le_refl _) hKn.2.1 rfl fun H1 kC hkC e1 z1' o1 => ?_
  have hbn : base ≤ n := by rw [← hsz]; exact X.2.2.2.2.2.2.2.2
  have hI1 : gI x base s.heap h (n + 1) H1 [] := by
    refine ⟨by rw [z1', hsz], fun q f hf => ?_, hI.2.2.1, ⟨by rw [z1']; exact Nat.le_succ _, fun q h1 _ => o1 q h1, fun q hq => nomatch hq⟩, hI.2.2.2.2⟩
    have hq := hlt q f hf
    rw [← hsz] at hq
    have h1 := hI.2.1 q f hf
    unfold va_at at h1 ⊢
    cases hg : g_to x.2.1 f with
    | inl a9 => rw [hg] at h1; simp only at h1 ⊢; rw [o1 q hq]; exact h1
    | inr a9 =>
      rw [hg] at h1
      simp only at h1 ⊢
      obtain ⟨r, h2, h3⟩ := h1
      exact ⟨r, h2, h3.kept (o1 q hq)⟩
  rw [hsz] at e1 ⊢
  refine lv_dup hx hb dX3_error_3 rfl ?_
  refine lv_iload_n hx hb dX3_error_4 rfl (lv_at hl 1 rfl) ?_
  refine lv_aload_n hx hb dX3_error_5 rfl (lv_at hl 0 rfl) ?_
  refine g_getI (C := RX3) (T := TX3) (N := 5) (ρ := Int32) (K := some) (res := v9) X hI1 in_X3 rfl 1 (by decide) q568 (fun _ h9 => h9) (by rw [hv9]; rfl) dX3_error_6 (fun v hv => ?_)
  cases hv
  refine gRun_v (gRun.of (a9 := ([.ref n, .int z1, .int v9] : List Value).toArray) hI1 (va_runI (As := [.int z1, .int v9]) (b := n) (g := F0 m 9 ls [.int v9, .int z1, .ref n, .ref n]) (rest := [.ref n]) ⟨X.1, X.2.1, X.2.2.1, X.2.2.2.2.1, X.2.2.2.2.2.1⟩ (w_X4_init hst) (cwI 2 X.2.2.2.2.2.1 (lw_meth q613) rfl rfl rfl (X.w q119) (X.w q611) (X.w q612) rfl hd_X4_init ⟨Nat.le_of_ble_eq_true rfl, Nat.le_of_ble_eq_true rfl⟩) ⟨gTEp.blind, fun U hU hW => ⟨rfl, by rw [hU, z1', hsz], by rw [hU]; exact hI1.2.1, fun a e he => ⟨hI.2.2.1 a e he, hlt a e he⟩, hbn, X.2.2.2.2.2.2.1.go hI1.2.2.2.1 hU hW, ?_⟩⟩ rfl rfl hl.1 rfl (Nat.le_of_ble_eq_true rfl) dX3_error_9 ⟨Nat.le_refl _, Nat.le_refl _⟩)) (fun H locs hI => ?_)
  · obtain ⟨k2, hk2, hk3⟩ := hW.alike.2.2 _ _ hkC
    refine ⟨x.1.1 9, k2, by rw [hW.alike.findClass]; exact hKn.2.1, hk2, ?_⟩
    rw [hU, e1, hk3]
    rfl
  · exact g_aret X hI (Or.inl ⟨_, rfl⟩) (Nat.le_refl _) (Nat.le_refl _) dX3_error_12
end GROW10
