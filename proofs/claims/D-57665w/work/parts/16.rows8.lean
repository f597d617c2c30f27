/-! ROWS: a constructor with a table of its own; TextError -/
/-- a constructor with a table of its own, called (follows Steps.initColdArgs of the library, its code word with handlers) -/
theorem g_initH {tb : Tables} [Ours tb] {e : Env} {below : List Frame} {s U : State} {mm : MethodId} {cc : Code} (h : At U mm cc below) (hexec : tb.exec = Jvm.exec) (hW : s.WarmedH U.vm)
    (hpl : e.platform.magicAccessors = ({} : Platform).magicAccessors) {own : String} (hown : s.vm.findClass own = some mm.cls) {idx : Nat} {t : MethodName} (ht1 : t.name = "<init>")
    (hnot : t.cls ≠ "java/lang/invoke/MethodHandle" ∧ t.cls ≠ "java/lang/invoke/VarHandle") {args : Array Value} {bytes : ByteArray} {maxL : Nat} {hh : List (Nat × Nat × Nat × Nat)}
    (hlink : (Cond.methodLink own idx t).before args s = true) (hinst : (Cond.instanceMethod t).before args s = true) (hcode : (Cond.codeWith t bytes maxL none hh).before args s = true)
    {f : JFrame} (hf : f.method = mm) {a : Addr} {argsL rest : List Value} (hlen : ∀ sig, parseMethodDescriptor t.desc = some sig → argsL.length = sig.parameters.length) (hstack : f.stack = argsL.reverse ++ .ref a :: rest) (hd : decode cc.code f.pc = .ok (.invokespecial idx, 3)) :
    ∃ (tm : MethodId) (vm' : Vm), s.methodNamed? t = some tm ∧ s.WarmedH vm' ∧
      ∀ target, (∀ acts, Steps tb e below (doInvoke e ((U.setVm vm').setTop { f with stack := rest }) acts tm (.ref a :: argsL).toArray).1 target) → Steps tb e below (U.setTop f) target := by
  subst hf
  obtain ⟨obj, mO, hnO, hmO, hstO, habO⟩ := Cond.instanceMethod_spec hinst
  obtain ⟨m9, mO', c9, h8, hmO', _, _, _, _, _, _, hsigO⟩ := Cond.codeWith_spec hcode
  cases Option.some.inj (h8.symm.trans hnO)
  cases hmO.symm.trans hmO'
  obtain ⟨kO, hkO, hnameO⟩ := className_of_methodNamed hnO
  obtain ⟨hnameMO, hdescO⟩ := name_of_methodNamed hnO hmO
  obtain ⟨ci, hl, hright⟩ := Cond.methodLink_spec hown hnO hlink e.platform hpl
  have hE : s.MethodEntry e U.vm f.method.cls idx obj ci := State.methodEntry hW hl hright fun k hk => by
    cases hkO.symm.trans hk
    rw [hnameO]; exact hnot
  obtain ⟨dk, cf, nt, _, _, via, _, _, hd', hcf, hcp, -⟩ := hl.here
  have hcp' : cf.constantPool[idx]? = some (.methodref ci nt) ∨ cf.constantPool[idx]? = some (.interfaceMethodref ci nt) := by
    cases via
    · exact Or.inl (by simpa using hcp)
    · exact Or.inr (by simpa using hcp)
  have hwarm := hE.warmed
  have hreadyM := hE.ready
  have hreadyC := hE.classReady
  generalize hvm₂ : U.vm.called f.method.cls ci idx obj = vm₂ at hwarm hreadyM hreadyC
  obtain ⟨dk₂, hdk₂, hed₂⟩ := hwarm.alike.2.2 _ _ hd'
  obtain ⟨kO₂, hkO₂, -⟩ := hwarm.alike.2.2 _ _ hkO
  have hmO₂ : vm₂.method? obj = some mO := (hwarm.alike.method? _).symm ▸ hmO
  have hfound : lookupSpecial vm₂ obj.cls "<init>" mO.desc = .method obj := by
    rw [hwarm.alike.lookupSpecial, hdescO, ← ht1]; exact lookupSpecial_of_named hnO hmO hstO
  have hAt₂ : At (U.setVm vm₂) f.method cc below := h.setVm (hW.alike.symm.trans hwarm.alike)
  refine ⟨obj, vm₂, hnO, hwarm, fun target hrest => ?_⟩
  jvm_step h [hexec, hd, invokespecial.wp_cold (e := e) (s := U) (s₀ := s) (f := f) (meth := mO) h.top hE hd' hcf hcp' hmO, hvm₂,
    invokespecial.wp_init (e := e) (s := U.setVm vm₂) (k := kO₂) (meth := mO) (m := obj) (a := a) (args := argsL) (rest := rest) (f := f)
      hAt₂.top ⟨dk₂, cf, ci, nt, hdk₂, by rw [hed₂]; exact hcf, hcp', hreadyC⟩ hreadyM hkO₂ hmO₂ (by rw [hnameMO]; exact ht1) hstO habO hfound (hlen _ hsigO) hstack]
  exact hrest
section GROW8
variable {p : Program} {l : Launch} {e : Env} {R : Room} {s : State} {m : MethodId} {args : Array Value} {below : List Frame} {meth : Method} {c : Code} {H : Heap} {locs : List Loc} {cells slots : Nat} {Q : State → Prop}
variable {x : gV} {base : Nat} {own : String} {cc : ByteArray} {nL : Nat} {ret : Option FieldType} {pc : Nat} {ls : Array Slot} {rest : List Value} {h : gH} {n : Nat} {H0 : Heap} {ρ : Type} {res : ρ} {a : Nat}
theorem g_wrunI {b index maxL n9 mc ms : Nat} {y : MethodName} {bytes : ByteArray} {rm : Room} {as : List Value} {st0 : List Value} {hh : List (Nat × Nat × Nat × Nat)} {α : Type} {tv : α → Option Value} {r : (α ⊕ gX) × gH × Nat} (X : gXX x base own cc nL ret p l s m args meth c) (hI : gI x base s.heap h n H locs) (hM : gMX l y (wsW_ y bytes maxL none hh) rm x base tv (.ref b :: as) h n r mc ms) {lv' : List (Nat × Value)} (hl : lv_has ls nL lv') (hcode : Cond.codeWith y bytes maxL none hh ∈ lw_all) (hlink : Cond.methodLink own index y ∈ lw_all) (hinst : Cond.instanceMethod y ∈ lw_all) (hini : Cond.initialized y.cls ∈ lw_all) (hnm : y.name = "<init>") (hrc : rm.cells = mc) (hrs : rm.slots = ms) (hd : y.cls ≠ "java/lang/invoke/MethodHandle" ∧ y.cls ≠ "java/lang/invoke/VarHandle" ∧ (parseMethodDescriptor y.desc).map (fun d => d.parameters.length) = some n9) (hR : rm.frames + 1 ≤ R.frames ∧ 8 + (maxL + 11) + rm.locals ≤ R.locals) (hn : as.length = n9) (hst : st0 = as.reverse ++ .ref b :: rest) (hW : (rest.map fun v => v.category).sum ≤ 8) (hf : cells + mc ≤ R.cells ∧ slots + ms ≤ R.slots) (hdg : decode cc pc = .ok (.invokespecial index, 3)) : gXRun p l e R s m args below meth c H locs cells slots mc ms (F0 m pc ls st0) rest x base tv r := by
  have cb : (rm.cells = mc ∧ rm.slots = ms ∧ rm.frames + 1 ≤ R.frames ∧ 8 + (maxL + 11) + rm.locals ≤ R.locals ∧ (∀ w ∈ wsW_ y bytes maxL none hh, ∀ (a' : Array Value) (U : State), s.WarmedH U.vm → w.before a' U = true) ∧ Cond.codeWith y bytes maxL none hh ∈ wsW_ y bytes maxL none hh) := ⟨hrc, hrs, hR.1, hR.2, pay_in X.2.2.2.2.2.1 (lw_methW hcode), List.mem_cons_self⟩
  obtain ⟨hrc, hrs, hfr, hlo, hws, hcw⟩ := cb
  have hK : vx_Back l R p e below s args y 3 8 (PreOf R mc ms (va_Pc (.ref b :: as) (gPre x base h n))) (PostOf (gXQ x base tv r) mc ms (fun q => base ≤ q)) (vx_Post (gXC x base r) mc ms (fun q => base ≤ q)) := vx_backW (hh := hh) (bytes := bytes) (maxL := maxL) (ret := none) hM gPre.blind hrc hrs hfr hlo hws hcw (fun a' U hW => word_at hW (Or.inl (by first | rfl | simp [Cond.onTables, Cond.keeps, Cond.steady])) (X.w hini))
  have hlen : ∀ sig, parseMethodDescriptor y.desc = some sig → as.length = sig.parameters.length := fun sig h => by
    have h2 := hd.2.2
    rw [h] at h2
    exact hn.trans (Option.some.inj h2).symm
  refine gXRun.of (a9 := (Value.ref b :: as).toArray) hI ?_
  intro T hT XS
  have hpl : e.platform.magicAccessors = ({} : Platform).magicAccessors := by rw [XS.admits.platform]
  obtain ⟨mk, vm₁, hnamed, hW₁, hstep₁⟩ := g_initH (e := e) XS.here X.1 XS.warmed hpl X.2.2.2.2.1 hnm ⟨hd.1, hd.2.1⟩ (X.w hlink) (X.w hinst) (X.w hcode) (f := F0 m pc ls st0) rfl hlen hst (by rw [X.2.1]; exact hdg)
  have X₁ := XS.noted hW₁
  rcases hK m meth c ⟨T.setVm vm₁, locs, cells, slots⟩ (F0 m pc ls rest) (.invokespecial index) mk (Value.ref b :: as).toArray X₁ rfl (hl.1.trans X.2.2.1.symm) (by rw [X.2.1]; exact hdg) (lv_room (m := m) (pc := pc) (ls := ls) (rest := []) hW) (X₁.named hnamed) ⟨hf.1, hf.2, gPre.of X hI (T.setVm vm₁) hT X₁.warmed⟩ with ⟨v, ⟨U', l2, c2, s2⟩, X', ⟨g', mk', t, L, e1, e2, hq, h1, hL, h2, h3⟩, st⟩ | ⟨q, ⟨U', l2, c2, s2⟩, X', ⟨g', mk', t, L, E, ce, e1, e2, hq, hce, hcv, hcl, h1, hL, h2, h3⟩, st⟩
  · dsimp only [Pt.U, Pt.locs, Pt.cells, Pt.slots] at X' e1 e2 h1 h2 h3 st
    subst h1; subst h2; subst h3
    exact Or.inl ⟨v, (T.setVm vm₁).calling g' mk' (Value.ref b :: as).toArray, t, U', L, hT, X', hL, e1, e2, hq, fun target h => hstep₁ _ fun acts => by rw [doInvoke_state]; exact st.trans h⟩
  · dsimp only [Pt.U, Pt.locs, Pt.cells, Pt.slots] at X' e1 e2 h1 h2 h3 st hcl
    subst h1; subst h2; subst h3
    exact Or.inr ⟨q, (T.setVm vm₁).calling g' mk' (Value.ref b :: as).toArray, t, U', L, E, ce, hT, X', hL, e1, e2, hq, hce, hcv, vx_cls X₁.warmed hcl, hstep₁ _ fun acts => by rw [doInvoke_state]; exact st⟩
end GROW8
