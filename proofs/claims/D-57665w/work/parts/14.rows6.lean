/-! ROWS over the abstract heap: exceptions -/
/-- the names of the exceptions' classes, by their numbers -/
def g_xn (k : Nat) : String := match k with
  | 9 => "CakeDivision$TextError"
  | 10 => "java/lang/IllegalStateException"
  | 11 => "java/lang/IllegalArgumentException"
  | 12 => "java/lang/IndexOutOfBoundsException"
  | _ => "java/util/NoSuchElementException"
/-- the class number of the exception at a -/
def g_xcl (h : gH) (a : Nat) : Option Nat := match h a with | some (.inr o) => if 9 ≤ o.1 ∧ o.1 ≤ 13 then some o.1 else none | _ => none
theorem g_xcl_s {h : gH} {a k : Nat} {fs : List Value} (e : h a = some (.inr (k, fs))) (hk : 9 ≤ k ∧ k ≤ 13) : g_xcl h a = some k := by simp [g_xcl, e, hk]
theorem g_xcl_i {h : gH} {a k : Nat} (e : g_xcl h a = some k) : (9 ≤ k ∧ k ≤ 13) ∧ ∃ fs, h a = some (.inr (k, fs)) := by
  unfold g_xcl at e
  split at e
  · next o ho =>
    split at e
    · next hc => cases e; exact ⟨hc, _, ho⟩
    · cases e
  · cases e
/-- the object q, of the exception class number k -/
def gXc (s : State) (k q : Nat) (H : Heap) : Prop := (9 ≤ k ∧ k ≤ 13) ∧ ∃ ce : Cell, H[q]? = some ce ∧ ce.vm = .none ∧ s.vm.findClass (g_xn k) = some ce.cls
def gXQ {α : Type} (x : gV) (base : Nat) (tv : α → Option Value) (r : (α ⊕ gX) × gH × Nat) : Array Value → State → Outcome → State → Prop := fun a st oc t => ∃ v, r.1 = .inl v ∧ gQ x base (tv v) r.2.1 r.2.2 a st oc t
def gXC {α : Type} (x : gV) (base : Nat) (r : (α ⊕ gX) × gH × Nat) : String → Nat → State → State → Prop := fun E q st t => ∃ k, r.1 = .inr (k, q) ∧ (9 ≤ k ∧ k ≤ 13) ∧ E = g_xn k ∧ t.heap.size = r.2.2 ∧ gP x r.2.1 t.heap ∧ (∀ (a : Nat) (e : gE), r.2.1 a = some e → base ≤ a) ∧ va_F (fun q => base ≤ q) st t
abbrev gMX {α : Type} (l : Launch) (y : MethodName) (ws : List Cond) (rm : Room) (x : gV) (base : Nat) (tv : α → Option Value) (as : List Value) (h : gH) (n : Nat) (r : (α ⊕ gX) × gH × Nat) (mc ms : Nat) : Prop := vx_Met l y ws rm (va_Pc as (gPre x base h n)) (gXQ x base tv r) (gXC x base r) mc ms (fun q => base ≤ q)
section GROW6
variable {p : Program} {l : Launch} {e : Env} {R : Room} {s : State} {m : MethodId} {args : Array Value} {below : List Frame} {meth : Method} {c : Code} {H : Heap} {locs : List Loc} {cells slots : Nat} {Q : State → Prop}
variable {x : gV} {base : Nat} {own : String} {cc : ByteArray} {nL : Nat} {ret : Option FieldType} {pc : Nat} {ls : Array Slot} {rest : List Value} {h : gH} {n : Nat} {H0 : Heap} {ρ : Type} {res : ρ} {a : Nat}

theorem g_keep {v : Heap} {st₀ t T' : State} {L : List Loc} {h1 : gH} {n1 : Nat} (hI : gI x base s.heap h n H locs) (h0 : st₀.heap = H) (e1 : T'.heap = t.heap) (hL : ∀ q ∈ L, base ≤ q.base) (hz : t.heap.size = n1) (hP : gP x h1 t.heap) (hW : ∀ (a : Nat) (e : gE), h1 a = some e → base ≤ a) (hF : va_F (fun q => base ≤ q) st₀ t) : gI x base s.heap h1 n1 T'.heap (locs ++ L) := by
  rw [← e1] at hz hP
  unfold va_F at hF
  rw [h0, ← e1] at hF
  have hS := hI.2.2.2.1
  refine ⟨hz, hP, hW, ⟨Nat.le_trans hS.1 hF.1, fun q g1 g2 => (hF.2 q (Nat.lt_of_lt_of_le g1 hS.1) g2).trans (hS.2.1 q g1 g2), fun q hq => ?_⟩, hI.2.2.2.2⟩
  rcases List.mem_append.mp hq with h | h
  · exact hS.2.2 q h
  · exact hL q h
/-- a call that may throw: where it comes out -/
def gXRun {α : Type} (p : Program) (l : Launch) (e : Env) (R : Room) (s : State) (m : MethodId) (args : Array Value) (below : List Frame) (meth : Method) (c : Code) (H : Heap) (locs : List Loc) (cells slots mc ms : Nat) (g : JFrame) (rest : List Value) (x : gV) (base : Nat) (tv : α → Option Value) (r : (α ⊕ gX) × gH × Nat) : Prop :=
  ∀ T : State, T.heap = H → Stand p l e R s m args below meth c T locs cells slots →
    (∃ (v : α) (T' : State) (locs1 : List Loc), r.1 = .inl v ∧ Stand p l e R s m args below meth c T' locs1 (cells + mc) (slots + ms) ∧ gI x base s.heap r.2.1 r.2.2 T'.heap locs1 ∧ Goes p e below T g T' { g with pc := g.pc + 3, stack := (tv v).toList ++ rest }) ∨
    (∃ (k q : Nat) (T' : State) (locs1 : List Loc), r.1 = .inr (k, q) ∧ gXc s k q T'.heap ∧ Stand p l e R s m args below meth c T' locs1 (cells + mc) (slots + ms) ∧ gI x base s.heap r.2.1 r.2.2 T'.heap locs1 ∧ Steps p.tables e below (T.setTop g) ((T'.setTop { g with stack := rest }).pushFrame (.throwing q)))
theorem gXRun.of {α : Type} {tv : α → Option Value} {r : (α ⊕ gX) × gH × Nat} {mc ms : Nat} {g : JFrame} {a9 : Array Value} (hI : gI x base s.heap h n H locs) (hr : vx_Run p l e R s m args below meth c H locs cells slots mc ms g rest (gXQ x base tv r a9) (gXC x base r) (fun q => base ≤ q)) : gXRun p l e R s m args below meth c H locs cells slots mc ms g rest x base tv r := by
  intro T hT X
  rcases hr T hT X with ⟨v', st₀, t, T', L, h0, X', hL, e1, e2, ⟨w, hw, hv, hz, hP, hW, hF⟩, st⟩ | ⟨q, st₀, t, T', L, E, ce, h0, X', hL, e1, e2, ⟨k, hk, hk9, hE, hz, hP, hW, hF⟩, hce, hcv, hcl, st⟩
  · have hv' : v' = tv w := by cases hv; rfl
    subst hv'
    exact Or.inl ⟨w, T', locs ++ L, hw, X', g_keep (v := H) hI h0 e1 hL hz hP hW hF, st⟩
  · subst hE
    exact Or.inr ⟨k, q, T', locs ++ L, hk, ⟨hk9, ce, by rw [e1]; exact hce, hcv, hcl⟩, X', g_keep (v := H) hI h0 e1 hL hz hP hW hF, st⟩
theorem gXRun.back {α : Type} {tv : α → Option Value} {v : α} {h1 : gH} {n1 mc ms : Nat} {g : JFrame} (hr : gXRun p l e R s m args below meth c H locs cells slots mc ms g rest x base tv (.inl v, h1, n1)) (kk : ∀ (H1 : Heap) (locs1 : List Loc), gI x base s.heap h1 n1 H1 locs1 → W p l e R s m args below meth c H1 locs1 (cells + mc) (slots + ms) Q { g with pc := g.pc + 3, stack := (tv v).toList ++ rest }) : W p l e R s m args below meth c H locs cells slots Q g := by
  intro T hT X
  rcases hr T hT X with ⟨w, T', locs1, hw, X', hI', st⟩ | ⟨k, q, T', locs1, hw, -⟩
  · cases hw
    obtain ⟨t2, a1, b1⟩ := kk T'.heap locs1 hI' T' rfl X'
    exact ⟨t2, st t2 a1, b1⟩
  · cases hw
theorem gXRun.throws {α : Type} {tv : α → Option Value} {k q : Nat} {h1 : gH} {n1 mc ms : Nat} {g : JFrame} (hr : gXRun p l e R s m args below meth c H locs cells slots mc ms g rest x base tv (.inr (k, q), h1, n1)) (kk : ∀ (H1 : Heap) (locs1 : List Loc), gI x base s.heap h1 n1 H1 locs1 → gXc s k q H1 → vx_W p l e R s m args below meth c H1 locs1 (cells + mc) (slots + ms) Q { g with stack := rest } q) : W p l e R s m args below meth c H locs cells slots Q g := by
  intro T hT X
  rcases hr T hT X with ⟨w, T', locs1, hw, -⟩ | ⟨k9, q9, T', locs1, hw, hx, X', hI', st⟩
  · cases hw
  · cases hw
    obtain ⟨t2, a1, b1⟩ := kk T'.heap locs1 hI' hx T' rfl X'
    exact ⟨t2, st.trans a1, b1⟩
-- the answer of a call, by its type
section
variable {h1 : gH} {n1 mc ms : Nat} {st0 : List Value}
theorem gXRet_v {r : Unit} (hr : gXRun p l e R s m args below meth c H locs cells slots mc ms (F0 m pc ls st0) rest x base (fun _ => none) (.inl r, h1, n1)) (kk : ∀ (H1 : Heap) (locs1 : List Loc), gI x base s.heap h1 n1 H1 locs1 → W p l e R s m args below meth c H1 locs1 (cells + mc) (slots + ms) Q (F0 m (pc + 3) ls rest)) : W p l e R s m args below meth c H locs cells slots Q (F0 m pc ls st0) := hr.back kk
theorem gXRet_i {r : Int32} (hr : gXRun p l e R s m args below meth c H locs cells slots mc ms (F0 m pc ls st0) rest x base (fun v => some (.int v)) (.inl r, h1, n1)) (kk : ∀ (H1 : Heap) (locs1 : List Loc), gI x base s.heap h1 n1 H1 locs1 → W p l e R s m args below meth c H1 locs1 (cells + mc) (slots + ms) Q (F0 m (pc + 3) ls (.int r :: rest))) : W p l e R s m args below meth c H locs cells slots Q (F0 m pc ls st0) := hr.back kk
theorem gXRet_l {r : Int64} (hr : gXRun p l e R s m args below meth c H locs cells slots mc ms (F0 m pc ls st0) rest x base (fun v => some (.long v)) (.inl r, h1, n1)) (kk : ∀ (H1 : Heap) (locs1 : List Loc), gI x base s.heap h1 n1 H1 locs1 → W p l e R s m args below meth c H1 locs1 (cells + mc) (slots + ms) Q (F0 m (pc + 3) ls (.long r :: rest))) : W p l e R s m args below meth c H locs cells slots Q (F0 m pc ls st0) := hr.back kk
theorem gXRet_f {r : UInt32} (hr : gXRun p l e R s m args below meth c H locs cells slots mc ms (F0 m pc ls st0) rest x base (fun v => some (.float v)) (.inl r, h1, n1)) (kk : ∀ (H1 : Heap) (locs1 : List Loc), gI x base s.heap h1 n1 H1 locs1 → W p l e R s m args below meth c H1 locs1 (cells + mc) (slots + ms) Q (F0 m (pc + 3) ls (.float r :: rest))) : W p l e R s m args below meth c H locs cells slots Q (F0 m pc ls st0) := hr.back kk
theorem gXRet_d {r : UInt64} (hr : gXRun p l e R s m args below meth c H locs cells slots mc ms (F0 m pc ls st0) rest x base (fun v => some (.double v)) (.inl r, h1, n1)) (kk : ∀ (H1 : Heap) (locs1 : List Loc), gI x base s.heap h1 n1 H1 locs1 → W p l e R s m args below meth c H1 locs1 (cells + mc) (slots + ms) Q (F0 m (pc + 3) ls (.double r :: rest))) : W p l e R s m args below meth c H locs cells slots Q (F0 m pc ls st0) := hr.back kk
theorem gXRet_a {r : Nat} (hr : gXRun p l e R s m args below meth c H locs cells slots mc ms (F0 m pc ls st0) rest x base (fun v => some (.ref v)) (.inl r, h1, n1)) (kk : ∀ (H1 : Heap) (locs1 : List Loc), gI x base s.heap h1 n1 H1 locs1 → W p l e R s m args below meth c H1 locs1 (cells + mc) (slots + ms) Q (F0 m (pc + 3) ls (.ref r :: rest))) : W p l e R s m args below meth c H locs cells slots Q (F0 m pc ls st0) := hr.back kk
theorem gXThr {α : Type} {tv : α → Option Value} {k q : Nat} (hr : gXRun p l e R s m args below meth c H locs cells slots mc ms (F0 m pc ls st0) rest x base tv (.inr (k, q), h1, n1)) (kk : ∀ (H1 : Heap) (locs1 : List Loc), gI x base s.heap h1 n1 H1 locs1 → gXc s k q H1 → vx_W p l e R s m args below meth c H1 locs1 (cells + mc) (slots + ms) Q (F0 m pc ls rest) q) : W p l e R s m args below meth c H locs cells slots Q (F0 m pc ls st0) := hr.throws kk
end
theorem g_xrunV {C : String} {T : u_T} {N ci b index maxL n9 mc ms : Nat} {y : MethodName} {bytes : ByteArray} {rt : Option FieldType} {rm : Room} {fs as : List Value} {st0 : List Value} {α : Type} {tv : α → Option Value} {r : (α ⊕ gX) × gH × Nat} (X : gXX x base own cc nL ret p l s m args meth c) (hI : gI x base s.heap h n H locs) (hM : gMX l y (ws_ y bytes maxL rt) rm x base tv (.ref b :: as) h n r mc ms) (hb : g_obj h b ci = some fs) (hc : gCl[ci]? = some (C, T, N)) {lv' : List (Nat × Value)} (hl : lv_has ls nL lv') (hw : GoodIn lw_all (wsV own index C y (ws_ y bytes maxL rt))) (hrc : rm.cells = mc) (hrs : rm.slots = ms) (hd : y.cls = C ∧ y.cls ≠ "java/lang/invoke/MethodHandle" ∧ y.cls ≠ "java/lang/invoke/VarHandle" ∧ (parseMethodDescriptor y.desc).map (fun d => d.parameters.length) = some n9) (hR : rm.frames + 1 ≤ R.frames ∧ 8 + (maxL + 11) + rm.locals ≤ R.locals) (hn : as.length = n9) (hst : st0 = as.reverse ++ .ref b :: rest) (hW : (rest.map fun v => v.category).sum ≤ 8) (hf : cells + mc ≤ R.cells ∧ slots + ms ≤ R.slots) (hdg : decode cc pc = .ok (.invokevirtual index, 3)) : gXRun p l e R s m args below meth c H locs cells slots mc ms (F0 m pc ls st0) rest x base tv r :=
  gXRun.of hI (vx_runV (As := as) ⟨X.1, X.2.1, X.2.2.1, X.2.2.2.2.1, X.2.2.2.2.2.1⟩ hM (cwV n9 X.2.2.2.2.2.1 hw rfl hrc hrs hd hR) ⟨gPre.blind, g_recv X hI hb hc, fun U hU hW => gPre.of X hI U hU hW⟩ rfl hn hl.1 hst (lv_room (m := m) (pc := pc) (ls := ls) (rest := []) hW) hdg hf)
theorem g_wrunV {C : String} {T : u_T} {N ci b index maxL n9 mc ms : Nat} {y : MethodName} {bytes : ByteArray} {rt : Option FieldType} {hh : List (Nat × Nat × Nat × Nat)} {rm : Room} {fs as : List Value} {st0 : List Value} {α : Type} {tv : α → Option Value} {r : (α ⊕ gX) × gH × Nat} (X : gXX x base own cc nL ret p l s m args meth c) (hI : gI x base s.heap h n H locs) (hM : gMX l y (wsW_ y bytes maxL rt hh) rm x base tv (.ref b :: as) h n r mc ms) (hb : g_obj h b ci = some fs) (hc : gCl[ci]? = some (C, T, N)) {lv' : List (Nat × Value)} (hl : lv_has ls nL lv') (hw : GoodIn lw_all (wsV own index C y (wsW_ y bytes maxL rt hh))) (hrc : rm.cells = mc) (hrs : rm.slots = ms) (hd : y.cls = C ∧ y.cls ≠ "java/lang/invoke/MethodHandle" ∧ y.cls ≠ "java/lang/invoke/VarHandle" ∧ (parseMethodDescriptor y.desc).map (fun d => d.parameters.length) = some n9) (hR : rm.frames + 1 ≤ R.frames ∧ 8 + (maxL + 11) + rm.locals ≤ R.locals) (hn : as.length = n9) (hst : st0 = as.reverse ++ .ref b :: rest) (hW : (rest.map fun v => v.category).sum ≤ 8) (hf : cells + mc ≤ R.cells ∧ slots + ms ≤ R.slots) (hdg : decode cc pc = .ok (.invokevirtual index, 3)) : gXRun p l e R s m args below meth c H locs cells slots mc ms (F0 m pc ls st0) rest x base tv r :=
  gXRun.of hI (vx_runVX (As := as) ⟨X.1, X.2.1, X.2.2.1, X.2.2.2.2.1, X.2.2.2.2.2.1⟩ hM (vx_cwVW n9 X.2.2.2.2.2.1 hw rfl hrc hrs hd hR) ⟨gPre.blind, g_recv X hI hb hc, fun U hU hW => gPre.of X hI U hU hW⟩ rfl hn hl.1 hst (lv_room (m := m) (pc := pc) (ls := ls) (rest := []) hW) hdg hf)
theorem g_xrunS {index maxL n9 mc ms : Nat} {y : MethodName} {bytes : ByteArray} {rt : Option FieldType} {rm : Room} {as : List Value} {st0 : List Value} {α : Type} {tv : α → Option Value} {r : (α ⊕ gX) × gH × Nat} (X : gXX x base own cc nL ret p l s m args meth c) (hI : gI x base s.heap h n H locs) (hM : gMX l y (ws_ y bytes maxL rt) rm x base tv as h n r mc ms) {lv' : List (Nat × Value)} (hl : lv_has ls nL lv') (hw : GoodIn lw_all (va_wsS own index y (ws_ y bytes maxL rt))) (hrc : rm.cells = mc) (hrs : rm.slots = ms) (hd : y.cls ≠ "java/lang/invoke/MethodHandle" ∧ y.cls ≠ "java/lang/invoke/VarHandle" ∧ (parseMethodDescriptor y.desc).map (fun d => d.parameters.length) = some n9) (hR : rm.frames + 1 ≤ R.frames ∧ 8 + (maxL + 11) + rm.locals ≤ R.locals) (hn : as.length = n9) (hst : st0 = as.reverse ++ rest) (hW : (rest.map fun v => v.category).sum ≤ 8) (hf : cells + mc ≤ R.cells ∧ slots + ms ≤ R.slots) (hdg : decode cc pc = .ok (.invokestatic index, 3)) : gXRun p l e R s m args below meth c H locs cells slots mc ms (F0 m pc ls st0) rest x base tv r :=
  gXRun.of hI (vx_runS (As := as) ⟨X.1, X.2.1, X.2.2.1, X.2.2.2.2.1, X.2.2.2.2.2.1⟩ hM (va_cwS n9 X.2.2.2.2.2.1 hw rfl hrc hrs hd hR) ⟨gPre.blind, fun U hU hW => gPre.of X hI U hU hW⟩ rfl hn hl.1 hst (lv_room (m := m) (pc := pc) (ls := ls) (rest := []) hW) hdg hf)
theorem g_wrunS {index maxL n9 mc ms : Nat} {y : MethodName} {bytes : ByteArray} {rt : Option FieldType} {hh : List (Nat × Nat × Nat × Nat)} {rm : Room} {as : List Value} {st0 : List Value} {α : Type} {tv : α → Option Value} {r : (α ⊕ gX) × gH × Nat} (X : gXX x base own cc nL ret p l s m args meth c) (hI : gI x base s.heap h n H locs) (hM : gMX l y (wsW_ y bytes maxL rt hh) rm x base tv as h n r mc ms) {lv' : List (Nat × Value)} (hl : lv_has ls nL lv') (hw : GoodIn lw_all (va_wsS own index y (wsW_ y bytes maxL rt hh))) (hrc : rm.cells = mc) (hrs : rm.slots = ms) (hd : y.cls ≠ "java/lang/invoke/MethodHandle" ∧ y.cls ≠ "java/lang/invoke/VarHandle" ∧ (parseMethodDescriptor y.desc).map (fun d => d.parameters.length) = some n9) (hR : rm.frames + 1 ≤ R.frames ∧ 8 + (maxL + 11) + rm.locals ≤ R.locals) (hn : as.length = n9) (hst : st0 = as.reverse ++ rest) (hW : (rest.map fun v => v.category).sum ≤ 8) (hf : cells + mc ≤ R.cells ∧ slots + ms ≤ R.slots) (hdg : decode cc pc = .ok (.invokestatic index, 3)) : gXRun p l e R s m args below meth c H locs cells slots mc ms (F0 m pc ls st0) rest x base tv r :=
  gXRun.of hI (vx_runSX (As := as) ⟨X.1, X.2.1, X.2.2.1, X.2.2.2.2.1, X.2.2.2.2.2.1⟩ hM (vx_cwSW n9 X.2.2.2.2.2.1 hw rfl hrc hrs hd hR) ⟨gPre.blind, fun U hU hW => gPre.of X hI U hU hW⟩ rfl hn hl.1 hst (lv_room (m := m) (pc := pc) (ls := ls) (rest := []) hW) hdg hf)
theorem g_runIN {host : String} {b index maxL n9 mc ms : Nat} {y : MethodName} {bytes : ByteArray} {rm : Room} {as : List Value} {st0 : List Value} {v : Option Value} {h1 : gH} {n1 : Nat} (X : gXX x base own cc nL ret p l s m args meth c) (hI : gI x base s.heap h n H locs) (hM : gM l y (ws_ y bytes maxL none) rm x base (.ref b :: as) h n v h1 n1 mc ms) {lv' : List (Nat × Value)} (hl : lv_has ls nL lv') (hcode : Cond.code y bytes maxL none ∈ lw_all) (hlink : (own, index, y, host) ∈ g_mln) (hinst : Cond.instanceMethod y ∈ lw_all) (hini : Cond.initialized y.cls ∈ lw_all) (hnm : y.name = "<init>") (hrc : rm.cells = mc) (hrs : rm.slots = ms) (hd : y.cls ≠ "java/lang/invoke/MethodHandle" ∧ y.cls ≠ "java/lang/invoke/VarHandle" ∧ (parseMethodDescriptor y.desc).map (fun d => d.parameters.length) = some n9) (hR : rm.frames + 1 ≤ R.frames ∧ 8 + (maxL + 11) + rm.locals ≤ R.locals) (hn : as.length = n9) (hst : st0 = as.reverse ++ .ref b :: rest) (hW : (rest.map fun v => v.category).sum ≤ 8) (hf : cells + mc ≤ R.cells ∧ slots + ms ≤ R.slots) (hdg : decode cc pc = .ok (.invokespecial index, 3)) : gRun p l e R s m args below meth c H locs cells slots mc ms (F0 m pc ls st0) rest x base v h1 n1 :=
  gRun.of hI (va_runIN (host := host) (As := as) ⟨X.1, X.2.1, X.2.2.1, X.2.2.2.2.1, X.2.2.2.2.2.1⟩ hM ⟨va_cnB n9 X.2.2.2.2.2.1 (lw_meth hcode) rfl hrc hrs (X.2.2.2.2.2.2.1.2.2.2.1 _ hlink) (X.w hini) hd hR, hnm, X.w hinst⟩ ⟨gPre.blind, fun U hU hW => gPre.of X hI U hU hW⟩ rfl hn hl.1 hst (lv_room (m := m) (pc := pc) (ls := ls) (rest := []) hW) hdg hf)
/-- a method's entry, when it may throw -/
theorem g_metX {α : Type} {tv : α → Option Value} {r : (α ⊕ gX) × gH × Nat} {y : MethodName} {rm : Room} {mc ms : Nat} {as : List Value} (hy : plainName y.cls = true) (hlen : (lg_sl as).length ≤ nL)
    (body : ∀ (p : Program) (e : Env) (s : State) (m : MethodId) (below : List Frame) (meth : Method) (c : Code) (ls : Array Slot), gXX x base y.cls cc nL ret p l s m as.toArray meth c → meth.name = y.name → c.exceptionTable.toList = tableOf [] → lv_has ls nL (lv_args 0 as) → gI x base s.heap h n s.heap [] → W p l e rm s m as.toArray below meth c s.heap [] 0 0 (vx_MQ below (gXQ x base tv r) (gXC x base r) as.toArray s mc ms (fun q => base ≤ q)) (F0 m 0 ls [])) : gMX l y (ws_ y cc nL ret) rm x base tv as h n r mc ms := by
  refine vx_ofW (cc := cc) (maxL := nL) (ret := ret) hy rfl ?_
  intro p e s m args below meth c s₁ B hml hxt hv
  obtain ⟨rfl, hsz, hP, hW, hbn, hG⟩ := hv
  have hts := atoms_spec (ws := ws_ y cc nL ret) B.pre
  have hl := lv_entry as hlen
  rw [lg_entry_eq]
  refine body p e s m below meth c _ ⟨B.exec, B.bytes, hml, B.returns, findClass_of_methodNamed B.named, fun w h => hts w (List.mem_cons_of_mem _ h), hG, B.notSynchronized, by rw [hsz]; exact hbn⟩ (name_of_methodNamed B.named B.method).1 ?_ hl ⟨hsz, hP, hW, va_S.rf, by rw [hsz]; exact hbn⟩
  cases hq : c.exceptionTable.toList with
  | nil => rfl
  | cons a b => exact (hxt a (by rw [hq]; exact List.mem_cons_self)).elim
theorem g_metW {α : Type} {tv : α → Option Value} {r : (α ⊕ gX) × gH × Nat} {y : MethodName} {rm : Room} {mc ms : Nat} {as : List Value} {hh : List (Nat × Nat × Nat × Nat)} (hy : plainName y.cls = true) (hlen : (lg_sl as).length ≤ nL)
    (body : ∀ (p : Program) (e : Env) (s : State) (m : MethodId) (below : List Frame) (meth : Method) (c : Code) (ls : Array Slot), gXX x base y.cls cc nL ret p l s m as.toArray meth c → meth.name = y.name → c.exceptionTable.toList = tableOf hh → lv_has ls nL (lv_args 0 as) → gI x base s.heap h n s.heap [] → W p l e rm s m as.toArray below meth c s.heap [] 0 0 (vx_MQ below (gXQ x base tv r) (gXC x base r) as.toArray s mc ms (fun q => base ≤ q)) (F0 m 0 ls [])) : gMX l y (wsW_ y cc nL ret hh) rm x base tv as h n r mc ms := by
  refine vx_ofWH (cc := cc) (maxL := nL) (ret := ret) (hh := hh) hy rfl ?_
  intro p e s m args below meth c s₁ B hml hv
  obtain ⟨rfl, hsz, hP, hW, hbn, hG⟩ := hv
  have hts := atoms_spec (ws := wsW_ y cc nL ret hh) B.pre
  have hl := lv_entry as hlen
  rw [lg_entry_eq]
  exact body p e s m below meth c _ ⟨B.exec, B.bytes, hml, B.returns, findClass_of_methodNamed B.named, fun w h => hts w (List.mem_cons_of_mem _ h), hG, B.notSynchronized, by rw [hsz]; exact hbn⟩ (name_of_methodNamed B.named B.method).1 (vx_table (x := y) B (hts _ List.mem_cons_self)) hl ⟨hsz, hP, hW, va_S.rf, by rw [hsz]; exact hbn⟩
-- ends
theorem g_xend {α : Type} {tv : α → Option Value} {v : α} {h1 : gH} {n1 : Nat} {a9 : Array Value} {st t : State} {oc : Outcome} (hq : gQ x base (tv v) h1 n1 a9 st oc t) : gXQ x base tv (.inl v, h1, n1) a9 st oc t := ⟨v, rfl, hq⟩
section
variable {mc ms : Nat}
theorem g_xret {α : Type} {tv : α → Option Value} {v : α} {XC : String → Nat → State → State → Prop} {g : JFrame} (k : W p l e R s m args below meth c H locs cells slots (MQ below (gQ x base (tv v) h n) args s mc ms (fun q => base ≤ q)) g) : W p l e R s m args below meth c H locs cells slots (vx_MQ below (gXQ x base tv (.inl v, h, n)) XC args s mc ms (fun q => base ≤ q)) g := by
  intro T hT X
  obtain ⟨t, a1, o, b1, b2, b3, b4⟩ := k T hT X
  exact ⟨t, a1, o, b1, b2, Or.inl ⟨g_xend b3, b4⟩⟩
theorem g_xiret {v : Int32} {rt : FieldType} {XC : String → Nat → State → State → Prop} (X : gXX x base own cc nL (some rt) p l s m args meth c) (hI : gI x base s.heap h n H locs) (hn : narrow rt (.int v) = .int v) (hc : cells ≤ mc) (hs : slots ≤ ms) (hdg : decode cc pc = .ok (.ireturn, 1)) : W p l e R s m args below meth c H locs cells slots (vx_MQ below (gXQ x base (fun v => some (.int v)) (.inl v, h, n)) XC args s mc ms (fun q => base ≤ q)) (F0 m pc ls [.int v]) := g_xret (tv := fun v => some (.int v)) (g_iret X hI hn hc hs hdg)
theorem g_xvret {v : Unit} {XC : String → Nat → State → State → Prop} (X : gXX x base own cc nL none p l s m args meth c) (hI : gI x base s.heap h n H locs) (hc : cells ≤ mc) (hs : slots ≤ ms) (hdg : decode cc pc = .ok (.return_, 1)) : W p l e R s m args below meth c H locs cells slots (vx_MQ below (gXQ x base (fun _ => none) (.inl v, h, n)) XC args s mc ms (fun q => base ≤ q)) (F0 m pc ls []) := g_xret (tv := fun _ => none) (g_vret X hI hc hs hdg)
theorem g_xaret {v : Nat} {rt : FieldType} {XC : String → Nat → State → State → Prop} (X : gXX x base own cc nL (some rt) p l s m args meth c) (hI : gI x base s.heap h n H locs) (hrt : (∃ n, rt = .object n) ∨ ∃ t, rt = .array t) (hc : cells ≤ mc) (hs : slots ≤ ms) (hdg : decode cc pc = .ok (.areturn, 1)) : W p l e R s m args below meth c H locs cells slots (vx_MQ below (gXQ x base (fun v => some (.ref v)) (.inl v, h, n)) XC args s mc ms (fun q => base ≤ q)) (F0 m pc ls [.ref v]) := g_xret (tv := fun v => some (.ref v)) (g_aret X hI hrt hc hs hdg)
theorem g_xlret {v : Int64} {XC : String → Nat → State → State → Prop} (X : gXX x base own cc nL (some .long) p l s m args meth c) (hI : gI x base s.heap h n H locs) (hc : cells ≤ mc) (hs : slots ≤ ms) (hdg : decode cc pc = .ok (.lreturn, 1)) : W p l e R s m args below meth c H locs cells slots (vx_MQ below (gXQ x base (fun v => some (.long v)) (.inl v, h, n)) XC args s mc ms (fun q => base ≤ q)) (F0 m pc ls [.long v]) := g_xret (tv := fun v => some (.long v)) (g_lret X hI hc hs hdg)
theorem g_xfret {v : UInt32} {XC : String → Nat → State → State → Prop} (X : gXX x base own cc nL (some .float) p l s m args meth c) (hI : gI x base s.heap h n H locs) (hc : cells ≤ mc) (hs : slots ≤ ms) (hdg : decode cc pc = .ok (.freturn, 1)) : W p l e R s m args below meth c H locs cells slots (vx_MQ below (gXQ x base (fun v => some (.float v)) (.inl v, h, n)) XC args s mc ms (fun q => base ≤ q)) (F0 m pc ls [.float v]) := g_xret (tv := fun v => some (.float v)) (g_fret X hI hc hs hdg)
theorem g_xdret {v : UInt64} {XC : String → Nat → State → State → Prop} (X : gXX x base own cc nL (some .double) p l s m args meth c) (hI : gI x base s.heap h n H locs) (hc : cells ≤ mc) (hs : slots ≤ ms) (hdg : decode cc pc = .ok (.dreturn, 1)) : W p l e R s m args below meth c H locs cells slots (vx_MQ below (gXQ x base (fun v => some (.double v)) (.inl v, h, n)) XC args s mc ms (fun q => base ≤ q)) (F0 m pc ls [.double v]) := g_xret (tv := fun v => some (.double v)) (g_dret X hI hc hs hdg)
end
/-- a row of the table that this exception at this place passes by -/
def gPass (own : String) (pc k : Nat) (z : Nat × Nat × Nat × Nat) : Prop := ¬ (z.1 ≤ pc ∧ pc < z.2.1) ∨ (z.2.2.2 ≠ 0 ∧ ∃ j, (9 ≤ j ∧ j ≤ 13) ∧ ¬ k = j ∧ Cond.classLink own z.2.2.2 (g_xn j) ∈ lw_all)
theorem gPs_0 {P : (Nat × Nat × Nat × Nat) → Prop} : ∀ z ∈ ([] : List (Nat × Nat × Nat × Nat)), P z := fun _ h => nomatch h
theorem gPs_c {P : (Nat × Nat × Nat × Nat) → Prop} {a : Nat × Nat × Nat × Nat} {b : List (Nat × Nat × Nat × Nat)} (h : P a) (t : ∀ z ∈ b, P z) : ∀ z ∈ a :: b, P z := fun z hz => (List.mem_cons.mp hz).elim (fun e => by rw [e]; exact h) (t z)
theorem g_ncX {k j : Nat} (hk : 9 ≤ k ∧ k ≤ 13) (hj : 9 ≤ j ∧ j ≤ 13) (hn : ¬ k = j) : (g_xn k, g_xn j) ∈ g_nc := by
  obtain ⟨k1, k2⟩ := hk
  obtain ⟨j1, j2⟩ := hj
  have hk : k = 9 ∨ k = 10 ∨ k = 11 ∨ k = 12 ∨ k = 13 := by omega
  have hj : j = 9 ∨ j = 10 ∨ j = 11 ∨ j = 12 ∨ j = 13 := by omega
  rcases hk with rfl | rfl | rfl | rfl | rfl <;> rcases hj with rfl | rfl | rfl | rfl | rfl <;> first | exact absurd rfl hn | exact (by simp [g_xn])
theorem g_caX {k : Nat} (hk : 9 ≤ k ∧ k ≤ 13) : (g_xn k, g_xn k) ∈ g_cast := by
  obtain ⟨k1, k2⟩ := hk
  have hk : k = 9 ∨ k = 10 ∨ k = 11 ∨ k = 12 ∨ k = 13 := by omega
  rcases hk with rfl | rfl | rfl | rfl | rfl <;> exact (by simp [g_xn])
theorem g_covers {z : Nat × Nat × Nat × Nat} : covers ⟨z.1, z.2.1, z.2.2.1, z.2.2.2⟩ pc = decide (z.1 ≤ pc ∧ pc < z.2.1) := by
  unfold covers
  rw [Bool.decide_and]
theorem g_pass {k : Nat} (X : gXX x base own cc nL ret p l s m args meth c) (hk : 9 ≤ k ∧ k ≤ 13) {hh : List (Nat × Nat × Nat × Nat)} (hp : ∀ z ∈ hh, gPass own pc k z) : ∀ z ∈ tableOf hh, covers z pc = false ∨ (z.catchType ≠ 0 ∧ ∃ nm : String, (Cond.classLink own z.catchType nm).before args s = true ∧ va_Nc (g_xn k) nm s) := by
  intro z hz
  obtain ⟨y, hy, rfl⟩ := List.mem_map.mp hz
  rcases hp y hy with h | ⟨h0, j, hj, hn, hl⟩
  · exact Or.inl ((g_covers (z := y)).trans (decide_eq_false h))
  · exact Or.inr ⟨h0, g_xn j, X.w hl, X.2.2.2.2.2.2.1.2.2.2.2.2.1 _ (g_ncX hk hj hn)⟩
/-- caught -/
theorem g_catch {k q : Nat} {hh pre suf : List (Nat × Nat × Nat × Nat)} {a b hp ct : Nat} (X : gXX x base own cc nL ret p l s m args meth c) (hx : gXc s k q H) (hxt : c.exceptionTable.toList = tableOf hh) (hs : hh = pre ++ (a, b, hp, ct) :: suf) (hpass : ∀ z ∈ pre, gPass own pc k z) (hcov : a ≤ pc ∧ pc < b) (h0 : ct ≠ 0) {j : Nat} (hkj : k = j) (hlink : Cond.classLink own ct (g_xn j) ∈ lw_all)
    (kk : W p l e R s m args below meth c H locs cells slots Q (F0 m hp ls [.ref q])) : vx_W p l e R s m args below meth c H locs cells slots Q (F0 m pc ls rest) q := by
  subst hkj
  obtain ⟨hk, ce, h1, h2, h3⟩ := hx
  refine vx_catch X.2.2.2.2.1 (tableOf pre) ⟨a, b, hp, ct⟩ (tableOf suf) (by rw [hxt, hs]; simp [tableOf]) (g_pass X hk hpass) ((g_covers (z := (a, b, hp, ct))).trans (decide_eq_true hcov)) h0 (X.w hlink) (va_Nw.use rfl (X.2.2.2.2.2.2.1.2.1 _ (g_caX hk))) h1 h2 h3 kk
/-- caught by a row that catches all -/
theorem g_catchAll {k q : Nat} {hh pre suf : List (Nat × Nat × Nat × Nat)} {a b hp : Nat} (X : gXX x base own cc nL ret p l s m args meth c) (hx : gXc s k q H) (hxt : c.exceptionTable.toList = tableOf hh) (hs : hh = pre ++ (a, b, hp, 0) :: suf) (hpass : ∀ z ∈ pre, gPass own pc k z) (hcov : a ≤ pc ∧ pc < b)
    (kk : W p l e R s m args below meth c H locs cells slots Q (F0 m hp ls [.ref q])) : vx_W p l e R s m args below meth c H locs cells slots Q (F0 m pc ls rest) q := by
  obtain ⟨hk, ce, hcell, hv, hcl⟩ := hx
  intro T hT XS
  have hpl : e.platform.magicAccessors = ({} : Platform).magicAccessors := by rw [XS.admits.platform]
  have hpp := g_pass X hk hpass
  have hown := X.2.2.2.2.1
  obtain ⟨vm', X', st⟩ := XS.thenCaughtThrough q (g := F0 m pc ls rest) rfl (Steps.refl _) (by rw [hT]; exact hcell) (by rw [hv]; rfl) (by obtain ⟨k9, h9, -⟩ := Vm.findClass_spec hcl; exact ⟨k9, h9⟩) (tableOf pre) ⟨a, b, hp, 0⟩ (tableOf suf) (by rw [hxt, hs]; simp [tableOf])
    (fun z hz => by
      rcases hpp z hz with h | ⟨hz0, nm, hl1, hn1⟩
      · exact Or.inl h
      · obtain ⟨c6, hc6, hcl6⟩ := Cond.classLink_spec hown hl1 e.platform hpl
        obtain ⟨a8, b8, h1, h2, h3⟩ := hn1
        cases Option.some.inj (h1.symm.trans hcl)
        cases Option.some.inj (h2.symm.trans hc6)
        exact Or.inr ⟨hz0, _, hcl6, h3⟩) ((g_covers (z := (a, b, hp, 0))).trans (decide_eq_true hcov)) (Or.inl rfl)
  obtain ⟨t, a1, b1⟩ := kk (T.setVm vm') hT X'
  exact ⟨t, st.trans a1, b1⟩
/-- not caught -/
theorem g_xout {α : Type} {k q : Nat} {hh : List (Nat × Nat × Nat × Nat)} {mc ms : Nat} {Qc : Array Value → State → Outcome → State → Prop} (X : gXX x base own cc nL ret p l s m args meth c) (hI : gI x base s.heap h n H locs) (hx : gXc s k q H) (hxt : c.exceptionTable.toList = tableOf hh) (hpass : ∀ z ∈ hh, gPass own pc k z) (hc : cells ≤ mc) (hs : slots ≤ ms) :
    vx_W p l e R s m args below meth c H locs cells slots (vx_MQ below Qc (gXC (α := α) x base (.inr (k, q), h, n)) args s mc ms (fun q => base ≤ q)) (F0 m pc ls rest) q := by
  obtain ⟨hk, ce, h1, h2, h3⟩ := hx
  refine vx_outP X.2.2.2.2.1 X.2.2.2.2.2.2.2.1 (by rw [hxt]; exact g_pass X hk hpass) h1 h2 h3 (fun t ht hal => ⟨k, rfl, hk, rfl, by rw [ht]; exact hI.1, by rw [ht]; exact hI.2.1, hI.2.2.1, hI.2.2.2.1.F ht⟩) (fun z hz => hI.2.2.2.1.2.2 z hz) hc hs
theorem g_athrow {k q : Nat} (X : gXX x base own cc nL ret p l s m args meth c) (hI : gI x base s.heap h n H locs) (hc : g_xcl h q = some k) (hdg : decode cc pc = .ok (.athrow, 1)) (kk : gXc s k q H → vx_W p l e R s m args below meth c H locs cells slots Q (F0 m pc ls rest) q) : W p l e R s m args below meth c H locs cells slots Q (F0 m pc ls (.ref q :: rest)) := by
  obtain ⟨hk, fs, hf⟩ := g_xcl_i hc
  refine vx_athrow X.1 X.2.1 hdg (kk ⟨hk, ?_⟩)
  obtain ⟨r, h1, cell, q1, q2, q3, q4⟩ := hI.2.1 _ _ hf
  refine ⟨cell, q1, q3, ?_⟩
  have hcl := (X.2.2.2.2.2.2.1.1.1 k _ h1).2.1
  rw [q2, ← hcl]
  obtain ⟨k1, k2⟩ := hk
  have hk : k = 9 ∨ k = 10 ∨ k = 11 ∨ k = 12 ∨ k = 13 := by omega
  rcases hk with rfl | rfl | rfl | rfl | rfl <;> cases h1 <;> rfl
end GROW6
