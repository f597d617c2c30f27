/-! ROWS over the abstract heap -/
/-- TextError, by its own two fields -/
abbrev RX9 : String := RX4
def TX9 : u_T := fun k => match k with
  | 0 => ("CakeDivision$TextError", "code", "I", true)
  | _ => ("CakeDivision$TextError", "position", "I", true)
def tyX9 : Nat → FieldType := fun _ => .int
theorem nmX9 : ∀ a, a < 2 → ∀ b, b < 2 → a ≠ b → (TX9 a).2.1 ≠ (TX9 b).2.1 := by decide +kernel
theorem tyX9_ok : ∀ k, k < 2 → parseFieldDescriptor (TX9 k).2.2.1 = some (tyX9 k) := by decide +kernel
theorem in_X9 : ∀ w ∈ u_ws RX9 TX9 2, w ∈ lw_all := by
  intro w hw
  obtain ⟨k, hk, rfl⟩ := List.mem_map.mp hw
  have hk := List.mem_range.mp hk
  match k, hk with
  | 0, _ => exact q622
  | 1, _ => exact q624
abbrev gCl : List vw_C := [(RX2, TX2, 3), (RX5, TX5, 2), (RX3, TX3, 5), (RX1, TX1, 10), (RX6, TX6, 20), (RX7, TX7, 4), (RX8, TX8, 3), (RJ2, TJ2, 3), (RJ17, TJ17, 3), (RX9, TX9, 2), (RJ19, TJ19, 0), (RJ6, TJ6, 0), (RJ20, TJ20, 0), (RJ22, TJ22, 0)]
abbrev gTys (dA : Nat → ClassId) : List (ClassId × FieldType) := [(dA 0, .int), (dA 1, .byte), (dA 2, .boolean), (dA 3, .object "java/lang/Object"), (dA 4, .object "CakeDivision$State"), (dA 5, .long), (dA 6, .double), (dA 7, .array .int), (dA 8, .object "java/lang/String")]
def g_to (dA : Nat → ClassId) (e : gE) : va_E := match e with | .inl p => .inl (dA p.1, p.2) | .inr o => .inr o
/-- the real heap holds the abstract one -/
def gP (x : gV) (h : gH) (H : Heap) : Prop := ∀ (a : Nat) (e : gE), h a = some e → va_at x.1 gCl (a, g_to x.2.1 e) H
def gI (x : gV) (base : Nat) (H0 : Heap) (h : gH) (n : Nat) (H : Heap) (locs : List Loc) : Prop := H.size = n ∧ gP x h H ∧ (∀ (a : Nat) (e : gE), h a = some e → base ≤ a) ∧ va_S (fun q => base ≤ q) H0 H locs ∧ base ≤ H0.size
/-- what is given once for all: castable classes, nest mates' links, array classes, pairs not castable, String constants -/
def gG (x : gV) (base : Nat) (U : State) : Prop :=
  va_K x.1 gCl (gTys x.2.1) U ∧ (∀ q ∈ g_cast, va_Nw (.castable q.1 q.2) U) ∧ (∀ q ∈ g_fln, va_Nw (.fieldLinkNest q.1 q.2.1 q.2.2.1 q.2.2.2.1 q.2.2.2.2.1 q.2.2.2.2.2) U) ∧ (∀ q ∈ g_mln, va_Nw (.methodLinkNest q.1 q.2.1 q.2.2.1 q.2.2.2) U) ∧
  (∀ q ∈ g_ao, (Cond.arrayOver q).before #[] U = true) ∧ (∀ q ∈ g_nc, va_Nc q.1 q.2 U) ∧ (∀ q ∈ g_str, vk_R q.1 q.2.1 q.2.2.1 (x.2.2.1 q.2.2.2) U) ∧
  vk_S g_tN g_tL g_tB x.2.2.1 x.2.2.2 (fun q => base ≤ q) U U.heap ∧ va_Z "java/lang/String" "COMPACT_STRINGS" "Z" (.int 1) (fun q => base ≤ q) U U.heap ∧ va_Zq "jdk/internal/util/Preconditions" "SIOOBE_FORMATTER" "Ljava/util/function/BiFunction;" (fun q => base ≤ q) U U.heap ∧
  vx_Zq Bundle.tN "UNASSIGNED_STACK" Bundle.steD (fun q => base ≤ q) U U.heap ∧ vx_Zq Bundle.tN "SUPPRESSED_SENTINEL" Bundle.listD (fun q => base ≤ q) U U.heap ∧ (∀ y ∈ g_decl, va_Nw (.declares y) U)
theorem g_aoM {ty : FieldType} {u U : State} (hvm : u.vm.Alike U.vm) (h : (Cond.arrayOver ty).before #[] u = true) : (Cond.arrayOver ty).before #[] U = true := by
  have h1 : (Cond.arrayOver ty).before #[] (u.setVm U.vm) = true := by rw [Cond.arrayOver_setVmC hvm]; exact h
  exact h1
theorem gG.blind {x : gV} {base : Nat} {U U' : State} (hv : U.vm = U'.vm) (hh : U'.heap = U.heap) (h : gG x base U) : gG x base U' := by
  obtain ⟨h1, h2, h3, h4, h5, h6, h7, h8, h9, h10, h11, h12, h13⟩ := h
  have hal : U.vm.Alike U'.vm := by rw [hv]; exact Vm.Alike.refl _
  refine ⟨h1.moved hal, fun q hq => va_Nw.same rfl hv (h2 q hq), fun q hq => va_Nw.same rfl hv (h3 q hq), fun q hq => va_Nw.same rfl hv (h4 q hq), fun q hq => g_aoM hal (h5 q hq), fun q hq => (h6 q hq).moved hal, fun q hq => vk_R.same hv.symm (h7 q hq), ?_, ?_, ?_, ?_, ?_, fun q hq => va_Nw.same rfl hv (h13 q hq)⟩
  · rw [hh]; exact h8.moved hal
  · rw [hh]; exact h9.moved hal
  · rw [hh]; exact h10.moved hal
  · rw [hh]; exact vx_Zq.moved hal h11
  · rw [hh]; exact vx_Zq.moved hal h12
theorem gG.go {x : gV} {base : Nat} {s U : State} {H : Heap} {locs : List Loc} (h : gG x base s) (hS : va_S (fun q => base ≤ q) s.heap H locs) (hU : U.heap = H) (hW : s.WarmedH U.vm) : gG x base U := by
  obtain ⟨h1, h2, h3, h4, h5, h6, h7, h8, h9, h10, h11, h12, h13⟩ := h
  have hal := hW.alike
  refine ⟨h1.moved hal, fun q hq => (h2 q hq).warmC hW, fun q hq => (h3 q hq).warmF hW, fun q hq => (h4 q hq).warmM hW, fun q hq => g_aoM hal (h5 q hq), fun q hq => (h6 q hq).moved hal, fun q hq => vk_R.warm hW (h7 q hq), ?_, ?_, ?_, ?_, ?_, fun q hq => (h13 q hq).warmD hW⟩
  · rw [hU]; exact (h8.kept hS.2.1).moved hal
  · rw [hU]; exact (h9.kept hS.2.1).moved hal
  · rw [hU]; exact (h10.kept hS.2.1).moved hal
  · rw [hU]; exact vx_Zq.moved hal (h11.kept hS.2.1)
  · rw [hU]; exact vx_Zq.moved hal (h12.kept hS.2.1)
/-- a method's start and end -/
def gPre (x : gV) (base : Nat) (h : gH) (n : Nat) (U : State) : Prop := U.heap.size = n ∧ gP x h U.heap ∧ (∀ (a : Nat) (e : gE), h a = some e → base ≤ a) ∧ base ≤ n ∧ gG x base U
def gQ (x : gV) (base : Nat) (v : Option Value) (h : gH) (n : Nat) : Array Value → State → Outcome → State → Prop := fun _ st oc t => oc = .returned v ∧ t.heap.size = n ∧ gP x h t.heap ∧ (∀ (a : Nat) (e : gE), h a = some e → base ≤ a) ∧ va_F (fun q => base ≤ q) st t
abbrev gM (l : Launch) (y : MethodName) (ws : List Cond) (rm : Room) (x : gV) (base : Nat) (as : List Value) (h : gH) (n : Nat) (v : Option Value) (h1 : gH) (n1 : Nat) (mc ms : Nat) : Prop := Met l y ws rm (va_Pc as (gPre x base h n)) (gQ x base v h1 n1) mc ms (fun q => base ≤ q)
/-- what stays through a method's walk -/
def gXX (x : gV) (base : Nat) (own : String) (cc : ByteArray) (nL : Nat) (ret : Option FieldType) (p : Program) (l : Launch) (s : State) (m : MethodId) (args : Array Value) (meth : Method) (c : Code) : Prop :=
  p.tables.exec = Jvm.exec ∧ c.code = cc ∧ c.maxLocals = nL ∧ meth.sig.returnType = ret ∧ s.vm.findClass own = some m.cls ∧ (∀ w ∈ lw_all, w.before args s = true) ∧ gG x base s ∧ meth.locks = false ∧ base ≤ s.heap.size
section GROW
variable {p : Program} {l : Launch} {e : Env} {R : Room} {s : State} {m : MethodId} {args : Array Value} {below : List Frame} {meth : Method} {c : Code} {H : Heap} {locs : List Loc} {cells slots : Nat} {Q : State → Prop}
variable {x : gV} {base : Nat} {own : String} {cc : ByteArray} {nL : Nat} {ret : Option FieldType} {pc : Nat} {ls : Array Slot} {rest : List Value} {h : gH} {n : Nat} {H0 : Heap} {ρ : Type} {res : ρ} {a : Nat}
theorem gXX.w (X : gXX x base own cc nL ret p l s m args meth c) {w : Cond} (hw : w ∈ lw_all) : w.before args s = true := X.2.2.2.2.2.1 w hw
theorem gP.arr {t : Nat} {y : vp_A} (hP : gP x h H) (e : h a = some (.inl (t, y))) : va_P x.1 gCl [(a, .inl (x.2.1 t, y))] H := by
  intro k q hk
  match k, hk with
  | 0, hk => cases hk; exact hP a _ e
  | k + 1, hk => simp at hk
theorem gP.obj {ci : Nat} {fs : List Value} (hP : gP x h H) (e : h a = some (.inr (ci, fs))) : va_P x.1 gCl [(a, .inr (ci, fs))] H := by
  intro k q hk
  match k, hk with
  | 0, hk => cases hk; exact hP a _ e
  | k + 1, hk => simp at hk
theorem gI.put {H1 : Heap} {k : Nat} {e1 : gE} {e0 : gE} (hI : gI x base H0 h n H locs) (e : h a = some e0) (hz : H1.size = H.size) (hat : va_at x.1 gCl (a, g_to x.2.1 e1) H1) (oq : ∀ q : Nat, q ≠ a → H1[q]? = H[q]?) : gI x base H0 (g_up h a e1) n H1 (locs ++ [⟨a, k⟩]) := by
  obtain ⟨h1, h2, h3, h4, h5⟩ := hI
  refine ⟨hz.trans h1, fun b f hf => ?_, fun b f hf => ?_, h4.put hz oq (h3 a _ e), h5⟩
  · by_cases hb : b = a
    · subst hb; rw [g_up_s] at hf; cases hf; exact hat
    · rw [g_up_n hb] at hf; exact (h2 b f hf).kept (oq b hb)
  · by_cases hb : b = a
    · subst hb; exact h3 b _ e
    · rw [g_up_n hb] at hf; exact h3 b f hf
theorem gI.lt (hI : gI x base H0 h n H locs) {e : gE} (he : h a = some e) : a < n := by
  have := (hI.2.1 a e he).lt
  rw [hI.1] at this
  exact this
theorem gI.new {H1 : Heap} {e1 : gE} (hI : gI x base H0 h n H locs) (hz : H1.size = H.size + 1) (hat : va_at x.1 gCl (H.size, g_to x.2.1 e1) H1) (oq : ∀ q : Nat, q < H.size → H1[q]? = H[q]?) : gI x base H0 (g_up h n e1) (n + 1) H1 locs := by
  have hI0 := hI
  obtain ⟨h1, h2, h3, h4, h5⟩ := hI
  subst h1
  refine ⟨hz, fun b f hf => ?_, fun b f hf => ?_, ⟨Nat.le_trans h4.1 (by omega), fun q g1 g2 => (oq q (Nat.lt_of_lt_of_le g1 h4.1)).trans (h4.2.1 q g1 g2), h4.2.2⟩, h5⟩
  · by_cases hb : b = H.size
    · subst hb; rw [g_up_s] at hf; cases hf; exact hat
    · rw [g_up_n hb] at hf; exact (h2 b f hf).kept (oq b (hI0.lt hf))
  · by_cases hb : b = H.size
    · subst hb; exact Nat.le_trans h5 h4.1
    · rw [g_up_n hb] at hf; exact h3 b f hf
-- fields
theorem g_getI {ref C : String} {T : u_T} {N ci index : Nat} (X : gXX x base own cc nL ret p l s m args meth c) (hI : gI x base s.heap h n H locs) (hin : ∀ w ∈ u_ws C T N, w ∈ lw_all) (hc : gCl[ci]? = some (C, T, N)) (k : Nat) (hk : k < N) (hlink : (Cond.fieldLink own index ref (T k).2.1 (T k).2.2.1) ∈ lw_all) (hsame : ∀ x, s.fieldFound? (T k).1 (T k).2.1 (T k).2.2.1 = some x → s.fieldFound? ref (T k).2.1 (T k).2.2.1 = some x) {K : Int32 → Option ρ}
    (hr : Option.bind (g_fI h a ci k) K = some res) (hdg : decode cc pc = .ok (.getfield index, 3)) (kk : ∀ v : Int32, K v = some res → W p l e R s m args below meth c H locs cells slots Q (F0 m (pc + 3) ls (.int v :: rest))) : W p l e R s m args below meth c H locs cells slots Q (F0 m pc ls (.ref a :: rest)) := by
  obtain ⟨v, h1, h2⟩ := gB_i hr
  obtain ⟨fs, h3, h4⟩ := gB_i h1
  exact va_get (D := x.1) (v := .int v) X.1 X.2.1 X.2.2.2.2.2.1 hin X.2.2.2.2.1 X.2.2.2.2.2.2.1.1 (hI.2.1.obj (g_obj_i h3)) 0 rfl hc k hk (X.w hlink) hsame (g_vI_i h4) hdg (kk v h2)
theorem g_getA {ref C : String} {T : u_T} {N ci index : Nat} (X : gXX x base own cc nL ret p l s m args meth c) (hI : gI x base s.heap h n H locs) (hin : ∀ w ∈ u_ws C T N, w ∈ lw_all) (hc : gCl[ci]? = some (C, T, N)) (k : Nat) (hk : k < N) (hlink : (Cond.fieldLink own index ref (T k).2.1 (T k).2.2.1) ∈ lw_all) (hsame : ∀ x, s.fieldFound? (T k).1 (T k).2.1 (T k).2.2.1 = some x → s.fieldFound? ref (T k).2.1 (T k).2.2.1 = some x) {K : Nat → Option ρ}
    (hr : Option.bind (g_fA h a ci k) K = some res) (hdg : decode cc pc = .ok (.getfield index, 3)) (kk : ∀ v : Nat, K v = some res → W p l e R s m args below meth c H locs cells slots Q (F0 m (pc + 3) ls (.ref v :: rest))) : W p l e R s m args below meth c H locs cells slots Q (F0 m pc ls (.ref a :: rest)) := by
  obtain ⟨v, h1, h2⟩ := gB_i hr
  obtain ⟨fs, h3, h4⟩ := gB_i h1
  exact va_get (D := x.1) (v := .ref v) X.1 X.2.1 X.2.2.2.2.2.1 hin X.2.2.2.2.1 X.2.2.2.2.2.2.1.1 (hI.2.1.obj (g_obj_i h3)) 0 rfl hc k hk (X.w hlink) hsame (g_vA_i h4) hdg (kk v h2)
theorem g_getNI {ref C host : String} {T : u_T} {N ci index : Nat} (X : gXX x base own cc nL ret p l s m args meth c) (hI : gI x base s.heap h n H locs) (hin : ∀ w ∈ u_ws C T N, w ∈ lw_all) (hc : gCl[ci]? = some (C, T, N)) (k : Nat) (hk : k < N) (hlink : (own, index, ref, (T k).2.1, (T k).2.2.1, host) ∈ g_fln) (hsame : ∀ x, s.fieldFound? (T k).1 (T k).2.1 (T k).2.2.1 = some x → s.fieldFound? ref (T k).2.1 (T k).2.2.1 = some x) {K : Int32 → Option ρ}
    (hr : Option.bind (g_fI h a ci k) K = some res) (hdg : decode cc pc = .ok (.getfield index, 3)) (kk : ∀ v : Int32, K v = some res → W p l e R s m args below meth c H locs cells slots Q (F0 m (pc + 3) ls (.int v :: rest))) : W p l e R s m args below meth c H locs cells slots Q (F0 m pc ls (.ref a :: rest)) := by
  obtain ⟨v, h1, h2⟩ := gB_i hr
  obtain ⟨fs, h3, h4⟩ := gB_i h1
  exact va_getN (D := x.1) (v := .int v) (host := host) X.1 X.2.1 X.2.2.2.2.2.1 hin X.2.2.2.2.1 X.2.2.2.2.2.2.1.1 (hI.2.1.obj (g_obj_i h3)) 0 rfl hc k hk (va_Nw.use rfl (X.2.2.2.2.2.2.1.2.2.1 _ hlink)) hsame (g_vI_i h4) hdg (kk v h2)
theorem g_getNA {ref C host : String} {T : u_T} {N ci index : Nat} (X : gXX x base own cc nL ret p l s m args meth c) (hI : gI x base s.heap h n H locs) (hin : ∀ w ∈ u_ws C T N, w ∈ lw_all) (hc : gCl[ci]? = some (C, T, N)) (k : Nat) (hk : k < N) (hlink : (own, index, ref, (T k).2.1, (T k).2.2.1, host) ∈ g_fln) (hsame : ∀ x, s.fieldFound? (T k).1 (T k).2.1 (T k).2.2.1 = some x → s.fieldFound? ref (T k).2.1 (T k).2.2.1 = some x) {K : Nat → Option ρ}
    (hr : Option.bind (g_fA h a ci k) K = some res) (hdg : decode cc pc = .ok (.getfield index, 3)) (kk : ∀ v : Nat, K v = some res → W p l e R s m args below meth c H locs cells slots Q (F0 m (pc + 3) ls (.ref v :: rest))) : W p l e R s m args below meth c H locs cells slots Q (F0 m pc ls (.ref a :: rest)) := by
  obtain ⟨v, h1, h2⟩ := gB_i hr
  obtain ⟨fs, h3, h4⟩ := gB_i h1
  exact va_getN (D := x.1) (v := .ref v) (host := host) X.1 X.2.1 X.2.2.2.2.2.1 hin X.2.2.2.2.1 X.2.2.2.2.2.2.1.1 (hI.2.1.obj (g_obj_i h3)) 0 rfl hc k hk (va_Nw.use rfl (X.2.2.2.2.2.2.1.2.2.1 _ hlink)) hsame (g_vA_i h4) hdg (kk v h2)
theorem g_put {ref C : String} {T : u_T} {N ci index : Nat} (X : gXX x base own cc nL ret p l s m args meth c) (hI : gI x base s.heap h n H locs) (hin : ∀ w ∈ u_ws C T N, w ∈ lw_all) (ty0 : Nat → FieldType) (hty : ∀ k, k < N → parseFieldDescriptor (T k).2.2.1 = some (ty0 k)) (hnm : ∀ a, a < N → ∀ b, b < N → a ≠ b → (T a).2.1 ≠ (T b).2.1) (hc : gCl[ci]? = some (C, T, N)) (k : Nat) (hk : k < N) (hlink : (Cond.fieldLink own index ref (T k).2.1 (T k).2.2.1) ∈ lw_all) (hsame : ∀ x, s.fieldFound? (T k).1 (T k).2.1 (T k).2.2.1 = some x → s.fieldFound? ref (T k).2.1 (T k).2.2.1 = some x) (hfin : (T k).2.2.2 = false) {ty : FieldType} {v : Value} (hd : parseFieldDescriptor (T k).2.2.1 = some ty) (hn : narrow ty v = v) (hfit : fits ty v = true) {K : gH → Option ρ}
    (hr : Option.bind (g_pf h a ci k v) K = some res) (hdg : decode cc pc = .ok (.putfield index, 3)) (kk : ∀ (h1 : gH) (H1 : Heap) (locs1 : List Loc), gI x base s.heap h1 n H1 locs1 → K h1 = some res → W p l e R s m args below meth c H1 locs1 cells slots Q (F0 m (pc + 3) ls rest)) : W p l e R s m args below meth c H locs cells slots Q (F0 m pc ls (v :: .ref a :: rest)) := by
  obtain ⟨h1, g1, g2⟩ := gB_i hr
  obtain ⟨fs, g3, g4⟩ := gB_i g1
  obtain ⟨hl, g4⟩ := gIf_o g4
  cases g4
  have he := g_obj_i g3
  have hK := X.2.2.2.2.2.2.1.1
  have hap := va_apart (own := own) X.2.2.2.2.2.1 hin ty0 hty hnm hK hc
  obtain ⟨r, h1, cell, q1, q2, q3, q4⟩ := hI.2.1 a _ he
  have hr' : r = (C, T, N) := Option.some.inj (h1.symm.trans hc)
  subst hr'
  obtain ⟨hS, hfc, kC, hkC, hkind⟩ := hK.1 ci _ hc
  obtain ⟨cf, kf, fi, f, hi, hsl⟩ := hS k hk
  have hlay := X.w (hin _ (u_in_lay hk))
  unfold u_lay at hlay
  rw [if_neg (by rw [hfin]; decide)] at hlay
  have hst := (u_facts hfc hkC (u_lays X.2.2.2.2.2.1 hin hk) hi).1
  have h6 := u_store hfc hkC hkind hlay hi hd hn hfit
  refine W.putK X.1 X.2.1 (f := f) ⟨X.2.2.2.2.1, X.w hlink, ⟨_, _, _, hsame _ hi⟩, hst⟩ (by rw [q2]; exact h6) q1 q3 (by rw [hsl]; exact k2_hasslot (q4 k hk)) rfl rfl hdg fun H' e1 e2 e3 => ?_
  rw [hsl] at e1 ⊢
  exact kk _ H' _ (hI.put (e1 := .inr (ci, fs.set k v)) he e2 ⟨_, hc, t_OB.to (V := updV (vp_V fs) k v) ⟨_, e1, q2, q3, t_set q4 hap hk v⟩ (fun j _ => vp_updV_set hl v j)⟩ e3) g2
theorem g_putF {ref C : String} {T : u_T} {N ci index : Nat} (X : gXX x base own cc nL ret p l s m args meth c) (hI : gI x base s.heap h n H locs) (hin : ∀ w ∈ u_ws C T N, w ∈ lw_all) (ty0 : Nat → FieldType) (hty : ∀ k, k < N → parseFieldDescriptor (T k).2.2.1 = some (ty0 k)) (hnm : ∀ a, a < N → ∀ b, b < N → a ≠ b → (T a).2.1 ≠ (T b).2.1) (hc : gCl[ci]? = some (C, T, N)) (k : Nat) (hk : k < N) (hlink : (Cond.fieldLink own index ref (T k).2.1 (T k).2.2.1) ∈ lw_all) (hsame : ∀ x, s.fieldFound? (T k).1 (T k).2.1 (T k).2.2.1 = some x → s.fieldFound? ref (T k).2.1 (T k).2.2.1 = some x) (hfin : (T k).2.2.2 = true) (hin2 : meth.name = "<init>") (hdecl : (T k).1 = own) {ty : FieldType} {v : Value} (hd : parseFieldDescriptor (T k).2.2.1 = some ty) (hn : narrow ty v = v) (hfit : fits ty v = true) {K : gH → Option ρ}
    (hr : Option.bind (g_pf h a ci k v) K = some res) (hdg : decode cc pc = .ok (.putfield index, 3)) (kk : ∀ (h1 : gH) (H1 : Heap) (locs1 : List Loc), gI x base s.heap h1 n H1 locs1 → K h1 = some res → W p l e R s m args below meth c H1 locs1 cells slots Q (F0 m (pc + 3) ls rest)) : W p l e R s m args below meth c H locs cells slots Q (F0 m pc ls (v :: .ref a :: rest)) := by
  obtain ⟨h1, g1, g2⟩ := gB_i hr
  obtain ⟨fs, g3, g4⟩ := gB_i g1
  obtain ⟨hl, g4⟩ := gIf_o g4
  cases g4
  have he := g_obj_i g3
  have hK := X.2.2.2.2.2.2.1.1
  have hap := va_apart (own := own) X.2.2.2.2.2.1 hin ty0 hty hnm hK hc
  obtain ⟨r, h1, cell, q1, q2, q3, q4⟩ := hI.2.1 a _ he
  have hr' : r = (C, T, N) := Option.some.inj (h1.symm.trans hc)
  subst hr'
  obtain ⟨hS, hfc, kC, hkC, hkind⟩ := hK.1 ci _ hc
  obtain ⟨cf, kf, fi, f, hi, hsl⟩ := hS k hk
  have hlay := X.w (hin _ (u_in_lay hk))
  unfold u_lay at hlay
  rw [if_pos hfin] at hlay
  have hst := (u_facts hfc hkC (u_lays X.2.2.2.2.2.1 hin hk) hi).1
  have hcf : m.cls = cf := by
    obtain ⟨_, _, c', _, _, _, -, -, hf', -, -, -, hown2, -⟩ := Cond.laysFinal_spec hlay
    have e1 : c' = cf := by have := hi.symm.trans hf'; simp at this; exact this.1.symm
    rw [hdecl] at hown2
    rw [← e1]; exact Option.some.inj (X.2.2.2.2.1.symm.trans hown2)
  have h6 := u_fits hfc hkC hkind (Or.inr hlay) hi hd hn hfit
  refine W.putFinK X.1 X.2.1 X.2.2.2.2.1 (X.w hlink) (hsame _ hi) hst hcf hin2 (by rw [q2]; exact h6) q1 q3 (by rw [hsl]; exact k2_hasslot (q4 k hk)) rfl rfl hdg fun H' e1 e2 e3 => ?_
  rw [hsl] at e1 ⊢
  exact kk _ H' _ (hI.put (e1 := .inr (ci, fs.set k v)) he e2 ⟨_, hc, t_OB.to (V := updV (vp_V fs) k v) ⟨_, e1, q2, q3, t_set q4 hap hk v⟩ (fun j _ => vp_updV_set hl v j)⟩ e3) g2
-- arrays
theorem g_alen {t : Nat} {ty : FieldType} (X : gXX x base own cc nL ret p l s m args meth c) (hI : gI x base s.heap h n H locs) (ht : (gTys x.2.1)[t]? = some (x.2.1 t, ty)) {K : Int32 → Option ρ} (hr : Option.bind (g_len h a t) K = some res) (hdg : decode cc pc = .ok (.arraylength, 1))
    (kk : ∀ v : Int32, K v = some res → W p l e R s m args below meth c H locs cells slots Q (F0 m (pc + 1) ls (.int v :: rest))) : W p l e R s m args below meth c H locs cells slots Q (F0 m pc ls (.ref a :: rest)) := by
  obtain ⟨v, h1, h2⟩ := gB_i hr
  obtain ⟨y, h3, h4⟩ := gB_i h1
  cases h4
  exact va_alen X.1 X.2.1 X.2.2.2.2.2.2.1.1 (hI.2.1.arr (g_arr_i h3)) 0 t rfl ht rfl hdg (kk _ h2)
theorem g_aI_i {t : Nat} {i v : Int32} (hr : g_aI h a t i = some v) : ∃ (N : Nat) (f : Nat → Int32), h a = some (.inl (t, N, .inl f)) ∧ vp_in i N ∧ v = f i.toNatClampNeg := by
  obtain ⟨y, h3, h4⟩ := gB_i hr
  obtain ⟨f, h5, h6⟩ := gB_i h4
  have e := g_arr_i h3
  rw [g_xI_i h5] at e
  obtain ⟨h7, h8⟩ := gIf_o h6
  cases h8
  exact ⟨_, f, e, g_in_vp h7, rfl⟩
theorem g_aL_i {t : Nat} {i : Int32} {v : Int64} (hr : g_aL h a t i = some v) : ∃ (N : Nat) (f : Nat → Int64), h a = some (.inl (t, N, .inr (.inl f))) ∧ vp_in i N ∧ v = f i.toNatClampNeg := by
  obtain ⟨y, h3, h4⟩ := gB_i hr
  obtain ⟨f, h5, h6⟩ := gB_i h4
  have e := g_arr_i h3
  rw [g_xL_i h5] at e
  obtain ⟨h7, h8⟩ := gIf_o h6
  cases h8
  exact ⟨_, f, e, g_in_vp h7, rfl⟩
theorem g_aD_i {t : Nat} {i : Int32} {v : UInt64} (hr : g_aD h a t i = some v) : ∃ (N : Nat) (f : Nat → UInt64), h a = some (.inl (t, N, .inr (.inr (.inr (.inl f))))) ∧ vp_in i N ∧ v = f i.toNatClampNeg := by
  obtain ⟨y, h3, h4⟩ := gB_i hr
  obtain ⟨f, h5, h6⟩ := gB_i h4
  have e := g_arr_i h3
  rw [g_xD_i h5] at e
  obtain ⟨h7, h8⟩ := gIf_o h6
  cases h8
  exact ⟨_, f, e, g_in_vp h7, rfl⟩
theorem g_aQ_i {t : Nat} {i : Int32} {v : Option Nat} (hr : g_aQ h a t i = some v) : ∃ (N : Nat) (f : Nat → Option Nat), h a = some (.inl (t, N, .inr (.inr (.inr (.inr f))))) ∧ vp_in i N ∧ v = f i.toNatClampNeg := by
  obtain ⟨y, h3, h4⟩ := gB_i hr
  obtain ⟨f, h5, h6⟩ := gB_i h4
  have e := g_arr_i h3
  rw [g_xQ_i h5] at e
  obtain ⟨h7, h8⟩ := gIf_o h6
  cases h8
  exact ⟨_, f, e, g_in_vp h7, rfl⟩
theorem g_iald (X : gXX x base own cc nL ret p l s m args meth c) (hI : gI x base s.heap h n H locs) {i : Int32} {K : Int32 → Option ρ} (hr : Option.bind (g_aI h a 0 i) K = some res) (hdg : decode cc pc = .ok (.iaload, 1))
    (kk : ∀ v : Int32, K v = some res → W p l e R s m args below meth c H locs cells slots Q (F0 m (pc + 1) ls (.int v :: rest))) : W p l e R s m args below meth c H locs cells slots Q (F0 m pc ls (.int i :: .ref a :: rest)) := by
  obtain ⟨v, h1, h2⟩ := gB_i hr
  obtain ⟨N, f, e, hin, rfl⟩ := g_aI_i h1
  exact va_iald X.1 X.2.1 X.2.2.2.2.2.2.1.1 (hI.2.1.arr e) 0 0 rfl rfl hin hdg (kk _ h2)
theorem g_bald (X : gXX x base own cc nL ret p l s m args meth c) (hI : gI x base s.heap h n H locs) {i : Int32} {K : Int32 → Option ρ} (hr : Option.bind (g_aI h a 1 i) K = some res) (hdg : decode cc pc = .ok (.baload, 1))
    (kk : ∀ v : Int32, K v = some res → W p l e R s m args below meth c H locs cells slots Q (F0 m (pc + 1) ls (.int v :: rest))) : W p l e R s m args below meth c H locs cells slots Q (F0 m pc ls (.int i :: .ref a :: rest)) := by
  obtain ⟨v, h1, h2⟩ := gB_i hr
  obtain ⟨N, f, e, hin, rfl⟩ := g_aI_i h1
  exact va_bald X.1 X.2.1 X.2.2.2.2.2.2.1.1 (hI.2.1.arr e) 0 1 rfl rfl hin hdg (kk _ h2)
theorem g_zald (X : gXX x base own cc nL ret p l s m args meth c) (hI : gI x base s.heap h n H locs) {i : Int32} {K : Int32 → Option ρ} (hr : Option.bind (g_aI h a 2 i) K = some res) (hdg : decode cc pc = .ok (.baload, 1))
    (kk : ∀ v : Int32, K v = some res → W p l e R s m args below meth c H locs cells slots Q (F0 m (pc + 1) ls (.int v :: rest))) : W p l e R s m args below meth c H locs cells slots Q (F0 m pc ls (.int i :: .ref a :: rest)) := by
  obtain ⟨v, h1, h2⟩ := gB_i hr
  obtain ⟨N, f, e, hin, rfl⟩ := g_aI_i h1
  exact va_zald X.1 X.2.1 X.2.2.2.2.2.2.1.1 (hI.2.1.arr e) 0 2 rfl rfl hin hdg (kk _ h2)
theorem g_lald (X : gXX x base own cc nL ret p l s m args meth c) (hI : gI x base s.heap h n H locs) {i : Int32} {K : Int64 → Option ρ} (hr : Option.bind (g_aL h a 5 i) K = some res) (hdg : decode cc pc = .ok (.laload, 1))
    (kk : ∀ v : Int64, K v = some res → W p l e R s m args below meth c H locs cells slots Q (F0 m (pc + 1) ls (.long v :: rest))) : W p l e R s m args below meth c H locs cells slots Q (F0 m pc ls (.int i :: .ref a :: rest)) := by
  obtain ⟨v, h1, h2⟩ := gB_i hr
  obtain ⟨N, f, e, hin, rfl⟩ := g_aL_i h1
  exact va_lald X.1 X.2.1 X.2.2.2.2.2.2.1.1 (hI.2.1.arr e) 0 5 rfl rfl hin hdg (kk _ h2)
theorem g_dald (X : gXX x base own cc nL ret p l s m args meth c) (hI : gI x base s.heap h n H locs) {i : Int32} {K : UInt64 → Option ρ} (hr : Option.bind (g_aD h a 6 i) K = some res) (hdg : decode cc pc = .ok (.daload, 1))
    (kk : ∀ v : UInt64, K v = some res → W p l e R s m args below meth c H locs cells slots Q (F0 m (pc + 1) ls (.double v :: rest))) : W p l e R s m args below meth c H locs cells slots Q (F0 m pc ls (.int i :: .ref a :: rest)) := by
  obtain ⟨v, h1, h2⟩ := gB_i hr
  obtain ⟨N, f, e, hin, rfl⟩ := g_aD_i h1
  exact va_dald X.1 X.2.1 X.2.2.2.2.2.2.1.1 (hI.2.1.arr e) 0 6 rfl rfl hin hdg (kk _ h2)
theorem g_aaldQ {t : Nat} {C : String} (X : gXX x base own cc nL ret p l s m args meth c) (hI : gI x base s.heap h n H locs) (ht : (gTys x.2.1)[t]? = some (x.2.1 t, .object C)) {i : Int32} {K : Option Nat → Option ρ} (hr : Option.bind (g_aQ h a t i) K = some res) (hdg : decode cc pc = .ok (.aaload, 1))
    (kk : ∀ v : Option Nat, K v = some res → W p l e R s m args below meth c H locs cells slots Q (F0 m (pc + 1) ls (va_rf v :: rest))) : W p l e R s m args below meth c H locs cells slots Q (F0 m pc ls (.int i :: .ref a :: rest)) := by
  obtain ⟨v, h1, h2⟩ := gB_i hr
  obtain ⟨N, f, e, hin, rfl⟩ := g_aQ_i h1
  exact va_aldq X.1 X.2.1 X.2.2.2.2.2.2.1.1 (hI.2.1.arr e) 0 t rfl ht hin hdg (kk _ h2)
theorem g_aaldA {t : Nat} {C : String} (X : gXX x base own cc nL ret p l s m args meth c) (hI : gI x base s.heap h n H locs) (ht : (gTys x.2.1)[t]? = some (x.2.1 t, .object C)) {i : Int32} {K : Nat → Option ρ} (hr : Option.bind (g_aA h a t i) K = some res) (hdg : decode cc pc = .ok (.aaload, 1))
    (kk : ∀ v : Nat, K v = some res → W p l e R s m args below meth c H locs cells slots Q (F0 m (pc + 1) ls (.ref v :: rest))) : W p l e R s m args below meth c H locs cells slots Q (F0 m pc ls (.int i :: .ref a :: rest)) := by
  obtain ⟨v, h1, h2⟩ := gB_i hr
  obtain ⟨r, h3, rfl⟩ := gB_i h1
  exact g_aaldQ X hI ht (K := fun r => Option.bind r K) (hr := by rw [h3]; exact h2) hdg (fun r hr => by
    obtain ⟨w, rfl, hw⟩ := gB_i hr
    exact kk w hw)
end GROW
