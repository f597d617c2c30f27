/-! ROWS over the abstract heap: array stores, new cells, calls, ends -/
section GROW2
variable {p : Program} {l : Launch} {e : Env} {R : Room} {s : State} {m : MethodId} {args : Array Value} {below : List Frame} {meth : Method} {c : Code} {H : Heap} {locs : List Loc} {cells slots : Nat} {Q : State → Prop}
variable {x : gV} {base : Nat} {own : String} {cc : ByteArray} {nL : Nat} {ret : Option FieldType} {pc : Nat} {ls : Array Slot} {rest : List Value} {h : gH} {n : Nat} {H0 : Heap} {ρ : Type} {res : ρ} {a : Nat}
theorem g_sI_i {t : Nat} {i v : Int32} {h1 : gH} (hr : g_sI h a t i v = some h1) : ∃ (N : Nat) (f : Nat → Int32), h a = some (.inl (t, N, .inl f)) ∧ vp_in i N ∧ h1 = g_up h a (.inl (t, N, .inl (upd f i.toNatClampNeg v))) := by
  obtain ⟨y, h3, h4⟩ := gB_i hr
  obtain ⟨f, h5, h6⟩ := gB_i h4
  have e := g_arr_i h3
  rw [g_xI_i h5] at e
  obtain ⟨h7, h8⟩ := gIf_o h6
  cases h8
  exact ⟨_, f, e, g_in_vp h7, rfl⟩
theorem g_sL_i {t : Nat} {i : Int32} {v : Int64} {h1 : gH} (hr : g_sL h a t i v = some h1) : ∃ (N : Nat) (f : Nat → Int64), h a = some (.inl (t, N, .inr (.inl f))) ∧ vp_in i N ∧ h1 = g_up h a (.inl (t, N, .inr (.inl (vp_updL f i.toNatClampNeg v)))) := by
  obtain ⟨y, h3, h4⟩ := gB_i hr
  obtain ⟨f, h5, h6⟩ := gB_i h4
  have e := g_arr_i h3
  rw [g_xL_i h5] at e
  obtain ⟨h7, h8⟩ := gIf_o h6
  cases h8
  exact ⟨_, f, e, g_in_vp h7, rfl⟩
theorem g_sD_i {t : Nat} {i : Int32} {v : UInt64} {h1 : gH} (hr : g_sD h a t i v = some h1) : ∃ (N : Nat) (f : Nat → UInt64), h a = some (.inl (t, N, .inr (.inr (.inr (.inl f))))) ∧ vp_in i N ∧ h1 = g_up h a (.inl (t, N, .inr (.inr (.inr (.inl (vf_upd f i.toNatClampNeg v)))))) := by
  obtain ⟨y, h3, h4⟩ := gB_i hr
  obtain ⟨f, h5, h6⟩ := gB_i h4
  have e := g_arr_i h3
  rw [g_xD_i h5] at e
  obtain ⟨h7, h8⟩ := gIf_o h6
  cases h8
  exact ⟨_, f, e, g_in_vp h7, rfl⟩
theorem g_sQ_i {t : Nat} {i : Int32} {v : Option Nat} {h1 : gH} (hr : g_sQ h a t i v = some h1) : ∃ (N : Nat) (f : Nat → Option Nat), h a = some (.inl (t, N, .inr (.inr (.inr (.inr f))))) ∧ vp_in i N ∧ h1 = g_up h a (.inl (t, N, .inr (.inr (.inr (.inr (va_up f i.toNatClampNeg v)))))) := by
  obtain ⟨y, h3, h4⟩ := gB_i hr
  obtain ⟨f, h5, h6⟩ := gB_i h4
  have e := g_arr_i h3
  rw [g_xQ_i h5] at e
  obtain ⟨h7, h8⟩ := gIf_o h6
  cases h8
  exact ⟨_, f, e, g_in_vp h7, rfl⟩
theorem gK_arr (X : gXX x base own cc nL ret p l s m args meth c) {t : Nat} {ty : FieldType} (ht : (gTys x.2.1)[t]? = some (x.2.1 t, ty)) (N : Nat) (z : Nat → Value) : s.isArrayOf (arrV (x.2.1 t) N z) ty := (X.2.2.2.2.2.2.1.1.2 t _ ht).1 N z
theorem g_iast (X : gXX x base own cc nL ret p l s m args meth c) (hI : gI x base s.heap h n H locs) {i v : Int32} {K : gH → Option ρ} (hr : Option.bind (g_sI h a 0 i v) K = some res) (hdg : decode cc pc = .ok (.iastore, 1))
    (kk : ∀ (h1 : gH) (H1 : Heap) (locs1 : List Loc), gI x base s.heap h1 n H1 locs1 → K h1 = some res → W p l e R s m args below meth c H1 locs1 cells slots Q (F0 m (pc + 1) ls rest)) : W p l e R s m args below meth c H locs cells slots Q (F0 m pc ls (.int v :: .int i :: .ref a :: rest)) := by
  obtain ⟨h1, g1, g2⟩ := gB_i hr
  obtain ⟨N, f, he, hin, rfl⟩ := g_sI_i g1
  refine W.iast X.1 X.2.1 (hI.2.1 a _ he) (gK_arr X rfl N (fun j => .int (f j))) (fun q => by cases q) (by show ¬ (i < 0 ∨ (arrV _ _ _).slots.size ≤ _); rw [arrV_size]; exact hin) rfl rfl hdg fun H1 e1 z oq => ?_
  refine kk _ H1 _ (hI.put (e1 := .inl (0, N, .inl (upd f i.toNatClampNeg v))) he z ?_ oq) g2
  show H1[a]? = some (vp_cell _ _)
  rw [e1]
  show some (Cell.setSlot (vp_cell _ _) _ _) = some (vp_cell _ _)
  rw [vp_cell_i, vp_cell_i, arrV_store]
  congr 2
  funext q
  by_cases hq : q = i.toNatClampNeg
  · subst hq
    simp [updV, upd]
  · simp [updV, upd, hq]
theorem g_bast (X : gXX x base own cc nL ret p l s m args meth c) (hI : gI x base s.heap h n H locs) {i v : Int32} {K : gH → Option ρ} (hr : Option.bind (g_sI h a 1 i (vp_nar .byte v)) K = some res) (hdg : decode cc pc = .ok (.bastore, 1))
    (kk : ∀ (h1 : gH) (H1 : Heap) (locs1 : List Loc), gI x base s.heap h1 n H1 locs1 → K h1 = some res → W p l e R s m args below meth c H1 locs1 cells slots Q (F0 m (pc + 1) ls rest)) : W p l e R s m args below meth c H locs cells slots Q (F0 m pc ls (.int v :: .int i :: .ref a :: rest)) := by
  obtain ⟨h1, g1, g2⟩ := gB_i hr
  obtain ⟨N, f, he, hin, rfl⟩ := g_sI_i g1
  refine W.bast X.1 X.2.1 (hI.2.1 a _ he) (gK_arr X (t := 1) rfl N (fun j => .int (f j))) (fun q => by cases q) (by show ¬ (i < 0 ∨ (arrV _ _ _).slots.size ≤ _); rw [arrV_size]; exact hin) rfl rfl hdg fun H1 e1 z oq => ?_
  refine kk _ H1 _ (hI.put (e1 := .inl (1, N, .inl (upd f i.toNatClampNeg (vp_nar .byte v)))) he z ?_ oq) g2
  show H1[a]? = some (vp_cell _ _)
  rw [e1]
  show some (Cell.setSlot (vp_cell _ _) _ _) = some (vp_cell _ _)
  rw [vp_cell_i, vp_cell_i, arrV_store]
  congr 2
  funext q
  by_cases hq : q = i.toNatClampNeg
  · subst hq
    simp [updV, upd, vp_nar]
    try rfl
  · simp [updV, upd, hq]
theorem g_zast (X : gXX x base own cc nL ret p l s m args meth c) (hI : gI x base s.heap h n H locs) {i v : Int32} {K : gH → Option ρ} (hr : Option.bind (g_sI h a 2 i (vp_nar .boolean v)) K = some res) (hdg : decode cc pc = .ok (.bastore, 1))
    (kk : ∀ (h1 : gH) (H1 : Heap) (locs1 : List Loc), gI x base s.heap h1 n H1 locs1 → K h1 = some res → W p l e R s m args below meth c H1 locs1 cells slots Q (F0 m (pc + 1) ls rest)) : W p l e R s m args below meth c H locs cells slots Q (F0 m pc ls (.int v :: .int i :: .ref a :: rest)) := by
  obtain ⟨h1, g1, g2⟩ := gB_i hr
  obtain ⟨N, f, he, hin, rfl⟩ := g_sI_i g1
  refine W.zast X.1 X.2.1 (hI.2.1 a _ he) (gK_arr X (t := 2) rfl N (fun j => .int (f j))) (fun q => by cases q) (by show ¬ (i < 0 ∨ (arrV _ _ _).slots.size ≤ _); rw [arrV_size]; exact hin) rfl rfl hdg fun H1 e1 z oq => ?_
  refine kk _ H1 _ (hI.put (e1 := .inl (2, N, .inl (upd f i.toNatClampNeg (vp_nar .boolean v)))) he z ?_ oq) g2
  show H1[a]? = some (vp_cell _ _)
  rw [e1]
  show some (Cell.setSlot (vp_cell _ _) _ _) = some (vp_cell _ _)
  rw [vp_cell_i, vp_cell_i, arrV_store]
  congr 2
  funext q
  by_cases hq : q = i.toNatClampNeg
  · subst hq
    simp [updV, upd, vp_nar]
    try rfl
  · simp [updV, upd, hq]
theorem g_last (X : gXX x base own cc nL ret p l s m args meth c) (hI : gI x base s.heap h n H locs) {i : Int32} {v : Int64} {K : gH → Option ρ} (hr : Option.bind (g_sL h a 5 i v) K = some res) (hdg : decode cc pc = .ok (.lastore, 1))
    (kk : ∀ (h1 : gH) (H1 : Heap) (locs1 : List Loc), gI x base s.heap h1 n H1 locs1 → K h1 = some res → W p l e R s m args below meth c H1 locs1 cells slots Q (F0 m (pc + 1) ls rest)) : W p l e R s m args below meth c H locs cells slots Q (F0 m pc ls (.long v :: .int i :: .ref a :: rest)) := by
  obtain ⟨h1, g1, g2⟩ := gB_i hr
  obtain ⟨N, f, he, hin, rfl⟩ := g_sL_i g1
  refine W.last X.1 X.2.1 (hI.2.1 a _ he) (gK_arr X (t := 5) rfl N (fun j => .long (f j))) (fun q => by cases q) (by show ¬ (i < 0 ∨ (arrV _ _ _).slots.size ≤ _); rw [arrV_size]; exact hin) rfl rfl hdg fun H1 e1 z oq => ?_
  refine kk _ H1 _ (hI.put (e1 := .inl (5, N, .inr (.inl (vp_updL f i.toNatClampNeg v)))) he z ?_ oq) g2
  show H1[a]? = some (vp_cell _ _)
  rw [e1]
  show some (Cell.setSlot (vp_cell _ _) _ _) = some (vp_cell _ _)
  rw [vp_cell_l, vp_cell_l, arrV_store]
  congr 2
  funext q
  by_cases hq : q = i.toNatClampNeg
  · subst hq
    simp [updV, vp_updL]
  · simp [updV, vp_updL, hq]
theorem g_dast (X : gXX x base own cc nL ret p l s m args meth c) (hI : gI x base s.heap h n H locs) {i : Int32} {v : UInt64} {K : gH → Option ρ} (hr : Option.bind (g_sD h a 6 i v) K = some res) (hdg : decode cc pc = .ok (.dastore, 1))
    (kk : ∀ (h1 : gH) (H1 : Heap) (locs1 : List Loc), gI x base s.heap h1 n H1 locs1 → K h1 = some res → W p l e R s m args below meth c H1 locs1 cells slots Q (F0 m (pc + 1) ls rest)) : W p l e R s m args below meth c H locs cells slots Q (F0 m pc ls (.double v :: .int i :: .ref a :: rest)) := by
  obtain ⟨h1, g1, g2⟩ := gB_i hr
  obtain ⟨N, f, he, hin, rfl⟩ := g_sD_i g1
  refine W.dast X.1 X.2.1 (hI.2.1 a _ he) (gK_arr X (t := 6) rfl N (fun j => .double (f j))) (fun q => by cases q) (by show ¬ (i < 0 ∨ (arrV _ _ _).slots.size ≤ _); rw [arrV_size]; exact hin) rfl rfl hdg fun H1 e1 z oq => ?_
  refine kk _ H1 _ (hI.put (e1 := .inl (6, N, .inr (.inr (.inr (.inl (vf_upd f i.toNatClampNeg v)))))) he z ?_ oq) g2
  show H1[a]? = some (vp_cell _ _)
  rw [e1]
  show some (Cell.setSlot (vp_cell _ _) _ _) = some (vp_cell _ _)
  rw [vp_cell_d, vp_cell_d, arrV_store]
  congr 2
  funext q
  by_cases hq : q = i.toNatClampNeg
  · subst hq
    simp [updV, vf_upd]
  · simp [updV, vf_upd, hq]
/-- a reference into an array of C: an object (or a String) that may lie there -/
theorem g_aast {t : Nat} {C : String} (X : gXX x base own cc nL ret p l s m args meth c) (hI : gI x base s.heap h n H locs) (ht : (gTys x.2.1)[t]? = some (x.2.1 t, .object C)) {i : Int32} {v : Nat} (hv : va_Any C s H v) {K : gH → Option ρ} (hr : Option.bind (g_sQ h a t i (some v)) K = some res) (hdg : decode cc pc = .ok (.aastore, 1))
    (kk : ∀ (h1 : gH) (H1 : Heap) (locs1 : List Loc), gI x base s.heap h1 n H1 locs1 → K h1 = some res → W p l e R s m args below meth c H1 locs1 cells slots Q (F0 m (pc + 1) ls rest)) : W p l e R s m args below meth c H locs cells slots Q (F0 m pc ls (.ref v :: .int i :: .ref a :: rest)) := by
  obtain ⟨h1, g1, g2⟩ := gB_i hr
  obtain ⟨N, f, he, hin, rfl⟩ := g_sQ_i g1
  have hlt : i.toNatClampNeg < N := Nat.not_le.mp fun q => hin (Or.inr q)
  have h0 : ¬ i < 0 := fun q => hin (Or.inl q)
  obtain ⟨cellV, g1, g3, ⟨kC, hkC⟩, hasg⟩ := hv
  obtain ⟨kA, comp, k1, k2, k3, -⟩ := (X.2.2.2.2.2.2.1.1.2 t _ ht).2
  obtain ⟨kE, hkE, -⟩ := Vm.findClass_spec k3
  refine W.aast X.1 X.2.1 (hI.2.1 a _ he) (fun q h => by cases h) (fun h => by cases h) k1 k2 rfl hkE ⟨h0, by show _ < (arrV _ _ _).slots.size; rw [arrV_size]; exact hlt⟩ g1 (fun q h => by rw [h] at g3; cases g3) hkC (hasg _ k3) rfl rfl hdg fun H1 e1 z oq => ?_
  refine kk _ H1 _ (hI.put (e1 := .inl (t, N, .inr (.inr (.inr (.inr (va_up f i.toNatClampNeg (some v))))))) he z ?_ oq) g2
  show H1[a]? = some (vp_cell _ _)
  rw [e1]
  show some (Cell.setSlot (vp_cell _ _) _ _) = some (vp_cell _ _)
  rw [vp_cell_q, vp_cell_q, arrV_store]
  congr 2
  funext q
  by_cases hq : q = i.toNatClampNeg
  · subst hq
    simp [updV, va_up, va_rf]
  · simp [updV, va_up, hq]
theorem g_aastN {t : Nat} {C : String} (X : gXX x base own cc nL ret p l s m args meth c) (hI : gI x base s.heap h n H locs) (ht : (gTys x.2.1)[t]? = some (x.2.1 t, .object C)) {i : Int32} {K : gH → Option ρ} (hr : Option.bind (g_sQ h a t i none) K = some res) (hdg : decode cc pc = .ok (.aastore, 1))
    (kk : ∀ (h1 : gH) (H1 : Heap) (locs1 : List Loc), gI x base s.heap h1 n H1 locs1 → K h1 = some res → W p l e R s m args below meth c H1 locs1 cells slots Q (F0 m (pc + 1) ls rest)) : W p l e R s m args below meth c H locs cells slots Q (F0 m pc ls (.null :: .int i :: .ref a :: rest)) := by
  obtain ⟨h1, g1, g2⟩ := gB_i hr
  obtain ⟨N, f, he, hin, rfl⟩ := g_sQ_i g1
  refine va_WaastN (C := C) X.1 X.2.1 (hI.2.1 a _ he) (gK_arr X ht N (fun j => va_rf (f j))) (fun h => by cases h) (by show ¬ (i < 0 ∨ (arrV _ _ _).slots.size ≤ _); rw [arrV_size]; exact hin) rfl rfl hdg fun H1 e1 z oq => ?_
  refine kk _ H1 _ (hI.put (e1 := .inl (t, N, .inr (.inr (.inr (.inr (va_up f i.toNatClampNeg none)))))) he z ?_ oq) g2
  show H1[a]? = some (vp_cell _ _)
  rw [e1]
  show some (Cell.setSlot (vp_cell _ _) _ _) = some (vp_cell _ _)
  rw [vp_cell_q, vp_cell_q, arrV_store]
  congr 2
  funext q
  by_cases hq : q = i.toNatClampNeg
  · subst hq
    simp [updV, va_up, va_rf]
  · simp [updV, va_up, hq]
/-- the object at v is of the class number ci: it may lie in a row of its own class, or of one that it can be cast to -/
theorem g_any {C E : String} {T : u_T} {N ci v : Nat} {fs : List Value} (X : gXX x base own cc nL ret p l s m args meth c) (hI : gI x base s.heap h n H locs) (he : g_obj h v ci = some fs) (hc : gCl[ci]? = some (C, T, N)) (hca : (C, E) ∈ g_cast) : va_Any E s H v :=
  va_rAny (q0 := 0) X.2.2.2.2.2.2.1.1 (hI.2.1.obj (g_obj_i he)) rfl hc (fun comp c0 h1 h2 => vb_asgC (X.2.2.2.2.2.2.1.2.1 _ hca) comp c0 h1 h2)
theorem g_anyS {C : String} {T : u_T} {N ci v : Nat} {fs : List Value} (X : gXX x base own cc nL ret p l s m args meth c) (hI : gI x base s.heap h n H locs) (he : g_obj h v ci = some fs) (hc : gCl[ci]? = some (C, T, N)) : va_Any C s H v :=
  va_rAny (q0 := 0) X.2.2.2.2.2.2.1.1 (hI.2.1.obj (g_obj_i he)) rfl hc (fun comp c0 h1 h2 => by
    have hcl := (X.2.2.2.2.2.2.1.1.1 ci _ hc).2
    have e1 := Option.some.inj (h1.symm.trans hcl.1)
    have e2 := Option.some.inj (h2.symm.trans hcl.1)
    rw [e1, e2]
    exact va_assign hcl)
theorem g_recv {C : String} {T : u_T} {N ci v : Nat} {fs : List Value} (X : gXX x base own cc nL ret p l s m args meth c) (hI : gI x base s.heap h n H locs) (he : g_obj h v ci = some fs) (hc : gCl[ci]? = some (C, T, N)) : ∃ cell : Cell, H[v]? = some cell ∧ cell.vm.isStatics = false ∧ s.vm.findClass C = some cell.cls :=
  va_recv (q0 := 0) X.2.2.2.2.2.2.1.1 (hI.2.1.obj (g_obj_i he)) hc rfl
-- new cells
theorem g_newO {C : String} {T : u_T} {N ci index : Nat} (X : gXX x base own cc nL ret p l s m args meth c) (hI : gI x base s.heap h n H locs) (hin : ∀ w ∈ u_ws C T N, w ∈ lw_all) (ty : Nat → FieldType) (hty : ∀ k, k < N → parseFieldDescriptor (T k).2.2.1 = some (ty k)) (hcl : (Cond.classLink own index C) ∈ lw_all) (hinst : (Cond.instantiable C N) ∈ lw_all) (hini : (Cond.initialized C) ∈ lw_all) (hc : gCl[ci]? = some (C, T, N)) {fs : List Value} (hfs : ∀ j, j < N → defaultValue (ty j) = vp_V fs j) (hcells : cells + 1 ≤ R.cells) (hslots : slots + N ≤ R.slots) {K : Nat → gH → Nat → Option ρ} (hr : gT3 (g_new h n (.inr (ci, fs))) K = some res) (hdg : decode cc pc = .ok (.new index, 3))
    (kk : ∀ (q : Nat) (h1 : gH) (n1 : Nat) (H1 : Heap) (locs1 : List Loc), gI x base s.heap h1 n1 H1 locs1 → K q h1 n1 = some res → W p l e R s m args below meth c H1 locs1 (cells + 1) (slots + N) Q (F0 m (pc + 3) ls (.ref q :: rest))) : W p l e R s m args below meth c H locs cells slots Q (F0 m pc ls rest) := by
  have hr : K n (g_up h n (.inr (ci, fs))) (n + 1) = some res := hr
  have hKn := X.2.2.2.2.2.2.1.1.1 ci _ hc
  refine W.newcK X.1 X.2.1 X.2.2.2.2.1 (X.w hcl) (X.w hinst) (X.w hini) rfl hdg hcells hslots hKn.2.1 rfl fun H1 kC hkC e1 z1 o1 => ?_
  have e2 := hI.1
  rw [e2]
  refine kk n _ (n + 1) H1 locs (hI.new (e1 := .inr (ci, fs)) z1 ⟨_, hc, ?_⟩ o1) hr
  exact (u_born ty X.2.2.2.2.2.1 hin hKn hkC e1 hty).to hfs
theorem g_newI {t b : Nat} {atype : ArrayType} (X : gXX x base own cc nL ret p l s m args meth c) (hI : gI x base s.heap h n H locs) (harr : (Cond.arrayClass (newarray.typeOf atype)) ∈ lw_all) (ht : (gTys x.2.1)[t]? = some (x.2.1 t, newarray.typeOf atype)) (hdv : defaultValue (newarray.typeOf atype) = .int 0) (hcb : b * componentBytes (newarray.typeOf atype) ≤ 536870912) {k : Int32} (hcells : cells + 1 ≤ R.cells) (hslots : slots + b ≤ R.slots) {K : Nat → gH → Nat → Option ρ} (hr : gT3 (g_nI h n t b k) K = some res) (hdg : decode cc pc = .ok (.newarray atype, 2))
    (kk : ∀ (q : Nat) (h1 : gH) (n1 : Nat) (H1 : Heap) (locs1 : List Loc), gI x base s.heap h1 n1 H1 locs1 → K q h1 n1 = some res → W p l e R s m args below meth c H1 locs1 (cells + 1) (slots + b) Q (F0 m (pc + 2) ls (.ref q :: rest))) : W p l e R s m args below meth c H locs cells slots Q (F0 m pc ls (.int k :: rest)) := by
  obtain ⟨q, h1, n1, g1, g2⟩ := gT3_i hr
  obtain ⟨⟨hk, hb⟩, g3⟩ := gIf_o g1
  cases g3
  have e2 := hI.1
  have hmul : k.toNatClampNeg * componentBytes (newarray.typeOf atype) ≤ b * componentBytes (newarray.typeOf atype) := Nat.mul_le_mul_right _ hb
  refine va_newaK X.1 X.2.1 (X.w harr) (g := F0 m pc ls (.int k :: rest)) rfl hdg rfl hk rfl (Nat.le_trans hmul hcb) hcells (Nat.le_trans (Nat.add_le_add_left hb _) hslots) e2 fun H1 cA f1 z1 o1 hAr hNm => ?_
  refine W.widen (k := cells + 1) (n := slots + b) (Nat.le_refl _) (Nat.add_le_add_left hb _) ?_
  have hcA : x.2.1 t = cA := by
    have h9 := (X.2.2.2.2.2.2.1.1.2 t _ ht).2
    have h8 : s.vm.findClass ("[" ++ (newarray.typeOf atype).toString) = some (x.2.1 t) := by
      revert h9
      cases atype <;> exact fun h9 => h9
    exact Option.some.inj (h8.symm.trans hNm)
  refine kk n _ (n + 1) H1 locs (hI.new (e1 := .inl (t, k.toNatClampNeg, .inl fun _ => 0)) (by rw [e2]; exact z1) ?_ (by rw [e2]; exact o1)) g2
  rw [e2]
  show H1[n]? = some (vp_cell (x.2.1 t) (k.toNatClampNeg, .inl fun _ => 0))
  rw [vp_cell_i, f1, hdv, hcA]
theorem g_newQ {t b : Nat} {C : String} {index : Nat} (X : gXX x base own cc nL ret p l s m args meth c) (hI : gI x base s.heap h n H locs) (hclink : (Cond.classLink own index C) ∈ lw_all) (hover : FieldType.object C ∈ g_ao) (ht : (gTys x.2.1)[t]? = some (x.2.1 t, .object C)) (hcb : b * 4 ≤ 536870912) {k : Int32} (hcells : cells + 1 ≤ R.cells) (hslots : slots + b ≤ R.slots) {K : Nat → gH → Nat → Option ρ} (hr : gT3 (g_nQ h n t b k) K = some res) (hdg : decode cc pc = .ok (.anewarray index, 3))
    (kk : ∀ (q : Nat) (h1 : gH) (n1 : Nat) (H1 : Heap) (locs1 : List Loc), gI x base s.heap h1 n1 H1 locs1 → K q h1 n1 = some res → W p l e R s m args below meth c H1 locs1 (cells + 1) (slots + b) Q (F0 m (pc + 3) ls (.ref q :: rest))) : W p l e R s m args below meth c H locs cells slots Q (F0 m pc ls (.int k :: rest)) := by
  obtain ⟨q, h1, n1, g1, g2⟩ := gT3_i hr
  obtain ⟨⟨hk, hb⟩, g3⟩ := gIf_o g1
  cases g3
  have e2 := hI.1
  refine W.anew X.1 X.2.1 X.2.2.2.2.1 (X.w hclink) (X.2.2.2.2.2.2.1.2.2.2.2.1 _ hover) rfl hdg rfl hk (by omega) hcells (Nat.le_trans (Nat.add_le_add_left hb _) hslots) fun cA kA comp f1 f2 f3 f4 => ?_
  refine W.widen (k := cells + 1) (n := slots + b) (Nat.le_refl _) (Nat.add_le_add_left hb _) ?_
  generalize hH1 : H.push ({ cls := cA, slots := Array.replicate k.toNatClampNeg .null, vm := .none } : Cell) = H1
  have z1 : H1.size = H.size + 1 := by rw [← hH1, Array.size_push]
  have e1 : H1[H.size]? = some (arrV cA k.toNatClampNeg (fun _ => .null)) := by rw [← hH1, Array.getElem?_push_size, ← arrV_new]
  have o1 : ∀ q : Nat, q < H.size → H1[q]? = H[q]? := fun q hq => by rw [← hH1, Array.getElem?_push, if_neg (Nat.ne_of_lt hq)]
  have hcA : x.2.1 t = cA := by
    obtain ⟨_, _, _, _, _, h8⟩ := (X.2.2.2.2.2.2.1.1.2 t _ ht).2
    exact Option.some.inj (h8.symm.trans f1)
  rw [e2]
  refine kk n _ (n + 1) H1 locs (hI.new (e1 := .inl (t, k.toNatClampNeg, .inr (.inr (.inr (.inr fun _ => none))))) z1 ?_ o1) g2
  show H1[H.size]? = some (vp_cell (x.2.1 t) (k.toNatClampNeg, .inr (.inr (.inr (.inr fun _ => none)))))
  rw [vp_cell_q, e1, hcA]
  rfl
end GROW2
