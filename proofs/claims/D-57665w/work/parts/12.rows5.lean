/-! ROWS: copies, grids, defaults of new objects, nest mates' constructors -/
theorem g_dflt2 {P : Nat → Prop} (a : P 0) (b : P 1) : ∀ j, j < 2 → P j := by
  intro j hj; rcases (show j = 0 ∨ j = 1 by omega) with h | h <;> subst h <;> assumption
theorem g_dflt3 {P : Nat → Prop} (a : P 0) (b : P 1) (c : P 2) : ∀ j, j < 3 → P j := by
  intro j hj; rcases (show j = 0 ∨ j = 1 ∨ j = 2 by omega) with h | h | h <;> subst h <;> assumption
theorem g_dflt4 {P : Nat → Prop} (a : P 0) (b : P 1) (c : P 2) (d : P 3) : ∀ j, j < 4 → P j := by
  intro j hj; rcases (show j = 0 ∨ j = 1 ∨ j = 2 ∨ j = 3 by omega) with h | h | h | h <;> subst h <;> assumption
theorem g_dflt5 {P : Nat → Prop} (a : P 0) (b : P 1) (c : P 2) (d : P 3) (e : P 4) : ∀ j, j < 5 → P j := by
  intro j hj; rcases (show j = 0 ∨ j = 1 ∨ j = 2 ∨ j = 3 ∨ j = 4 by omega) with h | h | h | h | h <;> subst h <;> assumption
theorem g_dflt8 {P : Nat → Prop} (a : P 0) (b : P 1) (c : P 2) (d : P 3) (e : P 4) (f : P 5) (g : P 6) (i : P 7) : ∀ j, j < 8 → P j := by
  intro j hj; rcases (show j = 0 ∨ j = 1 ∨ j = 2 ∨ j = 3 ∨ j = 4 ∨ j = 5 ∨ j = 6 ∨ j = 7 by omega) with h | h | h | h | h | h | h | h <;> subst h <;> assumption
theorem g_dflt10 {P : Nat → Prop} (a : P 0) (b : P 1) (c : P 2) (d : P 3) (e : P 4) (f : P 5) (g : P 6) (i : P 7) (k : P 8) (l : P 9) : ∀ j, j < 10 → P j := by
  intro j hj; rcases (show j = 0 ∨ j = 1 ∨ j = 2 ∨ j = 3 ∨ j = 4 ∨ j = 5 ∨ j = 6 ∨ j = 7 ∨ j = 8 ∨ j = 9 by omega) with h | h | h | h | h | h | h | h | h | h <;> subst h <;> assumption
theorem g_dflt20 {P : Nat → Prop} (a0 : P 0) (a1 : P 1) (a2 : P 2) (a3 : P 3) (a4 : P 4) (a5 : P 5) (a6 : P 6) (a7 : P 7) (a8 : P 8) (a9 : P 9) (a10 : P 10) (a11 : P 11) (a12 : P 12) (a13 : P 13) (a14 : P 14) (a15 : P 15) (a16 : P 16) (a17 : P 17) (a18 : P 18) (a19 : P 19) : ∀ j, j < 20 → P j := by
  intro j hj; rcases (show j = 0 ∨ j = 1 ∨ j = 2 ∨ j = 3 ∨ j = 4 ∨ j = 5 ∨ j = 6 ∨ j = 7 ∨ j = 8 ∨ j = 9 ∨ j = 10 ∨ j = 11 ∨ j = 12 ∨ j = 13 ∨ j = 14 ∨ j = 15 ∨ j = 16 ∨ j = 17 ∨ j = 18 ∨ j = 19 by omega) with h | h | h | h | h | h | h | h | h | h | h | h | h | h | h | h | h | h | h | h <;> subst h <;> assumption
section GROW5
variable {p : Program} {l : Launch} {e : Env} {R : Room} {s : State} {m : MethodId} {args : Array Value} {below : List Frame} {meth : Method} {c : Code} {H : Heap} {locs : List Loc} {cells slots : Nat} {Q : State → Prop}
variable {x : gV} {base : Nat} {own : String} {cc : ByteArray} {nL : Nat} {ret : Option FieldType} {pc : Nat} {ls : Array Slot} {rest : List Value} {h : gH} {n : Nat} {H0 : Heap} {ρ : Type} {res : ρ} {a : Nat}
theorem g_cpy_i {t a0 a1 : Nat} {sp dp k : Int32} {h1 : gH} (hr : g_cpy h t a0 sp a1 dp k = some h1) : ∃ (n0 n1 : Nat) (f g : Nat → Int32), h a0 = some (.inl (t, n0, .inl f)) ∧ h a1 = some (.inl (t, n1, .inl g)) ∧ ¬ sp < 0 ∧ ¬ dp < 0 ∧ ¬ k < 0 ∧ sp.toNatClampNeg + k.toNatClampNeg ≤ n0 ∧ dp.toNatClampNeg + k.toNatClampNeg ≤ n1 ∧ (t = 1 → ∀ i : Nat, i < k.toNatClampNeg → (f (sp.toNatClampNeg + i)).toInt8.toInt32 = f (sp.toNatClampNeg + i)) ∧ h1 = g_up h a1 (.inl (t, n1, .inl (va_cpy f g sp.toNatClampNeg dp.toNatClampNeg k.toNatClampNeg))) := by
  obtain ⟨y0, g1, hr⟩ := gB_i hr
  obtain ⟨f, g2, hr⟩ := gB_i hr
  obtain ⟨y1, g3, hr⟩ := gB_i hr
  obtain ⟨g, g4, hr⟩ := gB_i hr
  obtain ⟨⟨c1, c2, c3, c4, c5, c6⟩, hr⟩ := gIf_o hr
  have e1 := g_arr_i g1
  rw [g_xI_i g2] at e1
  have e2 := g_arr_i g3
  rw [g_xI_i g4] at e2
  exact ⟨_, _, f, g, e1, e2, c1, c2, c3, c4, c5, c6, gS_i hr⟩
theorem g_acpyG {t : Nat} {ty : FieldType} {index a0 : Nat} {lv' : List (Nat × Value)} (X : gXX x base own cc nL ret p l s m args meth c) (hI : gI x base s.heap h n H locs) (hl : lv_has ls nL lv') (ht : (gTys x.2.1)[t]? = some (x.2.1 t, ty)) (hprim : refKind ty = false) (hlink : Cond.methodLink own index arraycopyName ∈ lw_all) (hnat : Cond.native arraycopyName ∈ lw_all) (hstat : Cond.static arraycopyName ∈ lw_all) (hini : Cond.initialized "java/lang/System" ∈ lw_all) (hfr : 1 ≤ R.frames) (hlo : (rest.map fun v => v.category).sum + (nativeFrameWords "java/lang/System" "arraycopy" 5 + 11) ≤ R.locals) {sp dp k : Int32} {K : gH → Option ρ} (hr : Option.bind (g_cpy h t a0 sp a dp k) K = some res) (hfit : ∀ f : Nat → Int32, (t = 1 → ∀ i : Nat, i < k.toNatClampNeg → (f (sp.toNatClampNeg + i)).toInt8.toInt32 = f (sp.toNatClampNeg + i)) → ∀ i, i < k.toNatClampNeg → fits ty (.int (f (sp.toNatClampNeg + i))) = true) (hdg : decode cc pc = .ok (.invokestatic index, 3))
    (kk : ∀ (h1 : gH) (H1 : Heap) (locs1 : List Loc), gI x base s.heap h1 n H1 locs1 → K h1 = some res → W p l e R s m args below meth c H1 locs1 cells slots Q (F0 m (pc + 3) ls rest)) : W p l e R s m args below meth c H locs cells slots Q (F0 m pc ls (.int k :: .int dp :: .ref a :: .int sp :: .ref a0 :: rest)) := by
  obtain ⟨h1, g1, g2⟩ := gB_i hr
  obtain ⟨n0, n1, f, g, he0, he1, c1, c2, c3, c4, c5, c6, rfl⟩ := g_cpy_i g1
  have nn : ∀ z : Int32, ¬ z < 0 → z.toInt = (z.toNatClampNeg : Int) := by
    intro z hz
    have hz0 : (0 : Int) ≤ z.toInt := by
      have := Int32.not_lt.mp hz
      simpa using Int32.le_iff_toInt_le.mp this
    show z.toInt = ((z.toInt.toNat : Nat) : Int)
    omega
  intro T hT S
  have hc0 : H[a0]? = some (vp_cell (x.2.1 t) (n0, .inl f)) := hI.2.1 a0 _ he0
  have hc1 : H[a]? = some (vp_cell (x.2.1 t) (n1, .inl g)) := hI.2.1 a _ he1
  obtain ⟨-, k0, hk0, cm0, hkk0⟩ := gK_arr X ht n0 (fun j => .int (f j))
  obtain ⟨vm', S', step⟩ := S.arraycopy X.1 X.2.2.2.2.1 (X.w hlink) (X.w hnat) (X.w hstat) (X.w hini) (src := a0) (dst := a) (cs := vp_cell (x.2.1 t) (n0, .inl f)) (cd := vp_cell (x.2.1 t) (n1, .inl g)) (srcPos := sp) (destPos := dp) (n := k) (by rw [hT]; exact hc0) (by rw [hT]; exact hc1)
    (fun _ h => by cases h) (fun _ h => by cases h) (fun h => by cases h) (fun h => by cases h) hk0 hk0 hkk0 hkk0 (by simp [hprim]) c1 c2 c3
    (by rw [nn sp c1, nn k c3]; show ¬ _ > ((arrV (x.2.1 t) n0 (fun j => .int (f j))).slots.size : Int); rw [arrV_size]; omega)
    (by rw [nn dp c2, nn k c3]; show ¬ _ > ((arrV (x.2.1 t) n1 (fun j => .int (g j))).slots.size : Int); rw [arrV_size]; omega)
    (fun vm₁ _ i hi => by
      have e : (vp_cell (x.2.1 t) (n0, .inl f)).slots.getD (sp.toNatClampNeg + i) .null = .int (f (sp.toNatClampNeg + i)) := by
        show (arrV (x.2.1 t) n0 (fun j => .int (f j))).slots.getD _ _ = _
        rw [Array.getD_eq_getD_getElem?, arrV_read _ _ (by omega)]
        rfl
      refine ⟨?_, ?_⟩
      · rw [e]
        exact hfit f c6 i hi
      · rw [e]
        exact trivial)
    (g := F0 m pc ls (.int k :: .int dp :: .ref a :: .int sp :: .ref a0 :: rest)) rfl (by rw [X.2.2.1]; exact hl.1) (rest := rest) rfl (by rw [X.2.1]; exact hdg) hfr (by show 2 * 0 + _ + _ ≤ _; omega)
  have e1 : copied (vp_cell (x.2.1 t) (n0, .inl f)) (vp_cell (x.2.1 t) (n1, .inl g)) sp dp k = vp_cell (x.2.1 t) (n1, .inl (va_cpy f g sp.toNatClampNeg dp.toNatClampNeg k.toNatClampNeg)) := va_copied (fun z => .int z) _ _ f g c4
  rw [e1] at S' step
  have hl : a < H.size := (Array.getElem?_eq_some_iff.mp hc1).1
  have hheap : ((T.setVm vm').setCell a (vp_cell (x.2.1 t) (n1, .inl (va_cpy f g sp.toNatClampNeg dp.toNatClampNeg k.toNatClampNeg)))).heap = H.setIfInBounds a (vp_cell (x.2.1 t) (n1, .inl (va_cpy f g sp.toNatClampNeg dp.toNatClampNeg k.toNatClampNeg))) := by rw [← hT]; rfl
  have oq : ∀ q : Nat, q ≠ a → (H.setIfInBounds a (vp_cell (x.2.1 t) (n1, .inl (va_cpy f g sp.toNatClampNeg dp.toNatClampNeg k.toNatClampNeg))))[q]? = H[q]? := fun q hq => by simp [Array.getElem?_setIfInBounds, Ne.symm hq]
  have hI1 := hI.put (k := 0) (e1 := .inl (t, n1, .inl (va_cpy f g sp.toNatClampNeg dp.toNatClampNeg k.toNatClampNeg))) he1 (H1 := H.setIfInBounds a (vp_cell (x.2.1 t) (n1, .inl (va_cpy f g sp.toNatClampNeg dp.toNatClampNeg k.toNatClampNeg)))) (by simp) (show (H.setIfInBounds a _)[a]? = some _ by simp [Array.getElem?_setIfInBounds, hl]) oq
  obtain ⟨t2, a1, b1⟩ := kk _ _ _ ⟨hI1.1, hI1.2.1, hI1.2.2.1, ⟨hI1.2.2.2.1.1, hI1.2.2.2.1.2.1, fun q hq => by
      rcases List.mem_append.mp hq with h | h
      · exact hI.2.2.2.1.2.2 q h
      · obtain ⟨z, -, hz⟩ := List.mem_map.mp h
        rw [← hz]
        exact hI.2.2.1 a _ he1⟩, hI1.2.2.2.2⟩ g2 _ hheap S'
  exact ⟨t2, step t2 a1, b1⟩
theorem g_acpy0 {index a0 : Nat} {lv' : List (Nat × Value)} (X : gXX x base own cc nL ret p l s m args meth c) (hI : gI x base s.heap h n H locs) (hl : lv_has ls nL lv') (hlink : Cond.methodLink own index arraycopyName ∈ lw_all) (hnat : Cond.native arraycopyName ∈ lw_all) (hstat : Cond.static arraycopyName ∈ lw_all) (hini : Cond.initialized "java/lang/System" ∈ lw_all) (hfr : 1 ≤ R.frames) (hlo : (rest.map fun v => v.category).sum + (nativeFrameWords "java/lang/System" "arraycopy" 5 + 11) ≤ R.locals) {sp dp k : Int32} {K : gH → Option ρ} (hr : Option.bind (g_cpy h 0 a0 sp a dp k) K = some res) (hdg : decode cc pc = .ok (.invokestatic index, 3))
    (kk : ∀ (h1 : gH) (H1 : Heap) (locs1 : List Loc), gI x base s.heap h1 n H1 locs1 → K h1 = some res → W p l e R s m args below meth c H1 locs1 cells slots Q (F0 m (pc + 3) ls rest)) : W p l e R s m args below meth c H locs cells slots Q (F0 m pc ls (.int k :: .int dp :: .ref a :: .int sp :: .ref a0 :: rest)) :=
  g_acpyG (t := 0) (ty := .int) X hI hl rfl rfl hlink hnat hstat hini hfr hlo hr (fun _ _ _ _ => rfl) hdg kk
theorem g_acpy1 {index a0 : Nat} {lv' : List (Nat × Value)} (X : gXX x base own cc nL ret p l s m args meth c) (hI : gI x base s.heap h n H locs) (hl : lv_has ls nL lv') (hlink : Cond.methodLink own index arraycopyName ∈ lw_all) (hnat : Cond.native arraycopyName ∈ lw_all) (hstat : Cond.static arraycopyName ∈ lw_all) (hini : Cond.initialized "java/lang/System" ∈ lw_all) (hfr : 1 ≤ R.frames) (hlo : (rest.map fun v => v.category).sum + (nativeFrameWords "java/lang/System" "arraycopy" 5 + 11) ≤ R.locals) {sp dp k : Int32} {K : gH → Option ρ} (hr : Option.bind (g_cpy h 1 a0 sp a dp k) K = some res) (hdg : decode cc pc = .ok (.invokestatic index, 3))
    (kk : ∀ (h1 : gH) (H1 : Heap) (locs1 : List Loc), gI x base s.heap h1 n H1 locs1 → K h1 = some res → W p l e R s m args below meth c H1 locs1 cells slots Q (F0 m (pc + 3) ls rest)) : W p l e R s m args below meth c H locs cells slots Q (F0 m pc ls (.int k :: .int dp :: .ref a :: .int sp :: .ref a0 :: rest)) :=
  g_acpyG (t := 1) (ty := .byte) X hI hl rfl rfl hlink hnat hstat hini hfr hlo hr (fun f hf i hi => by rw [← hf rfl i hi]; exact pk_fb _) hdg kk
theorem g_aaldG (X : gXX x base own cc nL ret p l s m args meth c) (hI : gI x base s.heap h n H locs) {i : Int32} {K : Nat → Option ρ} (hr : Option.bind (g_aA h a 7 i) K = some res) (hdg : decode cc pc = .ok (.aaload, 1))
    (kk : ∀ v : Nat, K v = some res → W p l e R s m args below meth c H locs cells slots Q (F0 m (pc + 1) ls (.ref v :: rest))) : W p l e R s m args below meth c H locs cells slots Q (F0 m pc ls (.int i :: .ref a :: rest)) := by
  obtain ⟨v, h1, h2⟩ := gB_i hr
  obtain ⟨r, h3, h4⟩ := gB_i h1
  have h4 : r = some v := h4
  subst h4
  obtain ⟨N, f, e, hin, hv⟩ := g_aQ_i h3
  have hlt : i.toNatClampNeg < N := Nat.not_le.mp fun q => hin (Or.inr q)
  exact W.aald (v := va_rf (f i.toNatClampNeg)) (ty := .array .int) X.1 X.2.1 (hI.2.1 a _ e) (gK_arr X (t := 7) rfl N (fun j => va_rf (f j))) rfl (fun q => by cases q) (by show ¬ (i < 0 ∨ (arrV _ _ _).slots.size ≤ _); rw [arrV_size]; exact hin) (by show (arrV _ _ _).slots[_]? = _; rw [arrV_read _ _ hlt]) rfl rfl hdg (by rw [← hv]; exact kk v h2)
theorem g_rows_at {q t k : Nat} : ∀ (j i : Nat), i < j → g_rows h q t k j (q + i) = some (.inl (t, k, .inl fun _ => 0))
  | 0, i, hi => by omega
  | j + 1, i, hi => by
    by_cases e : i = j
    · subst e; exact g_up_s
    · show g_up _ _ _ _ = _
      rw [g_up_n (by omega)]
      exact g_rows_at j i (by omega)
theorem g_rows_ne {q t k b : Nat} : ∀ (j : Nat), (∀ i, i < j → b ≠ q + i) → g_rows h q t k j b = h b
  | 0, _ => rfl
  | j + 1, hb => by
    show g_up _ _ _ _ = _
    rw [g_up_n (hb j (by omega))]
    exact g_rows_ne j (fun i hi => hb i (by omega))
theorem g_outer_mh (cA : ClassId) (N h0 : Nat) : ∀ i, (Jvm.Free.Multi.outerC cA N h0 i).monitor = {} ∧ (Jvm.Free.Multi.outerC cA N h0 i).hash = none
  | 0 => ⟨rfl, rfl⟩
  | i + 1 => g_outer_mh cA N h0 i
theorem g_newG {b1 b2 index : Nat} (X : gXX x base own cc nL ret p l s m args meth c) (hI : gI x base s.heap h n H locs) (hlink : Cond.classLink own index "[[I" ∈ lw_all) (hao : FieldType.array .int ∈ g_ao) (harr : Cond.arrayClass .int ∈ lw_all) (hb1 : b1 * 4 ≤ 536870912) (hb2 : b2 * 4 ≤ 536870912) (hcells : cells + (1 + b1) ≤ R.cells) (hslots : slots + (b1 + b1 * b2) ≤ R.slots) {r k : Int32} {K : Nat → gH → Nat → Option ρ} (hr : gT3 (g_nG h n b1 b2 r k) K = some res) (hdg : decode cc pc = .ok (.multianewarray index 2, 4))
    (kk : ∀ (q : Nat) (h1 : gH) (n1 : Nat) (H1 : Heap) (locs1 : List Loc), gI x base s.heap h1 n1 H1 locs1 → K q h1 n1 = some res → W p l e R s m args below meth c H1 locs1 (cells + (1 + b1)) (slots + (b1 + b1 * b2)) Q (F0 m (pc + 4) ls (.ref q :: rest))) : W p l e R s m args below meth c H locs cells slots Q (F0 m pc ls (.int k :: .int r :: rest)) := by
  obtain ⟨q, h1, n1, g1, g2⟩ := gT3_i hr
  obtain ⟨⟨c1, c2, c3, c4⟩, g3⟩ := gIf_o g1
  cases g3
  intro T hT S
  have hmul : r.toNatClampNeg * k.toNatClampNeg ≤ b1 * b2 := Nat.mul_le_mul c3 c4
  obtain ⟨vm₁, cA, comp, hW1, hfA, hfC, hO, hIn, S1, step⟩ := S.multianewarray2F X.1 (ty := .int) X.2.2.2.2.1 (X.w hlink) (X.2.2.2.2.2.2.1.2.2.2.2.1 _ hao) (X.w harr) (g := F0 m pc ls (.int k :: .int r :: rest)) rfl (by rw [X.2.1]; exact hdg) (n := r) (k := k) (rest := rest) rfl c1 c2
    (by omega) (by show k.toNatClampNeg * 4 ≤ _; omega) (by omega) rfl rfl (by omega) (by omega)
  obtain ⟨f1, f2, -, -⟩ := Jvm.Free.Multi.fill_facts (T.setVm vm₁) cA comp r.toNatClampNeg k.toNatClampNeg (defaultValue .int) r.toNatClampNeg
  have hsz : (T.setVm vm₁).heap.size = n := by show T.heap.size = _; rw [hT]; exact hI.1
  have hTs : T.heap.size = n := hsz
  have hold : ∀ b : Nat, b < n → (Jvm.Free.Multi.fill (T.setVm vm₁) cA comp r.toNatClampNeg k.toNatClampNeg (defaultValue .int) r.toNatClampNeg).heap[b]? = H[b]? := fun b hb => by
    rw [Jvm.Free.Multi.fill_old _ _ _ _ _ _ (by rw [hsz]; exact hb)]
    show T.heap[b]? = _
    rw [hT]
  have hinn : ∀ j : Nat, j < r.toNatClampNeg → (Jvm.Free.Multi.fill (T.setVm vm₁) cA comp r.toNatClampNeg k.toNatClampNeg (defaultValue .int) r.toNatClampNeg).heap[n + 1 + j]? = some (vp_cell (x.2.1 0) (k.toNatClampNeg, .inl fun _ => 0)) := fun j hj => by
    have h9 := Jvm.Free.Multi.fill_inner (T.setVm vm₁) cA comp r.toNatClampNeg k.toNatClampNeg (defaultValue .int) r.toNatClampNeg j hj
    rw [hsz] at h9
    rw [h9]
    have hcomp : comp = x.2.1 0 := by
      have h8 : s.vm.findClass ("[" ++ (FieldType.int).toString) = some (x.2.1 0) := (X.2.2.2.2.2.2.1.1.2 0 _ rfl).2
      exact Option.some.inj (hfC.symm.trans h8)
    rw [vp_cell_i, hcomp, ← arrV_new]
    rfl
  have hout : (Jvm.Free.Multi.fill (T.setVm vm₁) cA comp r.toNatClampNeg k.toNatClampNeg (defaultValue .int) r.toNatClampNeg).heap[n]? = some (vp_cell (x.2.1 7) (r.toNatClampNeg, .inr (.inr (.inr (.inr fun j => if j < r.toNatClampNeg then some (n + 1 + j) else none))))) := by
    rw [hsz] at f2
    rw [f2]
    obtain ⟨o1, o2, o3⟩ := Jvm.Free.Multi.outerC_facts cA r.toNatClampNeg n r.toNatClampNeg
    have hcA : cA = x.2.1 7 := by
      have h8 : s.vm.findClass ("[" ++ (FieldType.array .int).toString) = some (x.2.1 7) := (X.2.2.2.2.2.2.1.1.2 7 _ rfl).2
      exact Option.some.inj (hfA.symm.trans h8)
    rw [vp_cell_q]
    congr 1
    have hs9 : (Jvm.Free.Multi.outerC cA r.toNatClampNeg n r.toNatClampNeg).slots = (arrV (x.2.1 7) r.toNatClampNeg (fun j => va_rf (if j < r.toNatClampNeg then some (n + 1 + j) else none))).slots := by
      refine Array.ext (by rw [o3, arrV_size]) (fun i h1 h2 => ?_)
      have hi : i < r.toNatClampNeg := by rw [o3] at h1; exact h1
      have e1 := Jvm.Free.Multi.outerC_slot cA r.toNatClampNeg n r.toNatClampNeg i hi
      have e2 := arrV_read (x.2.1 7) (fun j => va_rf (if j < r.toNatClampNeg then some (n + 1 + j) else none)) hi
      rw [Array.getElem?_eq_getElem h1] at e1
      rw [Array.getElem?_eq_getElem h2] at e2
      rw [Option.some.inj e1, Option.some.inj e2]
      simp [hi, va_rf]
    have hx9 : ∀ (A B : Cell), A.cls = B.cls → A.slots = B.slots → A.vm = B.vm → A.monitor = B.monitor → A.hash = B.hash → A = B := fun A B e1 e2 e3 e4 e5 => by
      cases A; cases B; simp only [Cell.mk.injEq] at *; exact ⟨e1, e2, e4, e5, e3⟩
    obtain ⟨o4, o5⟩ := g_outer_mh cA r.toNatClampNeg n r.toNatClampNeg
    exact hx9 _ _ (o1.trans hcA) hs9 o2 o4 o5
  have hIn' : gI x base s.heap (g_up (g_rows h (n + 1) 0 k.toNatClampNeg r.toNatClampNeg) n (.inl (7, r.toNatClampNeg, .inr (.inr (.inr (.inr fun j => if j < r.toNatClampNeg then some (n + 1 + j) else none)))))) (n + 1 + r.toNatClampNeg) (Jvm.Free.Multi.fill (T.setVm vm₁) cA comp r.toNatClampNeg k.toNatClampNeg (defaultValue .int) r.toNatClampNeg).heap locs := by
    have hdec : ∀ (b : Nat) (f : gE), g_up (g_rows h (n + 1) 0 k.toNatClampNeg r.toNatClampNeg) n (.inl (7, r.toNatClampNeg, .inr (.inr (.inr (.inr fun j => if j < r.toNatClampNeg then some (n + 1 + j) else none))))) b = some f → (b = n ∧ f = .inl (7, r.toNatClampNeg, .inr (.inr (.inr (.inr fun j => if j < r.toNatClampNeg then some (n + 1 + j) else none))))) ∨ (∃ j, j < r.toNatClampNeg ∧ b = n + 1 + j ∧ f = .inl (0, k.toNatClampNeg, .inl fun _ => 0)) ∨ (h b = some f) := by
      intro b f hf
      by_cases hb : b = n
      · subst hb; rw [g_up_s] at hf; cases hf; exact Or.inl ⟨rfl, rfl⟩
      · rw [g_up_n hb] at hf
        by_cases hj : ∃ j, j < r.toNatClampNeg ∧ b = n + 1 + j
        · obtain ⟨j, hj, rfl⟩ := hj
          rw [g_rows_at _ j hj] at hf
          cases hf
          exact Or.inr (Or.inl ⟨j, hj, rfl, rfl⟩)
        · rw [g_rows_ne _ (fun i hi e => hj ⟨i, hi, e⟩)] at hf
          exact Or.inr (Or.inr hf)
    have hbn : base ≤ n := by have := hI.2.2.2.1.1; rw [hI.1] at this; exact Nat.le_trans hI.2.2.2.2 this
    refine ⟨by rw [f1, hsz], fun b f hf => ?_, fun b f hf => ?_, ⟨by rw [f1, hsz]; have := hI.2.2.2.1.1; rw [hI.1] at this; omega, fun q g1 g2 => ?_, hI.2.2.2.1.2.2⟩, hI.2.2.2.2⟩
    · rcases hdec b f hf with ⟨rfl, rfl⟩ | ⟨j, hj, rfl, rfl⟩ | hf
      · exact hout
      · exact hinn j hj
      · exact (hI.2.1 b f hf).kept (hold b (hI.lt hf))
    · rcases hdec b f hf with ⟨rfl, rfl⟩ | ⟨j, hj, rfl, rfl⟩ | hf
      · exact hbn
      · omega
      · exact hI.2.2.1 b f hf
    · have h9 := hI.2.2.2.1.1
      rw [hI.1] at h9
      rw [hold q (by omega)]
      exact hI.2.2.2.1.2.1 q g1 g2
  obtain ⟨t2, a1, b1⟩ := kk n _ _ _ locs hIn' g2 _ rfl { S1 with same := S1.same.mono (by omega) (by omega) }
  refine ⟨t2, step t2 ?_, b1⟩
  rw [hTs]
  exact a1
theorem g_ldcw {index i : Nat} {tx : String} (X : gXX x base own cc nL ret p l s m args meth c) (hz : (own, index, tx, i) ∈ g_str) (hdg : decode cc pc = .ok (.ldc_w index, 3)) (kk : W p l e R s m args below meth c H locs cells slots Q (F0 m (pc + 3) ls (.ref (x.2.2.1 i) :: rest))) : W p l e R s m args below meth c H locs cells slots Q (F0 m pc ls rest) := by
  have hZ := X.2.2.2.2.2.2.1.2.2.2.2.2.2.1 _ hz
  intro T hT S
  obtain ⟨t, a1, b1⟩ := kk T hT S
  exact ⟨t, S.ldcStringW X.1 X.2.2.2.2.1 (text := tx) (a := x.2.2.1 i) hZ.1 hZ.2 (g := F0 m pc ls rest) rfl (by rw [X.2.1]; exact hdg) t a1, b1⟩
end GROW5
