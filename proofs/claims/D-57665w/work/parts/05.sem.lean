/-! THE PURE SEMANTICS that the printed functions are written in: an abstract heap (address to cell), the next address; answers in Option (none: a null, a place out of range, something that isn't covered) -/
abbrev gE : Type := (Nat × vp_A) ⊕ (Nat × List Value)
abbrev gH : Type := Nat → Option gE
abbrev gV : Type := va_G × (Nat → ClassId) × (Nat → Nat) × (Nat → Nat)
abbrev gX : Type := Nat × Nat
def g_up (h : gH) (a : Nat) (e : gE) : gH := fun q => if q = a then some e else h q
theorem g_up_s {h : gH} {a : Nat} {e : gE} : g_up h a e a = some e := if_pos rfl
theorem g_up_n {h : gH} {a b : Nat} {e : gE} (n : b ≠ a) : g_up h a e b = h b := if_neg n
theorem g_up_up {h : gH} {a : Nat} {e f : gE} : g_up (g_up h a e) a f = g_up h a f := by
  funext q
  simp only [g_up]
  split <;> rfl
/-- binds that take tuples apart -/
def gT2 {A B D : Type} (e : Option (A × B)) (K : A → B → Option D) : Option D := match e with | none => none | some (a, b) => K a b
def gT3 {A B C D : Type} (e : Option (A × B × C)) (K : A → B → C → Option D) : Option D := match e with | none => none | some (a, b, c) => K a b c
def gT4 {A B C E D : Type} (e : Option (A × B × C × E)) (K : A → B → C → E → Option D) : Option D := match e with | none => none | some (a, b, c, d) => K a b c d
def gT5 {A B C E F D : Type} (e : Option (A × B × C × E × F)) (K : A → B → C → E → F → Option D) : Option D := match e with | none => none | some (a, b, c, d, f) => K a b c d f
def gT6 {A B C E F G D : Type} (e : Option (A × B × C × E × F × G)) (K : A → B → C → E → F → G → Option D) : Option D := match e with | none => none | some (a, b, c, d, f, g) => K a b c d f g
def gT7 {A B C E F G I D : Type} (e : Option (A × B × C × E × F × G × I)) (K : A → B → C → E → F → G → I → Option D) : Option D := match e with | none => none | some (a, b, c, d, f, g, i) => K a b c d f g i
def gT8 {A B C E F G I J D : Type} (e : Option (A × B × C × E × F × G × I × J)) (K : A → B → C → E → F → G → I → J → Option D) : Option D := match e with | none => none | some (a, b, c, d, f, g, i, j) => K a b c d f g i j
def gT9 {A B C E F G I J L D : Type} (e : Option (A × B × C × E × F × G × I × J × L)) (K : A → B → C → E → F → G → I → J → L → Option D) : Option D := match e with | none => none | some (a, b, c, d, f, g, i, j, l) => K a b c d f g i j l
/-- a call that may throw: its answer, or the exception (class number, address) -/
def gTX {A D : Type} (e : Option ((A ⊕ gX) × gH × Nat)) (K : A → gH → Nat → Option D) (X : gX → gH → Nat → Option D) : Option D := match e with | none => none | some (.inl a, h, n) => K a h n | some (.inr q, h, n) => X q h n
theorem gT2_s {A B D : Type} {a : A} {b : B} {K : A → B → Option D} : gT2 (some (a, b)) K = K a b := rfl
theorem gT3_s {A B C D : Type} {a : A} {b : B} {c : C} {K : A → B → C → Option D} : gT3 (some (a, b, c)) K = K a b c := rfl
theorem gT4_s {A B C E D : Type} {a : A} {b : B} {c : C} {d : E} {K : A → B → C → E → Option D} : gT4 (some (a, b, c, d)) K = K a b c d := rfl
theorem gT5_s {A B C E F D : Type} {a : A} {b : B} {c : C} {d : E} {f : F} {K : A → B → C → E → F → Option D} : gT5 (some (a, b, c, d, f)) K = K a b c d f := rfl
theorem gT6_s {A B C E F G D : Type} {a : A} {b : B} {c : C} {d : E} {f : F} {g : G} {K : A → B → C → E → F → G → Option D} : gT6 (some (a, b, c, d, f, g)) K = K a b c d f g := rfl
theorem gTX_l {A D : Type} {a : A} {h : gH} {n : Nat} {K : A → gH → Nat → Option D} {X : gX → gH → Nat → Option D} : gTX (some (.inl a, h, n)) K X = K a h n := rfl
theorem gTX_r {A D : Type} {q : gX} {h : gH} {n : Nat} {K : A → gH → Nat → Option D} {X : gX → gH → Nat → Option D} : gTX (some (.inr q, h, n)) K X = X q h n := rfl
theorem gB_i {A D : Type} {e : Option A} {K : A → Option D} {r : D} (h : Option.bind e K = some r) : ∃ a, e = some a ∧ K a = some r := by
  cases e with
  | none => cases h
  | some a => exact ⟨a, rfl, h⟩
theorem gT2_i {A B D : Type} {e : Option (A × B)} {K : A → B → Option D} {r : D} (h : gT2 e K = some r) : ∃ a b, e = some (a, b) ∧ K a b = some r := by
  rcases e with _ | ⟨a, b⟩
  · cases h
  · exact ⟨a, b, rfl, h⟩
theorem gT3_i {A B C D : Type} {e : Option (A × B × C)} {K : A → B → C → Option D} {r : D} (h : gT3 e K = some r) : ∃ a b c, e = some (a, b, c) ∧ K a b c = some r := by
  rcases e with _ | ⟨a, b, c⟩
  · cases h
  · exact ⟨a, b, c, rfl, h⟩
theorem gT4_i {A B C E D : Type} {e : Option (A × B × C × E)} {K : A → B → C → E → Option D} {r : D} (h : gT4 e K = some r) : ∃ a b c d, e = some (a, b, c, d) ∧ K a b c d = some r := by
  rcases e with _ | ⟨a, b, c, d⟩
  · cases h
  · exact ⟨a, b, c, d, rfl, h⟩
theorem gT5_i {A B C E F D : Type} {e : Option (A × B × C × E × F)} {K : A → B → C → E → F → Option D} {r : D} (h : gT5 e K = some r) : ∃ a b c d f, e = some (a, b, c, d, f) ∧ K a b c d f = some r := by
  rcases e with _ | ⟨a, b, c, d, f⟩
  · cases h
  · exact ⟨a, b, c, d, f, rfl, h⟩
theorem gT6_i {A B C E F G D : Type} {e : Option (A × B × C × E × F × G)} {K : A → B → C → E → F → G → Option D} {r : D} (h : gT6 e K = some r) : ∃ a b c d f g, e = some (a, b, c, d, f, g) ∧ K a b c d f g = some r := by
  rcases e with _ | ⟨a, b, c, d, f, g⟩
  · cases h
  · exact ⟨a, b, c, d, f, g, rfl, h⟩
theorem gT7_i {A B C E F G I D : Type} {e : Option (A × B × C × E × F × G × I)} {K : A → B → C → E → F → G → I → Option D} {r : D} (h : gT7 e K = some r) : ∃ a b c d f g i, e = some (a, b, c, d, f, g, i) ∧ K a b c d f g i = some r := by
  rcases e with _ | ⟨a, b, c, d, f, g, i⟩
  · cases h
  · exact ⟨a, b, c, d, f, g, i, rfl, h⟩
theorem gT8_i {A B C E F G I J D : Type} {e : Option (A × B × C × E × F × G × I × J)} {K : A → B → C → E → F → G → I → J → Option D} {r : D} (h : gT8 e K = some r) : ∃ a b c d f g i j, e = some (a, b, c, d, f, g, i, j) ∧ K a b c d f g i j = some r := by
  rcases e with _ | ⟨a, b, c, d, f, g, i, j⟩
  · cases h
  · exact ⟨a, b, c, d, f, g, i, j, rfl, h⟩
theorem gT9_i {A B C E F G I J L D : Type} {e : Option (A × B × C × E × F × G × I × J × L)} {K : A → B → C → E → F → G → I → J → L → Option D} {r : D} (h : gT9 e K = some r) : ∃ a b c d f g i j l, e = some (a, b, c, d, f, g, i, j, l) ∧ K a b c d f g i j l = some r := by
  rcases e with _ | ⟨a, b, c, d, f, g, i, j, l⟩
  · cases h
  · exact ⟨a, b, c, d, f, g, i, j, l, rfl, h⟩
theorem gTX_i {A D : Type} {e : Option ((A ⊕ gX) × gH × Nat)} {K : A → gH → Nat → Option D} {X : gX → gH → Nat → Option D} {r : D} (hr : gTX e K X = some r) : (∃ a h n, e = some (.inl a, h, n) ∧ K a h n = some r) ∨ ∃ q h n, e = some (.inr q, h, n) ∧ X q h n = some r := by
  rcases e with _ | ⟨a | q, h, n⟩
  · cases hr
  · exact Or.inl ⟨a, h, n, rfl, hr⟩
  · exact Or.inr ⟨q, h, n, rfl, hr⟩
theorem gIf_t {D : Type} {c : Prop} {dc : Decidable c} {a b : Option D} {r : D} (hc : c) (h : @ite _ c dc a b = some r) : a = some r := by rwa [if_pos hc] at h
theorem gIf_f {D : Type} {c : Prop} {dc : Decidable c} {a b : Option D} {r : D} (hc : ¬ c) (h : @ite _ c dc a b = some r) : b = some r := by rwa [if_neg hc] at h
theorem gIf_o {D : Type} {c : Prop} {dc : Decidable c} {a : Option D} {r : D} (h : @ite _ c dc a none = some r) : c ∧ a = some r := by
  by_cases hc : c
  · rw [if_pos hc] at h
    exact ⟨hc, h⟩
  · rw [if_neg hc] at h
    cases h
theorem gS_i {A : Type} {a b : A} (h : some a = some b) : b = a := (Option.some.inj h).symm
/-- loops: so many rounds at most -/
def gL0 {R : Type} (F : Option R → Option R) : Nat → Option R
  | 0 => none
  | k + 1 => F (gL0 F k)
def gL1 {A R : Type} (F : (A → Option R) → A → Option R) : Nat → A → Option R
  | 0 => fun _ => none
  | k + 1 => F (gL1 F k)
def gL2 {A B R : Type} (F : (A → B → Option R) → A → B → Option R) : Nat → A → B → Option R
  | 0 => fun _ _ => none
  | k + 1 => F (gL2 F k)
def gL3 {A B C R : Type} (F : (A → B → C → Option R) → A → B → C → Option R) : Nat → A → B → C → Option R
  | 0 => fun _ _ _ => none
  | k + 1 => F (gL3 F k)
def gL4 {A B C D R : Type} (F : (A → B → C → D → Option R) → A → B → C → D → Option R) : Nat → A → B → C → D → Option R
  | 0 => fun _ _ _ _ => none
  | k + 1 => F (gL4 F k)
def gL5 {A B C D E R : Type} (F : (A → B → C → D → E → Option R) → A → B → C → D → E → Option R) : Nat → A → B → C → D → E → Option R
  | 0 => fun _ _ _ _ _ => none
  | k + 1 => F (gL5 F k)
def gL6 {A B C D E G R : Type} (F : (A → B → C → D → E → G → Option R) → A → B → C → D → E → G → Option R) : Nat → A → B → C → D → E → G → Option R
  | 0 => fun _ _ _ _ _ _ => none
  | k + 1 => F (gL6 F k)
def gL7 {A B C D E G I R : Type} (F : (A → B → C → D → E → G → I → Option R) → A → B → C → D → E → G → I → Option R) : Nat → A → B → C → D → E → G → I → Option R
  | 0 => fun _ _ _ _ _ _ _ => none
  | k + 1 => F (gL7 F k)
def gL8 {A B C D E G I J R : Type} (F : (A → B → C → D → E → G → I → J → Option R) → A → B → C → D → E → G → I → J → Option R) : Nat → A → B → C → D → E → G → I → J → Option R
  | 0 => fun _ _ _ _ _ _ _ _ => none
  | k + 1 => F (gL8 F k)
/-- rounds of a loop that makes nothing -/
def gN : Nat := 100000
-- places of arrays
def g_in (i : Int32) (n : Nat) : Bool := decide (¬ (i < 0 ∨ n ≤ i.toNatClampNeg))
theorem g_in_vp {i : Int32} {n : Nat} (h : g_in i n = true) : vp_in i n := (of_decide_eq_true h : ¬ (i < 0 ∨ n ≤ i.toNatClampNeg))
theorem g_in_of {i : Int32} {n : Nat} (h : vp_in i n) : g_in i n = true := decide_eq_true (show ¬ (i < 0 ∨ n ≤ i.toNatClampNeg) from h)
/-- an array's place, read; written -/
def g_ra {α : Type} (N : Nat) (f : Nat → α) (i : Int32) : Option α := if g_in i N = true then some (f i.toNatClampNeg) else none
def g_wa (N : Nat) (f : Nat → Int32) (i x : Int32) : Option (Nat → Int32) := if g_in i N = true then some (upd f i.toNatClampNeg x) else none
theorem g_ra_i {α D : Type} {N : Nat} {f : Nat → α} {i : Int32} {K : α → Option D} {r : D} (h : Option.bind (g_ra N f i) K = some r) : vp_in i N ∧ K (f i.toNatClampNeg) = some r := by
  obtain ⟨a, h1, h2⟩ := gB_i h
  obtain ⟨h3, h4⟩ := gIf_o h1
  cases h4
  exact ⟨g_in_vp h3, h2⟩
theorem g_wa_i {D : Type} {N : Nat} {f : Nat → Int32} {i x : Int32} {K : (Nat → Int32) → Option D} {r : D} (h : Option.bind (g_wa N f i x) K = some r) : vp_in i N ∧ K (upd f i.toNatClampNeg x) = some r := by
  obtain ⟨a, h1, h2⟩ := gB_i h
  obtain ⟨h3, h4⟩ := gIf_o h1
  cases h4
  exact ⟨g_in_vp h3, h2⟩
-- the heap's cells
def g_obj (h : gH) (a ci : Nat) : Option (List Value) := match h a with | some (.inr o) => if o.1 = ci then some o.2 else none | _ => none
def g_arr (h : gH) (a t : Nat) : Option vp_A := match h a with | some (.inl o) => if o.1 = t then some o.2 else none | _ => none
theorem g_obj_s {h : gH} {a ci : Nat} {fs : List Value} (e : h a = some (.inr (ci, fs))) : g_obj h a ci = some fs := by simp [g_obj, e]
theorem g_arr_s {h : gH} {a t : Nat} {x : vp_A} (e : h a = some (.inl (t, x))) : g_arr h a t = some x := by simp [g_arr, e]
theorem g_obj_i {h : gH} {a ci : Nat} {fs : List Value} (e : g_obj h a ci = some fs) : h a = some (.inr (ci, fs)) := by
  unfold g_obj at e
  split at e
  · next o ho =>
    split at e
    · next hc => cases e; rw [ho, ← hc]
    · cases e
  · cases e
theorem g_arr_i {h : gH} {a t : Nat} {x : vp_A} (e : g_arr h a t = some x) : h a = some (.inl (t, x)) := by
  unfold g_arr at e
  split at e
  · next o ho =>
    split at e
    · next hc => cases e; rw [ho, ← hc]
    · cases e
  · cases e
def g_vI (v : Option Value) : Option Int32 := match v with | some (.int x) => some x | _ => none
def g_vL (v : Option Value) : Option Int64 := match v with | some (.long x) => some x | _ => none
def g_vA (v : Option Value) : Option Nat := match v with | some (.ref x) => some x | _ => none
def g_vQ (v : Option Value) : Option (Option Nat) := match v with | some (.ref x) => some (some x) | some .null => some none | _ => none
theorem g_vI_i {v : Option Value} {x : Int32} (h : g_vI v = some x) : v = some (.int x) := by unfold g_vI at h; split at h <;> cases h; rfl
theorem g_vA_i {v : Option Value} {x : Nat} (h : g_vA v = some x) : v = some (.ref x) := by unfold g_vA at h; split at h <;> cases h; rfl
theorem g_vQ_i {v : Option Value} {x : Option Nat} (h : g_vQ v = some x) : v = some (va_rf x) := by unfold g_vQ at h; split at h <;> cases h <;> rfl
/-- a field, read -/
def g_fI (h : gH) (a ci k : Nat) : Option Int32 := Option.bind (g_obj h a ci) fun fs => g_vI (fs[k]?)
def g_fA (h : gH) (a ci k : Nat) : Option Nat := Option.bind (g_obj h a ci) fun fs => g_vA (fs[k]?)
/-- a field, written -/
def g_pf (h : gH) (a ci k : Nat) (v : Value) : Option gH := Option.bind (g_obj h a ci) fun fs => if k < fs.length then some (g_up h a (.inr (ci, fs.set k v))) else none
/-- an array's length; places of arrays of ints (and the like), longs, doubles, references -/
def g_len (h : gH) (a t : Nat) : Option Int32 := Option.bind (g_arr h a t) fun x => some (Int32.ofNat x.1)
def g_xI (x : vp_A) : Option (Nat → Int32) := match x.2 with | .inl f => some f | _ => none
def g_xL (x : vp_A) : Option (Nat → Int64) := match x.2 with | .inr (.inl f) => some f | _ => none
def g_xD (x : vp_A) : Option (Nat → UInt64) := match x.2 with | .inr (.inr (.inr (.inl f))) => some f | _ => none
def g_xQ (x : vp_A) : Option (Nat → Option Nat) := match x.2 with | .inr (.inr (.inr (.inr f))) => some f | _ => none
theorem g_xI_i {x : vp_A} {f : Nat → Int32} (h : g_xI x = some f) : x = (x.1, .inl f) := by
  obtain ⟨n, g | g | g | g | g⟩ := x <;> cases h
  rfl
theorem g_xL_i {x : vp_A} {f : Nat → Int64} (h : g_xL x = some f) : x = (x.1, .inr (.inl f)) := by
  obtain ⟨n, g | g | g | g | g⟩ := x <;> cases h
  rfl
theorem g_xD_i {x : vp_A} {f : Nat → UInt64} (h : g_xD x = some f) : x = (x.1, .inr (.inr (.inr (.inl f)))) := by
  obtain ⟨n, g | g | g | g | g⟩ := x <;> cases h
  rfl
theorem g_xQ_i {x : vp_A} {f : Nat → Option Nat} (h : g_xQ x = some f) : x = (x.1, .inr (.inr (.inr (.inr f)))) := by
  obtain ⟨n, g | g | g | g | g⟩ := x <;> cases h
  rfl
def g_aI (h : gH) (a t : Nat) (i : Int32) : Option Int32 := Option.bind (g_arr h a t) fun x => Option.bind (g_xI x) fun f => g_ra x.1 f i
def g_aL (h : gH) (a t : Nat) (i : Int32) : Option Int64 := Option.bind (g_arr h a t) fun x => Option.bind (g_xL x) fun f => g_ra x.1 f i
def g_aD (h : gH) (a t : Nat) (i : Int32) : Option UInt64 := Option.bind (g_arr h a t) fun x => Option.bind (g_xD x) fun f => g_ra x.1 f i
def g_aQ (h : gH) (a t : Nat) (i : Int32) : Option (Option Nat) := Option.bind (g_arr h a t) fun x => Option.bind (g_xQ x) fun f => g_ra x.1 f i
def g_aA (h : gH) (a t : Nat) (i : Int32) : Option Nat := Option.bind (g_aQ h a t i) fun r => r
def g_sI (h : gH) (a t : Nat) (i v : Int32) : Option gH := Option.bind (g_arr h a t) fun x => Option.bind (g_xI x) fun f => if g_in i x.1 = true then some (g_up h a (.inl (t, x.1, .inl (upd f i.toNatClampNeg v)))) else none
def g_sL (h : gH) (a t : Nat) (i : Int32) (v : Int64) : Option gH := Option.bind (g_arr h a t) fun x => Option.bind (g_xL x) fun f => if g_in i x.1 = true then some (g_up h a (.inl (t, x.1, .inr (.inl (vp_updL f i.toNatClampNeg v))))) else none
def g_sD (h : gH) (a t : Nat) (i : Int32) (v : UInt64) : Option gH := Option.bind (g_arr h a t) fun x => Option.bind (g_xD x) fun f => if g_in i x.1 = true then some (g_up h a (.inl (t, x.1, .inr (.inr (.inr (.inl (vf_upd f i.toNatClampNeg v))))))) else none
def g_sQ (h : gH) (a t : Nat) (i : Int32) (v : Option Nat) : Option gH := Option.bind (g_arr h a t) fun x => Option.bind (g_xQ x) fun f => if g_in i x.1 = true then some (g_up h a (.inl (t, x.1, .inr (.inr (.inr (.inr (va_up f i.toNatClampNeg v))))))) else none
/-- new cells: at the next address -/
def g_new (h : gH) (n : Nat) (e : gE) : Option (Nat × gH × Nat) := some (n, g_up h n e, n + 1)
def g_nI (h : gH) (n t : Nat) (b : Nat) (k : Int32) : Option (Nat × gH × Nat) := if ¬ k < 0 ∧ k.toNatClampNeg ≤ b then some (n, g_up h n (.inl (t, k.toNatClampNeg, .inl fun _ => 0)), n + 1) else none
def g_nQ (h : gH) (n t : Nat) (b : Nat) (k : Int32) : Option (Nat × gH × Nat) := if ¬ k < 0 ∧ k.toNatClampNeg ≤ b then some (n, g_up h n (.inl (t, k.toNatClampNeg, .inr (.inr (.inr (.inr fun _ => none))))), n + 1) else none
/-- rows of ints, at the addresses behind the outer array's -/
def g_rows (h : gH) (q t : Nat) (k : Nat) : Nat → gH
  | 0 => h
  | j + 1 => g_up (g_rows h q t k j) (q + j) (.inl (t, k, .inl fun _ => 0))
def g_nG (h : gH) (n : Nat) (b1 b2 : Nat) (r k : Int32) : Option (Nat × gH × Nat) := if ¬ r < 0 ∧ ¬ k < 0 ∧ r.toNatClampNeg ≤ b1 ∧ k.toNatClampNeg ≤ b2 then some (n, g_up (g_rows h (n + 1) 0 k.toNatClampNeg r.toNatClampNeg) n (.inl (7, r.toNatClampNeg, .inr (.inr (.inr (.inr fun j => if j < r.toNatClampNeg then some (n + 1 + j) else none))))), n + 1 + r.toNatClampNeg) else none
/-- System.arraycopy between arrays of ints (or bytes): t is the kind of both -/
def g_cpy (h : gH) (t a0 : Nat) (sp : Int32) (a1 : Nat) (dp n : Int32) : Option gH := Option.bind (g_arr h a0 t) fun x => Option.bind (g_xI x) fun f => Option.bind (g_arr h a1 t) fun y => Option.bind (g_xI y) fun g =>
  if ¬ sp < 0 ∧ ¬ dp < 0 ∧ ¬ n < 0 ∧ sp.toNatClampNeg + n.toNatClampNeg ≤ x.1 ∧ dp.toNatClampNeg + n.toNatClampNeg ≤ y.1 ∧ (t = 1 → ∀ i : Nat, i < n.toNatClampNeg → (f (sp.toNatClampNeg + i)).toInt8.toInt32 = f (sp.toNatClampNeg + i)) then some (g_up h a1 (.inl (t, y.1, .inl (va_cpy f g sp.toNatClampNeg dp.toNatClampNeg n.toNatClampNeg)))) else none
