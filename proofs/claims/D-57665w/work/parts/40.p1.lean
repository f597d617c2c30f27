/-! THE PURE LAYER: ints as Int, the mathematical state, its two faces (the class's heap, the reference's block) -/
def iI (z : Int) : Int32 := Int32.ofInt z
theorem iI_add (a b : Int) : iI a + iI b = iI (a + b) := (Int32.ofInt_add a b).symm
theorem iI_sub (a b : Int) : iI a - iI b = iI (a - b) := by
  unfold iI
  rw [Int.sub_eq_add_neg, Int32.ofInt_add, Int32.ofInt_neg, Int32.sub_eq_add_neg]
theorem iI_mul (a b : Int) : iI a * iI b = iI (a * b) := (Int32.ofInt_mul a b).symm
theorem iI_neg (a : Int) : -iI a = iI (-a) := (Int32.ofInt_neg a).symm
theorem iI_lit (n : Nat) : (OfNat.ofNat n : Int32) = iI (n : Int) := rfl
theorem iI_litg (n : Nat) : (OfNat.ofNat n : Int32) = iI (OfNat.ofNat n : Int) := rfl
theorem iI_n1 : (-1 : Int32) = iI (-1) := rfl
theorem iI_0 : (0 : Int32) = iI 0 := rfl
theorem iI_2 : (2 : Int32) = iI 2 := rfl
theorem iI_3 : (3 : Int32) = iI 3 := rfl
theorem iI_4 : (4 : Int32) = iI 4 := rfl
theorem iI_5 : (5 : Int32) = iI 5 := rfl
theorem iI_6 : (6 : Int32) = iI 6 := rfl
theorem iI_7 : (7 : Int32) = iI 7 := rfl
theorem iI_8 : (8 : Int32) = iI 8 := rfl
theorem iI_9 : (9 : Int32) = iI 9 := rfl
theorem iI_10 : (10 : Int32) = iI 10 := rfl
theorem iI_20 : (20 : Int32) = iI 20 := rfl
theorem iI_24 : (24 : Int32) = iI 24 := rfl
theorem iI_25 : (25 : Int32) = iI 25 := rfl
theorem iI_26 : (26 : Int32) = iI 26 := rfl
theorem iI_31 : (31 : Int32) = iI 31 := rfl
theorem iI_32 : (32 : Int32) = iI 32 := rfl
theorem iI_39 : (39 : Int32) = iI 39 := rfl
theorem iI_45 : (45 : Int32) = iI 45 := rfl
theorem iI_48 : (48 : Int32) = iI 48 := rfl
theorem iI_57 : (57 : Int32) = iI 57 := rfl
theorem iI_59 : (59 : Int32) = iI 59 := rfl
theorem iI_97 : (97 : Int32) = iI 97 := rfl
theorem iI_122 : (122 : Int32) = iI 122 := rfl
theorem iI_212 : (212 : Int32) = iI 212 := rfl
theorem iI_217 : (217 : Int32) = iI 217 := rfl
theorem iI_240 : (240 : Int32) = iI 240 := rfl
theorem iI_255 : (255 : Int32) = iI 255 := rfl
theorem iI_600 : (600 : Int32) = iI 600 := rfl
theorem iI_2147483647 : (2147483647 : Int32) = iI 2147483647 := rfl
theorem iI_1 : (1 : Int32) = iI 1 := rfl
theorem iI_toInt {a : Int} (h1 : -2147483648 ≤ a) (h2 : a < 2147483648) : (iI a).toInt = a := Int32.toInt_ofInt_of_le (by simpa using h1) (by simpa using h2)
theorem iI_le {a b : Int} (h1 : -2147483648 ≤ a) (h2 : a < 2147483648) (h3 : -2147483648 ≤ b) (h4 : b < 2147483648) : iI a ≤ iI b ↔ a ≤ b := by
  rw [Int32.le_iff_toInt_le, iI_toInt h1 h2, iI_toInt h3 h4]
theorem iI_lt {a b : Int} (h1 : -2147483648 ≤ a) (h2 : a < 2147483648) (h3 : -2147483648 ≤ b) (h4 : b < 2147483648) : iI a < iI b ↔ a < b := by
  rw [Int32.lt_iff_toInt_lt, iI_toInt h1 h2, iI_toInt h3 h4]
theorem iI_eq {a b : Int} (h1 : -2147483648 ≤ a) (h2 : a < 2147483648) (h3 : -2147483648 ≤ b) (h4 : b < 2147483648) : iI a = iI b ↔ a = b := by
  rw [← Int32.toInt_inj, iI_toInt h1 h2, iI_toInt h3 h4]
theorem iI_cl {a : Int} (h1 : 0 ≤ a) (h2 : a < 2147483648) : (iI a).toNatClampNeg = a.toNat := by
  rw [← Int32.toNat_toInt, iI_toInt (by omega) h2]
theorem iI_of (x : Int32) : ∃ a : Int, -2147483648 ≤ a ∧ a < 2147483648 ∧ x = iI a := ⟨x.toInt, by have := Int32.le_toInt x; simpa using this, by have := Int32.toInt_lt x; simpa using this, by unfold iI; rw [Int32.ofInt_toInt]⟩
theorem iI_ofNat (n : Nat) : Int32.ofNat n = iI (n : Int) := rfl
theorem iI_in {a : Int} {N : Nat} (h1 : 0 ≤ a) (h2 : a < (N : Int)) (h3 : (N : Int) < 2147483648) : g_in (iI a) N = true := by
  unfold g_in
  rw [decide_eq_true_eq, iI_0, iI_lt (by omega) (by omega) (by omega) (by omega), iI_cl h1 (by omega)]
  omega
theorem ra_ok {α : Type} {N : Nat} {f : Nat → α} {a : Int} (h1 : 0 ≤ a) (h2 : a < (N : Int)) (h3 : (N : Int) < 2147483648) : g_ra N f (iI a) = some (f a.toNat) := by
  unfold g_ra
  rw [if_pos (iI_in h1 h2 h3), iI_cl h1 (by omega)]
theorem wa_ok {N : Nat} {f : Nat → Int32} {a : Int} {x : Int32} (h1 : 0 ≤ a) (h2 : a < (N : Int)) (h3 : (N : Int) < 2147483648) : g_wa N f (iI a) x = some (upd f a.toNat x) := by
  unfold g_wa
  rw [if_pos (iI_in h1 h2 h3), iI_cl h1 (by omega)]
theorem ra_at {α : Type} {N : Nat} {f : Nat → α} {a : Int} {j : Nat} {x : α} (e : a = (j : Int)) (h2 : j < N) (h3 : (N : Int) < 2147483648) (hx : f j = x) : g_ra N f (iI a) = some x := by
  rw [ra_ok (by omega) (by omega) h3, ← hx, e, Int.toNat_natCast]
theorem wa_at {N : Nat} {f : Nat → Int32} {a : Int} {j : Nat} {x : Int32} (e : a = (j : Int)) (h2 : j < N) (h3 : (N : Int) < 2147483648) : g_wa N f (iI a) x = some (upd f j x) := by
  rw [wa_ok (by omega) (by omega) h3, e, Int.toNat_natCast]
/-- heap reads -/
theorem aI_at {h : gH} {q t N : Nat} {f : Nat → Int32} {a : Int} {j : Nat} {x : Int32} (hq : h q = some (.inl (t, N, .inl f))) (e : a = (j : Int)) (h2 : j < N) (h3 : (N : Int) < 2147483648) (hx : f j = x) : g_aI h q t (iI a) = some x := by
  unfold g_aI
  rw [g_arr_s hq]
  exact ra_at e h2 h3 hx
theorem aQ_at {h : gH} {q t N : Nat} {f : Nat → Option Nat} {a : Int} {j : Nat} {x : Option Nat} (hq : h q = some (.inl (t, N, .inr (.inr (.inr (.inr f)))))) (e : a = (j : Int)) (h2 : j < N) (h3 : (N : Int) < 2147483648) (hx : f j = x) : g_aQ h q t (iI a) = some x := by
  unfold g_aQ
  rw [g_arr_s hq]
  exact ra_at e h2 h3 hx
theorem aA_at {h : gH} {q t N : Nat} {f : Nat → Option Nat} {a : Int} {j : Nat} {x : Nat} (hq : h q = some (.inl (t, N, .inr (.inr (.inr (.inr f)))))) (e : a = (j : Int)) (h2 : j < N) (h3 : (N : Int) < 2147483648) (hx : f j = some x) : g_aA h q t (iI a) = some x := by
  unfold g_aA
  rw [aQ_at hq e h2 h3 hx]
  rfl
theorem sI_at {h : gH} {q t N : Nat} {f : Nat → Int32} {a : Int} {j : Nat} {x : Int32} (hq : h q = some (.inl (t, N, .inl f))) (e : a = (j : Int)) (h2 : j < N) (h3 : (N : Int) < 2147483648) : g_sI h q t (iI a) x = some (g_up h q (.inl (t, N, .inl (upd f j x)))) := by
  unfold g_sI
  rw [g_arr_s hq]
  show (if g_in (iI a) N = true then some (g_up h q (.inl (t, N, .inl (upd f (iI a).toNatClampNeg x)))) else none) = _
  rw [if_pos (iI_in (by omega) (by omega) h3), iI_cl (by omega) (by omega), e, Int.toNat_natCast]
theorem sQ_at {h : gH} {q t N : Nat} {f : Nat → Option Nat} {a : Int} {j : Nat} {x : Option Nat} (hq : h q = some (.inl (t, N, .inr (.inr (.inr (.inr f)))))) (e : a = (j : Int)) (h2 : j < N) (h3 : (N : Int) < 2147483648) : g_sQ h q t (iI a) x = some (g_up h q (.inl (t, N, .inr (.inr (.inr (.inr (va_up f j x))))))) := by
  unfold g_sQ
  rw [g_arr_s hq]
  show (if g_in (iI a) N = true then some (g_up h q (.inl (t, N, .inr (.inr (.inr (.inr (va_up f (iI a).toNatClampNeg x))))))) else none) = _
  rw [if_pos (iI_in (by omega) (by omega) h3), iI_cl (by omega) (by omega), e, Int.toNat_natCast]
theorem len_at {h : gH} {q t : Nat} {y : vp_A} (hq : h q = some (.inl (t, y))) : g_len h q t = some (iI (y.1 : Int)) := by
  unfold g_len
  rw [g_arr_s hq]
  rfl
theorem fI_at {h : gH} {q ci k : Nat} {fs : List Value} {x : Int32} (hq : h q = some (.inr (ci, fs))) (hx : fs[k]? = some (.int x)) : g_fI h q ci k = some x := by
  unfold g_fI
  rw [g_obj_s hq]
  show g_vI fs[k]? = some x
  rw [hx]; rfl
theorem fA_at {h : gH} {q ci k : Nat} {fs : List Value} {x : Nat} (hq : h q = some (.inr (ci, fs))) (hx : fs[k]? = some (.ref x)) : g_fA h q ci k = some x := by
  unfold g_fA
  rw [g_obj_s hq]
  show g_vA fs[k]? = some x
  rw [hx]; rfl
-- the mathematical state: cells, siblings, owners (-1: free), values, names
abbrev gS : Type := Nat × Nat × (Nat → Int) × (Nat → Nat → Int) × (Nat → List Int)
abbrev gS.c (S : gS) : Nat := S.1
abbrev gS.n (S : gS) : Nat := S.2.1
abbrev gS.ow (S : gS) : Nat → Int := S.2.2.1
abbrev gS.v (S : gS) : Nat → Nat → Int := S.2.2.2.1
abbrev gS.nm (S : gS) : Nat → List Int := S.2.2.2.2
def SibAt (h : gH) (a c : Nat) (vv : Nat → Int) (nm : List Int) : Prop :=
  ∃ na : Nat, h a = some (.inr (1, [.ref na, .ref (a + 1)])) ∧ (∃ f : Nat → Int32, h (a + 1) = some (.inl (0, c, .inl f)) ∧ ∀ k, k < c → f k = iI (vv k)) ∧ ∃ g : Nat → Int32, h na = some (.inl (1, nm.length, .inl g)) ∧ ∀ i, i < nm.length → g i = iI (nm.getD i 0)
/-- the class's state object at st, its siblings at sa -/
def StAt (h : gH) (st : Nat) (S : gS) (sa : Nat → Nat) : Prop :=
  h st = some (.inr (0, [.ref (st + 1), .ref (st + 4), .ref (st + 3)])) ∧ (∃ mc : Int32, h (st + 1) = some (.inr (7, [.int mc, .ref (st + 2), .int (iI S.n)]))) ∧
  (∃ f : Nat → Option Nat, h (st + 2) = some (.inl (3, 6, .inr (.inr (.inr (.inr f))))) ∧ ∀ s, s < S.n → f s = some (sa s)) ∧
  (∃ f : Nat → Int32, h (st + 3) = some (.inl (2, 6, .inl f))) ∧
  (∃ f : Nat → Int32, h (st + 4) = some (.inl (0, S.c, .inl f)) ∧ ∀ k, k < S.c → f k = iI (S.ow k)) ∧ ∀ s, s < S.n → SibAt h (sa s) S.c (S.v s) (S.nm s)
/-- the reference's block b -/
def BlkAt (m : Nat → Int32) (b : Nat) (S : gS) : Prop :=
  m (212 * b) = iI S.c ∧ m (212 * b + 1) = iI S.n ∧ (∀ k, k < S.c → m (212 * b + 2 + k) = iI (S.ow k)) ∧
  ∀ s, s < S.n → m (212 * b + 26 + 31 * s) = iI ((S.nm s).length : Int) ∧ (∀ i, i < (S.nm s).length → m (212 * b + 26 + 31 * s + 1 + i) = iI ((S.nm s).getD i 0)) ∧ ∀ k, k < S.c → m (212 * b + 26 + 31 * s + 7 + k) = iI (S.v s k)
def WF (S : gS) : Prop :=
  (1 ≤ S.c ∧ S.c ≤ 24) ∧ (1 ≤ S.n ∧ S.n ≤ 6) ∧ (∀ k, k < S.c → -1 ≤ S.ow k ∧ S.ow k < S.n) ∧ (∀ s, s < S.n → ∀ k, k < S.c → 0 ≤ S.v s k ∧ S.v s k ≤ 9) ∧ ∀ s, s < S.n → (1 ≤ (S.nm s).length ∧ (S.nm s).length ≤ 6) ∧ ∀ i, i < (S.nm s).length → 97 ≤ (S.nm s).getD i 0 ∧ (S.nm s).getD i 0 ≤ 122
section ACC
variable {h : gH} {st : Nat} {S : gS} {sa : Nat → Nat} {m : Nat → Int32}
theorem a_obj (hS : StAt h st S sa) : ∃ fs, g_obj h st 0 = some fs := ⟨_, g_obj_s hS.1⟩
theorem a_al (hS : StAt h st S sa) : g_fA h st 0 0 = some (st + 1) := fA_at hS.1 rfl
theorem a_ow (hS : StAt h st S sa) : g_fA h st 0 1 = some (st + 4) := fA_at hS.1 rfl
theorem a_sv (hS : StAt h st S sa) : g_fA h st 0 2 = some (st + 3) := fA_at hS.1 rfl
theorem a_alo (hS : StAt h st S sa) : ∃ fs, g_obj h (st + 1) 7 = some fs := by
  obtain ⟨-, ⟨mc, h1⟩, -⟩ := hS
  exact ⟨_, g_obj_s h1⟩
theorem a_als (hS : StAt h st S sa) : f_J2_size (st + 1) h = some (iI S.n) := by
  obtain ⟨-, ⟨mc, h1⟩, -⟩ := hS
  unfold f_J2_size
  rw [fI_at h1 rfl]; rfl
theorem a_owl (hS : StAt h st S sa) : g_len h (st + 4) 0 = some (iI S.c) := by
  obtain ⟨-, -, -, -, ⟨f, h1, -⟩, -⟩ := hS
  exact len_at h1
theorem a_cells (hS : StAt h st S sa) : f_X2_cells st h = some (iI S.c) := by
  unfold f_X2_cells
  rw [a_ow hS]
  show (Option.bind (g_len h (st + 4) 0) fun v2 => some v2) = _
  rw [a_owl hS]; rfl
theorem a_size (hS : StAt h st S sa) : f_X2_size st h = some (iI S.n) := by
  obtain ⟨fs, h1⟩ := a_alo hS
  unfold f_X2_size
  rw [a_al hS]
  show (Option.bind (g_obj h (st + 1) 7) fun _ => _) = _
  rw [h1]
  show (Option.bind (f_J2_size (st + 1) h) fun v4 => some v4) = _
  rw [a_als hS]; rfl
theorem a_get (hS : StAt h st S sa) {s : Nat} (hs : s < S.n) (hn : S.n ≤ 6) : f_J2_get (st + 1) (iI s) h = some (sa s) := by
  obtain ⟨-, ⟨mc, h1⟩, ⟨f, h2, h3⟩, -⟩ := hS
  unfold f_J2_get
  rw [fI_at (x := iI S.n) h1 rfl]
  show (Option.bind (f_J18_checkIndex (iI s) (iI S.n) h) fun v3 => _) = _
  have hc : f_J18_checkIndex (iI s) (iI S.n) h = some (iI s) := by
    unfold f_J18_checkIndex f_J14_checkIndex
    rw [if_neg (by rw [iI_0, iI_lt (by omega) (by omega) (by omega) (by omega)]; omega), if_pos (by rw [iI_lt (by omega) (by omega) (by omega) (by omega)]; omega)]
    rfl
  rw [hc]
  show (Option.bind (g_obj h (st + 1) 7) fun _ => (Option.bind (f_J2_elementData (st + 1) (iI s) h) fun v6 => some v6)) = _
  rw [g_obj_s h1]
  show (Option.bind (f_J2_elementData (st + 1) (iI s) h) fun v6 => some v6) = _
  unfold f_J2_elementData
  rw [fA_at (x := st + 2) h1 rfl]
  show Option.bind (Option.bind (g_aA h (st + 2) 3 (iI s)) fun v2 => some v2) (fun v6 => some v6) = _
  rw [aA_at h2 rfl (by omega) (by decide) (h3 s hs)]
  rfl
theorem a_sobj (hS : StAt h st S sa) {s : Nat} (hs : s < S.n) : ∃ fs, g_obj h (sa s) 1 = some fs := by
  obtain ⟨na, h1, -⟩ := hS.2.2.2.2.2 s hs
  exact ⟨_, g_obj_s h1⟩
theorem a_sib (hS : StAt h st S sa) {s : Nat} (hs : s < S.n) (hn : S.n ≤ 6) : f_X2_sibling st (iI s) h = some (sa s) := by
  obtain ⟨fs, h1⟩ := a_alo hS
  obtain ⟨fs2, h2⟩ := a_sobj hS hs
  unfold f_X2_sibling
  rw [a_al hS]
  show (Option.bind (g_obj h (st + 1) 7) fun _ => _) = _
  rw [h1]
  show (Option.bind (f_J2_get (st + 1) (iI s) h) fun v4 => _) = _
  rw [a_get hS hs hn]
  show (Option.bind (g_obj h (sa s) 1) fun _ => some (sa s)) = _
  rw [h2]; rfl
theorem a_vals (hS : StAt h st S sa) {s : Nat} (hs : s < S.n) : g_fA h (sa s) 1 1 = some (sa s + 1) := by
  obtain ⟨na, h1, -⟩ := hS.2.2.2.2.2 s hs
  exact fA_at h1 rfl
theorem a_val (hS : StAt h st S sa) {s k : Nat} (hs : s < S.n) (hk : k < S.c) (hc : S.c ≤ 24) : g_aI h (sa s + 1) 0 (iI k) = some (iI (S.v s k)) := by
  obtain ⟨na, -, ⟨f, h2, h3⟩, -⟩ := hS.2.2.2.2.2 s hs
  exact aI_at h2 rfl hk (by omega) (h3 k hk)
theorem a_vlen (hS : StAt h st S sa) {s : Nat} (hs : s < S.n) : g_len h (sa s + 1) 0 = some (iI S.c) := by
  obtain ⟨na, -, ⟨f, h2, h3⟩, -⟩ := hS.2.2.2.2.2 s hs
  exact len_at h2
theorem a_value (hS : StAt h st S sa) {s k : Nat} (hs : s < S.n) (hk : k < S.c) (hc : S.c ≤ 24) : f_X5_value (sa s) (iI k) h = some (iI (S.v s k)) := by
  unfold f_X5_value
  rw [a_vals hS hs]
  show (Option.bind (g_aI h (sa s + 1) 0 (iI k)) fun v2 => some v2) = _
  rw [a_val hS hs hk hc]; rfl
theorem a_own (hS : StAt h st S sa) {k : Nat} (hk : k < S.c) (hc : S.c ≤ 24) : g_aI h (st + 4) 0 (iI k) = some (iI (S.ow k)) := by
  obtain ⟨-, -, -, -, ⟨f, h1, h2⟩, -⟩ := hS
  exact aI_at h1 rfl hk (by omega) (h2 k hk)
-- the reference
theorem b_c (hB : BlkAt m 0 S) : g_ra 2120 m (iI 0) = some (iI S.c) := ra_at (j := 0) rfl (by decide) (by decide) hB.1
theorem b_n (hB : BlkAt m 0 S) : g_ra 2120 m (iI 1) = some (iI S.n) := ra_at (j := 1) rfl (by decide) (by decide) hB.2.1
theorem b_own (hB : BlkAt m 0 S) {k : Nat} (hk : k < S.c) (hc : S.c ≤ 24) : f_X6_ownerOf (iI k) m = some (iI (S.ow k)) := by
  unfold f_X6_ownerOf
  rw [iI_2, iI_add, ra_at (j := 212 * 0 + 2 + k) (by omega) (by omega) (by decide) (hB.2.2.1 k hk)]
  rfl
theorem b_val (hB : BlkAt m 0 S) {s k : Nat} (hs : s < S.n) (hn : S.n ≤ 6) (hk : k < S.c) (hc : S.c ≤ 24) : f_X6_valueOf (iI s) (iI k) m = some (iI (S.v s k)) := by
  unfold f_X6_valueOf
  rw [iI_26, iI_31, iI_7, iI_mul, iI_add, iI_add, iI_add, ra_at (j := 212 * 0 + 26 + 31 * s + 7 + k) (by omega) (by omega) (by decide) ((hB.2.2.2 s hs).2.2 k hk)]
  rfl
end ACC
-- sums
def sumZ (f : Nat → Int) : Nat → Int
  | 0 => 0
  | k + 1 => sumZ f k + f k
theorem sumZ_b {f : Nat → Int} {b : Int} (n : Nat) (h : ∀ k, k < n → 0 ≤ f k ∧ f k ≤ b) : 0 ≤ sumZ f n ∧ sumZ f n ≤ n * b := by
  induction n with
  | zero => exact ⟨Int.le_refl _, by simp [sumZ]⟩
  | succ n ih =>
    have h1 := ih fun k hk => h k (by omega)
    have h2 := h n (by omega)
    have h3 : ((n + 1 : Nat) : Int) * b = n * b + b := by rw [Int.natCast_add, Int.add_mul]; simp
    rw [h3]
    show 0 ≤ sumZ f n + f n ∧ sumZ f n + f n ≤ n * b + b
    omega
/-- the worth of the share of o for s -/
def sWS (S : gS) (s : Nat) (o : Int) : Int := sumZ (fun k => if S.ow k = o then S.v s k else 0) S.c
theorem sWS_b {S : gS} (hw : WF S) {s : Nat} (hs : s < S.n) (o : Int) : 0 ≤ sWS S s o ∧ sWS S s o ≤ 216 := by
  have h1 := sumZ_b (f := fun k => if S.ow k = o then S.v s k else 0) (b := 9) S.c (fun k hk => by
    have h2 := hw.2.2.2.1 s hs k hk
    show 0 ≤ (if S.ow k = o then S.v s k else 0) ∧ (if S.ow k = o then S.v s k else 0) ≤ 9
    split <;> omega)
  have h3 := hw.1
  unfold sWS
  omega
