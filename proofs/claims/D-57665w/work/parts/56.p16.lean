/-! THE DEQUE -/
def DqAt (h : gH) (dq hd len : Nat) (l : Nat → Nat) : Prop := hd < 17 ∧ len ≤ 6 ∧ h dq = some (.inr (8, [.ref (dq + 1), .int (iI hd), .int (iI ((hd + len) % 17 : Nat))])) ∧ ∃ f : Nat → Option Nat, h (dq + 1) = some (.inl (3, 17, .inr (.inr (.inr (.inr f))))) ∧ ∀ j, j < len → f ((hd + j) % 17) = some (l j)
theorem gO_e {D : Type} {x : Nat} {y : Option D} {K : Nat → Option D} : gO (some x) y K = K x := rfl
section DQ
variable {h : gH} {dq hd len : Nat} {l : Nat → Nat}
theorem DqAt.keep {h' : gH} (d : DqAt h dq hd len l) (k : ∀ b e, h b = some e → b = dq ∨ b = dq + 1 → h' b = some e) : DqAt h' dq hd len l := by
  obtain ⟨a1, a2, a3, f, a4, a5⟩ := d
  exact ⟨a1, a2, k _ _ a3 (.inl rfl), f, k _ _ a4 (.inr rfl), a5⟩
theorem d_obj (d : DqAt h dq hd len l) : ∃ fs, g_obj h dq 8 = some fs := ⟨_, g_obj_s d.2.2.1⟩
theorem dSize (d : DqAt h dq hd len l) : f_J17_size dq h = some (iI len) := by
  obtain ⟨a1, a2, a3, f, a4, a5⟩ := d
  unfold f_J17_size f_J17_sub
  rw [fI_at a3 rfl, gB_s, fI_at a3 rfl, gB_s, fA_at a3 rfl, gB_s, len_at a4, gB_s, iI_sub, iI_0]
  by_cases q : (0 : Int) ≤ ((hd + len) % 17 : Nat) - (hd : Int)
  · rw [if_pos (by rw [iI_le (by omega) (by omega) (by omega) (by omega)]; omega), gB_s]
    congr 2
    omega
  · rw [if_neg (by rw [iI_le (by omega) (by omega) (by omega) (by omega)]; omega), gB_s]
    show some (iI _ + iI ((17 : Nat) : Int)) = _
    rw [iI_add]
    congr 2
    omega
theorem dEmp (d : DqAt h dq hd len l) : f_J17_isEmpty dq h = some (if len = 0 then (1 : Int32) else 0) := by
  obtain ⟨a1, a2, a3, f, a4, a5⟩ := d
  unfold f_J17_isEmpty
  rw [fI_at a3 rfl, gB_s, fI_at a3 rfl, gB_s]
  by_cases q : len = 0
  · rw [if_pos q, if_pos (by rw [iI_eq (by omega) (by omega) (by omega) (by omega)]; omega)]
  · rw [if_neg q, if_neg (by rw [iI_eq (by omega) (by omega) (by omega) (by omega)]; omega)]
theorem dInc {i : Nat} (hi : i < 17) : f_J17_inc (iI i) (iI ((17 : Nat) : Int)) h = some (iI ((i + 1) % 17 : Nat)) := by
  unfold f_J17_inc
  rw [iI_1, iI_add]
  by_cases q : i + 1 < 17
  · rw [if_pos (by rw [iI_lt (by omega) (by omega) (by omega) (by omega)]; omega)]
    congr 2
    omega
  · rw [if_neg (by rw [iI_lt (by omega) (by omega) (by omega) (by omega)]; omega)]
    have : (i + 1) % 17 = 0 := by omega
    rw [this]; rfl
theorem dDec {i : Nat} (hi : i < 17) : f_J17_dec (iI i) (iI ((17 : Nat) : Int)) h = some (iI ((i + 16) % 17 : Nat)) := by
  unfold f_J17_dec
  rw [iI_n1, iI_add, iI_0]
  by_cases q : 0 < i
  · rw [if_pos (by rw [iI_le (by omega) (by omega) (by omega) (by omega)]; omega)]
    congr 2
    omega
  · rw [if_neg (by rw [iI_le (by omega) (by omega) (by omega) (by omega)]; omega), iI_1, iI_sub]
    congr 2
    omega
theorem dAdd (d : DqAt h dq hd len l) (hl : len ≤ 5) {q : Nat} {fs : List Value} (hq : h q = some (.inr (0, fs))) : ∃ h', f_J17_addLast dq q h = some h' ∧ DqAt h' dq hd (len + 1) (fun j => if j = len then q else l j) ∧ ∀ b, b ≠ dq → b ≠ dq + 1 → h' b = h b := by
  obtain ⟨a1, a2, a3, f, a4, a5⟩ := d
  unfold f_J17_addLast
  rw [fA_at a3 rfl, gB_s, fI_at a3 rfl, gB_s, g_obj_s hq, gB_s, sQ_at (j := (hd + len) % 17) a4 rfl (by omega) (by decide), gB_s]
  generalize e1 : g_up h (dq + 1) (.inl (3, 17, .inr (.inr (.inr (.inr (va_up f ((hd + len) % 17) (some q))))))) = h1
  have b3 : h1 dq = some (.inr (8, [.ref (dq + 1), .int (iI hd), .int (iI ((hd + len) % 17 : Nat))])) := by rw [← e1, g_up_n (by omega)]; exact a3
  have b4 : h1 (dq + 1) = some (.inl (3, 17, .inr (.inr (.inr (.inr (va_up f ((hd + len) % 17) (some q))))))) := by rw [← e1, g_up_s]
  rw [fI_at b3 rfl, gB_s, fI_at b3 rfl, gB_s, len_at b4, gB_s]
  show ∃ h', (Option.bind (f_J17_inc (iI ((hd + len) % 17 : Nat)) (iI ((17 : Nat) : Int)) h1) _) = _ ∧ _
  rw [dInc (by omega), gB_s, pf_at b3 (by show _ < 3; decide), gB_s, if_neg (by rw [iI_eq (by omega) (by omega) (by omega) (by omega)]; omega)]
  refine ⟨_, rfl, ⟨a1, by omega, ?_, va_up f ((hd + len) % 17) (some q), ?_, fun j hj => ?_⟩, fun b q1 q2 => ?_⟩
  · rw [g_up_s]
    have : ((hd + len) % 17 + 1) % 17 = (hd + (len + 1)) % 17 := by omega
    rw [this]; rfl
  · rw [g_up_n (by omega)]; exact b4
  · show (if (hd + j) % 17 = (hd + len) % 17 then some q else f ((hd + j) % 17)) = some (if j = len then q else l j)
    by_cases e : j = len
    · rw [if_pos (by rw [e]), if_pos e]
    · rw [if_neg (by omega), if_neg e]
      exact a5 j (by omega)
  · rw [g_up_n q1, ← e1, g_up_n q2]
theorem dRf (d : DqAt h dq hd len l) (hl : 0 < len) : ∃ h', f_J17_removeFirst dq h = some (l 0, h') ∧ DqAt h' dq ((hd + 1) % 17) (len - 1) (fun j => l (j + 1)) ∧ ∀ b, b ≠ dq → b ≠ dq + 1 → h' b = h b := by
  obtain ⟨a1, a2, a3, f, a4, a5⟩ := d
  have c0 := a5 0 hl
  unfold f_J17_removeFirst f_J17_pollFirst f_J17_elementAt
  rw [g_obj_s a3, gB_s, fA_at a3 rfl, gB_s, fI_at a3 rfl, gB_s, aQ_at (j := (hd + 0) % 17) a4 (by omega) (by omega) (by decide) c0, gB_s, gO_e, gB_s, gO_e, sQ_at (j := hd) a4 rfl a1 (by decide), gB_s]
  generalize e1 : g_up h (dq + 1) (.inl (3, 17, .inr (.inr (.inr (.inr (va_up f hd none)))))) = h1
  have b3 : h1 dq = some (.inr (8, [.ref (dq + 1), .int (iI hd), .int (iI ((hd + len) % 17 : Nat))])) := by rw [← e1, g_up_n (by omega)]; exact a3
  have b4 : h1 (dq + 1) = some (.inl (3, 17, .inr (.inr (.inr (.inr (va_up f hd none)))))) := by rw [← e1, g_up_s]
  rw [len_at b4, gB_s]
  show ∃ h', gT2 (Option.bind (f_J17_inc (iI hd) (iI ((17 : Nat) : Int)) h1) _) _ = _ ∧ _
  rw [dInc a1, gB_s, pf_at b3 (by show _ < 3; decide), gB_s, gT2_s, gO_e]
  refine ⟨_, rfl, ⟨by omega, by omega, ?_, va_up f hd none, ?_, fun j hj => ?_⟩, fun b q1 q2 => ?_⟩
  · rw [g_up_s]
    have : (hd + len) % 17 = ((hd + 1) % 17 + (len - 1)) % 17 := by omega
    rw [this]; rfl
  · rw [g_up_n (by omega)]; exact b4
  · show (if ((hd + 1) % 17 + j) % 17 = hd then none else f (((hd + 1) % 17 + j) % 17)) = some (l (j + 1))
    rw [if_neg (by omega)]
    have : ((hd + 1) % 17 + j) % 17 = (hd + (j + 1)) % 17 := by omega
    rw [this]
    exact a5 (j + 1) (by omega)
  · rw [g_up_n q1, ← e1, g_up_n q2]
theorem dRl (d : DqAt h dq hd len l) (hl : 0 < len) : ∃ h', f_J17_removeLast dq h = some (l (len - 1), h') ∧ DqAt h' dq hd (len - 1) l ∧ ∀ b, b ≠ dq → b ≠ dq + 1 → h' b = h b := by
  obtain ⟨a1, a2, a3, f, a4, a5⟩ := d
  have c0 := a5 (len - 1) (by omega)
  unfold f_J17_removeLast f_J17_pollLast f_J17_elementAt
  rw [g_obj_s a3, gB_s, fA_at a3 rfl, gB_s, fI_at a3 rfl, gB_s, len_at a4, gB_s]
  show ∃ h', gT2 (Option.bind (f_J17_dec (iI ((hd + len) % 17 : Nat)) (iI ((17 : Nat) : Int)) h) _) _ = _ ∧ _
  have e0 : ((hd + len) % 17 + 16) % 17 = (hd + (len - 1)) % 17 := by omega
  rw [dDec (by omega), gB_s, e0, aQ_at (j := (hd + (len - 1)) % 17) a4 (by omega) (by omega) (by decide) c0, gB_s, gO_e, gB_s, gO_e, pf_at a3 (by show _ < 3; decide), gB_s]
  generalize e1 : g_up h dq (.inr (8, [Value.ref (dq + 1), Value.int (iI hd), Value.int (iI ((hd + len) % 17 : Nat))].set 2 (.int (iI ((hd + (len - 1)) % 17 : Nat))))) = h1
  have b4 : h1 (dq + 1) = some (.inl (3, 17, .inr (.inr (.inr (.inr f))))) := by rw [← e1, g_up_n (by omega)]; exact a4
  rw [sQ_at (j := (hd + (len - 1)) % 17) b4 rfl (by omega) (by decide), gB_s, gT2_s, gO_e]
  refine ⟨_, rfl, ⟨a1, by omega, ?_, va_up f ((hd + (len - 1)) % 17) none, ?_, fun j hj => ?_⟩, fun b q1 q2 => ?_⟩
  · rw [g_up_n (by omega), ← e1, g_up_s]; rfl
  · rw [g_up_s]
  · show (if (hd + j) % 17 = (hd + (len - 1)) % 17 then none else f ((hd + j) % 17)) = some (l j)
    rw [if_neg (by omega)]
    exact a5 j (by omega)
  · rw [g_up_n q2, ← e1, g_up_n q1]
theorem ccl2 {q t : Nat} (ht : t < 17) : ∀ (d i k : Nat) (h : gH) (f : Nat → Option Nat), i + d = t → d < k → h q = some (.inl (3, 17, .inr (.inr (.inr (.inr f))))) → ∃ h', gL3 (f_J17_circularClear_L12 q (iI t)) k (iI i) (iI t) h = some h' ∧ (∃ f' : Nat → Option Nat, h' q = some (.inl (3, 17, .inr (.inr (.inr (.inr f')))))) ∧ ∀ b, b ≠ q → h' b = h b := by
  intro d
  induction d with
  | zero =>
    intro i k h f e hk hq
    obtain ⟨k, rfl⟩ : ∃ k', k = k' + 1 := ⟨k - 1, by omega⟩
    refine ⟨h, ?_, ⟨f, hq⟩, fun _ _ => rfl⟩
    show f_J17_circularClear_L12 q (iI t) (gL3 (f_J17_circularClear_L12 q (iI t)) k) _ _ _ = _
    unfold f_J17_circularClear_L12
    rw [if_pos (by rw [iI_le (by omega) (by omega) (by omega) (by omega)]; omega), if_pos rfl]
  | succ d ih =>
    intro i k h f e hk hq
    obtain ⟨k, rfl⟩ : ∃ k', k = k' + 1 := ⟨k - 1, by omega⟩
    obtain ⟨h', e2, e3, e4⟩ := ih (i + 1) k (g_up h q (.inl (3, 17, .inr (.inr (.inr (.inr (va_up f i none))))))) _ (by omega) (by omega) g_up_s
    refine ⟨h', ?_, e3, fun b hb => (e4 b hb).trans (g_up_n hb)⟩
    show f_J17_circularClear_L12 q (iI t) (gL3 (f_J17_circularClear_L12 q (iI t)) k) _ _ _ = _
    generalize gL3 (f_J17_circularClear_L12 q (iI t)) k = r at e2 ⊢
    unfold f_J17_circularClear_L12
    rw [Int.natCast_add, Int.natCast_one] at e2
    rw [if_neg (by rw [iI_le (by omega) (by omega) (by omega) (by omega)]; omega), sQ_at (j := i) hq rfl (by omega) (by decide), gB_s, iI_1, iI_add]
    exact e2
theorem ccl1 {q t : Nat} (ht : t < 17) : ∀ (d i k : Nat) (h : gH) (f : Nat → Option Nat), i + d = 17 → d + 100 < k → h q = some (.inl (3, 17, .inr (.inr (.inr (.inr f))))) → ∃ h', gL3 (f_J17_circularClear_L12 q (iI t)) k (iI i) (iI ((17 : Nat) : Int)) h = some h' ∧ (∃ f' : Nat → Option Nat, h' q = some (.inl (3, 17, .inr (.inr (.inr (.inr f')))))) ∧ ∀ b, b ≠ q → h' b = h b := by
  intro d
  induction d with
  | zero =>
    intro i k h f e hk hq
    obtain ⟨k, rfl⟩ : ∃ k', k = k' + 1 := ⟨k - 1, by omega⟩
    obtain ⟨h', e2, e3, e4⟩ := ccl2 ht t 0 k h f (by omega) (by omega) hq
    refine ⟨h', ?_, e3, e4⟩
    show f_J17_circularClear_L12 q (iI t) (gL3 (f_J17_circularClear_L12 q (iI t)) k) _ _ _ = _
    generalize gL3 (f_J17_circularClear_L12 q (iI t)) k = r at e2 ⊢
    unfold f_J17_circularClear_L12
    rw [if_pos (by rw [iI_le (by omega) (by omega) (by omega) (by omega)]; omega), if_neg (by rw [iI_eq (by omega) (by omega) (by omega) (by omega)]; omega)]
    exact e2
  | succ d ih =>
    intro i k h f e hk hq
    obtain ⟨k, rfl⟩ : ∃ k', k = k' + 1 := ⟨k - 1, by omega⟩
    obtain ⟨h', e2, e3, e4⟩ := ih (i + 1) k (g_up h q (.inl (3, 17, .inr (.inr (.inr (.inr (va_up f i none))))))) _ (by omega) (by omega) g_up_s
    refine ⟨h', ?_, e3, fun b hb => (e4 b hb).trans (g_up_n hb)⟩
    show f_J17_circularClear_L12 q (iI t) (gL3 (f_J17_circularClear_L12 q (iI t)) k) _ _ _ = _
    generalize gL3 (f_J17_circularClear_L12 q (iI t)) k = r at e2 ⊢
    unfold f_J17_circularClear_L12
    rw [Int.natCast_add, Int.natCast_one] at e2
    rw [if_neg (by rw [iI_le (by omega) (by omega) (by omega) (by omega)]; omega), sQ_at (j := i) hq rfl (by omega) (by decide), gB_s, iI_1, iI_add]
    exact e2
theorem dClr (d : DqAt h dq hd len l) : ∃ h', f_J17_clear dq h = some h' ∧ DqAt h' dq 0 0 l ∧ ∀ b, b ≠ dq → b ≠ dq + 1 → h' b = h b := by
  obtain ⟨a1, a2, a3, f, a4, a5⟩ := d
  have key : ∃ h', f_J17_circularClear (dq + 1) (iI hd) (iI ((hd + len) % 17 : Nat)) h = some h' ∧ (∃ f' : Nat → Option Nat, h' (dq + 1) = some (.inl (3, 17, .inr (.inr (.inr (.inr f')))))) ∧ ∀ b, b ≠ dq + 1 → h' b = h b := by
    unfold f_J17_circularClear f_J17_circularClear_J11
    by_cases q : (hd + len) % 17 < hd
    · rw [if_pos (by rw [iI_lt (by omega) (by omega) (by omega) (by omega)]; omega), len_at a4, gB_s]
      exact ccl1 (by omega) (17 - hd) hd gN h f (by omega) (by unfold gN; omega) a4
    · rw [if_neg (by rw [iI_lt (by omega) (by omega) (by omega) (by omega)]; omega)]
      exact ccl2 (by omega) ((hd + len) % 17 - hd) hd gN h f (by omega) (by unfold gN; omega) a4
  obtain ⟨h1, e1, ⟨f1, e2⟩, e3⟩ := key
  have b3 : h1 dq = some (.inr (8, [.ref (dq + 1), .int (iI hd), .int (iI ((hd + len) % 17 : Nat))])) := by rw [e3 _ (by omega)]; exact a3
  unfold f_J17_clear
  rw [fA_at a3 rfl, gB_s, fI_at a3 rfl, gB_s, fI_at a3 rfl, gB_s, e1, gB_s, pf_at b3 (by show _ < 3; decide), gB_s, pf_at g_up_s (by show _ < 3; decide), gB_s]
  refine ⟨_, rfl, ⟨by decide, by decide, ?_, f1, ?_, fun j hj => absurd hj (by omega)⟩, fun b q1 q2 => ?_⟩
  · rw [g_up_s]; rfl
  · rw [g_up_n (by omega), g_up_n (by omega)]; exact e2
  · rw [g_up_n q1, g_up_n q1]; exact e3 b q2
end DQ
