/-! a double that isn't a NaN equals itself -/
theorem od_self {x : FP.Core.Datum} (h : x ≠ .nan) : FP.Core.order x x = some .eq := by
  rcases x with _ | s | ⟨s, c, q⟩
  · exact absurd rfl h
  · unfold FP.Core.order
    simp
  · unfold FP.Core.order
    simp
theorem dc_nan {x : UInt64} (h : g_n64 x = true) : FP.Core.decode FP.Core.b64 x.toNat ≠ .nan := by
  have h1 : x &&& 0x7fffffffffffffff ≤ 0x7ff0000000000000 := of_decide_eq_true h
  have h2 : (x &&& 0x7fffffffffffffff).toNat ≤ 0x7ff0000000000000 := h1
  rw [UInt64.toNat_and] at h2
  have h3 : x.toNat % 2 ^ 63 ≤ 0x7ff0000000000000 := by
    rw [← Nat.and_two_pow_sub_one_eq_mod]
    exact h2
  intro hn
  unfold FP.Core.decode at hn
  split at hn
  · rename_i e1
    split at hn
    · cases hn
    · rename_i e2
      have e3 : x.toNat / 2 ^ 52 % 2048 = 2047 := e1
      have e4 : x.toNat % 2 ^ 52 ≠ 0 := e2
      omega
  · split at hn <;> cases hn
theorem dc_self {x : UInt64} (h : g_n64 x = true) : (Op.cmpValue (FP.dcmp x x) .l) = 0 := by
  show Op.cmpValue (FP.Core.order (FP.Core.decode FP.Core.b64 x.toNat) (FP.Core.decode FP.Core.b64 x.toNat)) .l = 0
  rw [od_self (dc_nan h)]
  rfl
