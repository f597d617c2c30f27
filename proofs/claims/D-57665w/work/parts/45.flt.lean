/-! floats: no answer is a NaN (kernel computation, in pieces) -/
theorem flt_d : ∀ a, a < 145 → ∀ n, n < 6 → g_n64 (FP.ddiv (FP.i2d (Int32.ofNat a)) (FP.i2d (Int32.ofNat (n + 1)))) = true := by decide +kernel
def flt_P (w t : Nat) : Prop := g_n32 (FP.fdiv (FP.i2f (Int32.ofNat w)) (FP.i2f (Int32.ofNat (t + 1)))) = true ∧ g_n64 (FP.f2d (FP.fdiv (FP.i2f (Int32.ofNat w)) (FP.i2f (Int32.ofNat (t + 1))))) = true
def flt_B (w t : Nat) : Bool := g_n32 (FP.fdiv (FP.i2f (Int32.ofNat w)) (FP.i2f (Int32.ofNat (t + 1)))) && g_n64 (FP.f2d (FP.fdiv (FP.i2f (Int32.ofNat w)) (FP.i2f (Int32.ofNat (t + 1)))))
def flt_row (t : Nat) : Nat → Bool
  | 0 => true
  | w + 1 => flt_row t w && flt_B w t
def flt_rows (t0 : Nat) : Nat → Bool
  | 0 => true
  | k + 1 => flt_rows t0 k && flt_row (t0 + k) (t0 + k + 2)
theorem flt_row_s {t : Nat} : ∀ {W : Nat}, flt_row t W = true → ∀ w, w < W → flt_P w t := by
  intro W
  induction W with
  | zero => intro _ w h; exact absurd h (Nat.not_lt_zero w)
  | succ W ih =>
    intro h w hw
    simp only [flt_row, Bool.and_eq_true] at h
    by_cases e : w = W
    · rw [e]
      have h2 := h.2
      unfold flt_B at h2
      rw [Bool.and_eq_true] at h2
      exact h2
    · exact ih h.1 w (by omega)
theorem flt_rows_s {t0 : Nat} : ∀ {k : Nat}, flt_rows t0 k = true → ∀ t, t < k → flt_row (t0 + t) (t0 + t + 2) = true := by
  intro k
  induction k with
  | zero => intro _ t h; exact absurd h (Nat.not_lt_zero t)
  | succ k ih =>
    intro h t ht
    simp only [flt_rows, Bool.and_eq_true] at h
    by_cases e : t = k
    · rw [e]; exact h.2
    · exact ih h.1 t (by omega)
set_option maxRecDepth 100000 in
theorem flt_c0 : flt_rows 0 80 = true := by decide +kernel
set_option maxRecDepth 100000 in
theorem flt_c80 : flt_rows 80 35 = true := by decide +kernel
set_option maxRecDepth 100000 in
theorem flt_c115 : flt_rows 115 27 = true := by decide +kernel
set_option maxRecDepth 100000 in
theorem flt_c142 : flt_rows 142 23 = true := by decide +kernel
set_option maxRecDepth 100000 in
theorem flt_c165 : flt_rows 165 20 = true := by decide +kernel
set_option maxRecDepth 100000 in
theorem flt_c185 : flt_rows 185 18 = true := by decide +kernel
set_option maxRecDepth 100000 in
theorem flt_c203 : flt_rows 203 13 = true := by decide +kernel
theorem flt_f (t : Nat) (ht : t < 216) (w : Nat) (hw : w < t + 2) : flt_P w t := by
  by_cases q80 : t < 80
  · have h := flt_rows_s flt_c0 (t - 0) (by omega)
    rw [show 0 + (t - 0) = t by omega] at h
    exact flt_row_s h w hw
  by_cases q115 : t < 115
  · have h := flt_rows_s flt_c80 (t - 80) (by omega)
    rw [show 80 + (t - 80) = t by omega] at h
    exact flt_row_s h w hw
  by_cases q142 : t < 142
  · have h := flt_rows_s flt_c115 (t - 115) (by omega)
    rw [show 115 + (t - 115) = t by omega] at h
    exact flt_row_s h w hw
  by_cases q165 : t < 165
  · have h := flt_rows_s flt_c142 (t - 142) (by omega)
    rw [show 142 + (t - 142) = t by omega] at h
    exact flt_row_s h w hw
  by_cases q185 : t < 185
  · have h := flt_rows_s flt_c165 (t - 165) (by omega)
    rw [show 165 + (t - 165) = t by omega] at h
    exact flt_row_s h w hw
  by_cases q203 : t < 203
  · have h := flt_rows_s flt_c185 (t - 185) (by omega)
    rw [show 185 + (t - 185) = t by omega] at h
    exact flt_row_s h w hw
  by_cases q216 : t < 216
  · have h := flt_rows_s flt_c203 (t - 203) (by omega)
    rw [show 203 + (t - 203) = t by omega] at h
    exact flt_row_s h w hw
  omega
