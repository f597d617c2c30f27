/-! ROWS of the law: the script, the reference called by the law, new arrays of longs and doubles, the end -/
def gT10 {A0 A1 A2 A3 A4 A5 A6 A7 A8 A9 D : Type} (e : Option (A0 × A1 × A2 × A3 × A4 × A5 × A6 × A7 × A8 × A9)) (K : A0 → A1 → A2 → A3 → A4 → A5 → A6 → A7 → A8 → A9 → Option D) : Option D := match e with | none => none | some (a0, a1, a2, a3, a4, a5, a6, a7, a8, a9) => K a0 a1 a2 a3 a4 a5 a6 a7 a8 a9
theorem gT10_i {A0 A1 A2 A3 A4 A5 A6 A7 A8 A9 D : Type} {e : Option (A0 × A1 × A2 × A3 × A4 × A5 × A6 × A7 × A8 × A9)} {K : A0 → A1 → A2 → A3 → A4 → A5 → A6 → A7 → A8 → A9 → Option D} {r : D} (h : gT10 e K = some r) : ∃ a0 a1 a2 a3 a4 a5 a6 a7 a8 a9, e = some (a0, a1, a2, a3, a4, a5, a6, a7, a8, a9) ∧ K a0 a1 a2 a3 a4 a5 a6 a7 a8 a9 = some r := by
  rcases e with _ | ⟨a0, a1, a2, a3, a4, a5, a6, a7, a8, a9⟩
  · cases h
  · exact ⟨a0, a1, a2, a3, a4, a5, a6, a7, a8, a9, rfl, h⟩
theorem gT10_s {A0 A1 A2 A3 A4 A5 A6 A7 A8 A9 D : Type} {a0 : A0} {a1 : A1} {a2 : A2} {a3 : A3} {a4 : A4} {a5 : A5} {a6 : A6} {a7 : A7} {a8 : A8} {a9 : A9} {K : A0 → A1 → A2 → A3 → A4 → A5 → A6 → A7 → A8 → A9 → Option D} : gT10 (some (a0, a1, a2, a3, a4, a5, a6, a7, a8, a9)) K = K a0 a1 a2 a3 a4 a5 a6 a7 a8 a9 := rfl
def gT11 {A0 A1 A2 A3 A4 A5 A6 A7 A8 A9 A10 D : Type} (e : Option (A0 × A1 × A2 × A3 × A4 × A5 × A6 × A7 × A8 × A9 × A10)) (K : A0 → A1 → A2 → A3 → A4 → A5 → A6 → A7 → A8 → A9 → A10 → Option D) : Option D := match e with | none => none | some (a0, a1, a2, a3, a4, a5, a6, a7, a8, a9, a10) => K a0 a1 a2 a3 a4 a5 a6 a7 a8 a9 a10
theorem gT11_i {A0 A1 A2 A3 A4 A5 A6 A7 A8 A9 A10 D : Type} {e : Option (A0 × A1 × A2 × A3 × A4 × A5 × A6 × A7 × A8 × A9 × A10)} {K : A0 → A1 → A2 → A3 → A4 → A5 → A6 → A7 → A8 → A9 → A10 → Option D} {r : D} (h : gT11 e K = some r) : ∃ a0 a1 a2 a3 a4 a5 a6 a7 a8 a9 a10, e = some (a0, a1, a2, a3, a4, a5, a6, a7, a8, a9, a10) ∧ K a0 a1 a2 a3 a4 a5 a6 a7 a8 a9 a10 = some r := by
  rcases e with _ | ⟨a0, a1, a2, a3, a4, a5, a6, a7, a8, a9, a10⟩
  · cases h
  · exact ⟨a0, a1, a2, a3, a4, a5, a6, a7, a8, a9, a10, rfl, h⟩
theorem gT11_s {A0 A1 A2 A3 A4 A5 A6 A7 A8 A9 A10 D : Type} {a0 : A0} {a1 : A1} {a2 : A2} {a3 : A3} {a4 : A4} {a5 : A5} {a6 : A6} {a7 : A7} {a8 : A8} {a9 : A9} {a10 : A10} {K : A0 → A1 → A2 → A3 → A4 → A5 → A6 → A7 → A8 → A9 → A10 → Option D} : gT11 (some (a0, a1, a2, a3, a4, a5, a6, a7, a8, a9, a10)) K = K a0 a1 a2 a3 a4 a5 a6 a7 a8 a9 a10 := rfl
def gT12 {A0 A1 A2 A3 A4 A5 A6 A7 A8 A9 A10 A11 D : Type} (e : Option (A0 × A1 × A2 × A3 × A4 × A5 × A6 × A7 × A8 × A9 × A10 × A11)) (K : A0 → A1 → A2 → A3 → A4 → A5 → A6 → A7 → A8 → A9 → A10 → A11 → Option D) : Option D := match e with | none => none | some (a0, a1, a2, a3, a4, a5, a6, a7, a8, a9, a10, a11) => K a0 a1 a2 a3 a4 a5 a6 a7 a8 a9 a10 a11
theorem gT12_i {A0 A1 A2 A3 A4 A5 A6 A7 A8 A9 A10 A11 D : Type} {e : Option (A0 × A1 × A2 × A3 × A4 × A5 × A6 × A7 × A8 × A9 × A10 × A11)} {K : A0 → A1 → A2 → A3 → A4 → A5 → A6 → A7 → A8 → A9 → A10 → A11 → Option D} {r : D} (h : gT12 e K = some r) : ∃ a0 a1 a2 a3 a4 a5 a6 a7 a8 a9 a10 a11, e = some (a0, a1, a2, a3, a4, a5, a6, a7, a8, a9, a10, a11) ∧ K a0 a1 a2 a3 a4 a5 a6 a7 a8 a9 a10 a11 = some r := by
  rcases e with _ | ⟨a0, a1, a2, a3, a4, a5, a6, a7, a8, a9, a10, a11⟩
  · cases h
  · exact ⟨a0, a1, a2, a3, a4, a5, a6, a7, a8, a9, a10, a11, rfl, h⟩
theorem gT12_s {A0 A1 A2 A3 A4 A5 A6 A7 A8 A9 A10 A11 D : Type} {a0 : A0} {a1 : A1} {a2 : A2} {a3 : A3} {a4 : A4} {a5 : A5} {a6 : A6} {a7 : A7} {a8 : A8} {a9 : A9} {a10 : A10} {a11 : A11} {K : A0 → A1 → A2 → A3 → A4 → A5 → A6 → A7 → A8 → A9 → A10 → A11 → Option D} : gT12 (some (a0, a1, a2, a3, a4, a5, a6, a7, a8, a9, a10, a11)) K = K a0 a1 a2 a3 a4 a5 a6 a7 a8 a9 a10 a11 := rfl
def gT13 {A0 A1 A2 A3 A4 A5 A6 A7 A8 A9 A10 A11 A12 D : Type} (e : Option (A0 × A1 × A2 × A3 × A4 × A5 × A6 × A7 × A8 × A9 × A10 × A11 × A12)) (K : A0 → A1 → A2 → A3 → A4 → A5 → A6 → A7 → A8 → A9 → A10 → A11 → A12 → Option D) : Option D := match e with | none => none | some (a0, a1, a2, a3, a4, a5, a6, a7, a8, a9, a10, a11, a12) => K a0 a1 a2 a3 a4 a5 a6 a7 a8 a9 a10 a11 a12
theorem gT13_i {A0 A1 A2 A3 A4 A5 A6 A7 A8 A9 A10 A11 A12 D : Type} {e : Option (A0 × A1 × A2 × A3 × A4 × A5 × A6 × A7 × A8 × A9 × A10 × A11 × A12)} {K : A0 → A1 → A2 → A3 → A4 → A5 → A6 → A7 → A8 → A9 → A10 → A11 → A12 → Option D} {r : D} (h : gT13 e K = some r) : ∃ a0 a1 a2 a3 a4 a5 a6 a7 a8 a9 a10 a11 a12, e = some (a0, a1, a2, a3, a4, a5, a6, a7, a8, a9, a10, a11, a12) ∧ K a0 a1 a2 a3 a4 a5 a6 a7 a8 a9 a10 a11 a12 = some r := by
  rcases e with _ | ⟨a0, a1, a2, a3, a4, a5, a6, a7, a8, a9, a10, a11, a12⟩
  · cases h
  · exact ⟨a0, a1, a2, a3, a4, a5, a6, a7, a8, a9, a10, a11, a12, rfl, h⟩
theorem gT13_s {A0 A1 A2 A3 A4 A5 A6 A7 A8 A9 A10 A11 A12 D : Type} {a0 : A0} {a1 : A1} {a2 : A2} {a3 : A3} {a4 : A4} {a5 : A5} {a6 : A6} {a7 : A7} {a8 : A8} {a9 : A9} {a10 : A10} {a11 : A11} {a12 : A12} {K : A0 → A1 → A2 → A3 → A4 → A5 → A6 → A7 → A8 → A9 → A10 → A11 → A12 → Option D} : gT13 (some (a0, a1, a2, a3, a4, a5, a6, a7, a8, a9, a10, a11, a12)) K = K a0 a1 a2 a3 a4 a5 a6 a7 a8 a9 a10 a11 a12 := rfl
def gT14 {A0 A1 A2 A3 A4 A5 A6 A7 A8 A9 A10 A11 A12 A13 D : Type} (e : Option (A0 × A1 × A2 × A3 × A4 × A5 × A6 × A7 × A8 × A9 × A10 × A11 × A12 × A13)) (K : A0 → A1 → A2 → A3 → A4 → A5 → A6 → A7 → A8 → A9 → A10 → A11 → A12 → A13 → Option D) : Option D := match e with | none => none | some (a0, a1, a2, a3, a4, a5, a6, a7, a8, a9, a10, a11, a12, a13) => K a0 a1 a2 a3 a4 a5 a6 a7 a8 a9 a10 a11 a12 a13
theorem gT14_i {A0 A1 A2 A3 A4 A5 A6 A7 A8 A9 A10 A11 A12 A13 D : Type} {e : Option (A0 × A1 × A2 × A3 × A4 × A5 × A6 × A7 × A8 × A9 × A10 × A11 × A12 × A13)} {K : A0 → A1 → A2 → A3 → A4 → A5 → A6 → A7 → A8 → A9 → A10 → A11 → A12 → A13 → Option D} {r : D} (h : gT14 e K = some r) : ∃ a0 a1 a2 a3 a4 a5 a6 a7 a8 a9 a10 a11 a12 a13, e = some (a0, a1, a2, a3, a4, a5, a6, a7, a8, a9, a10, a11, a12, a13) ∧ K a0 a1 a2 a3 a4 a5 a6 a7 a8 a9 a10 a11 a12 a13 = some r := by
  rcases e with _ | ⟨a0, a1, a2, a3, a4, a5, a6, a7, a8, a9, a10, a11, a12, a13⟩
  · cases h
  · exact ⟨a0, a1, a2, a3, a4, a5, a6, a7, a8, a9, a10, a11, a12, a13, rfl, h⟩
theorem gT14_s {A0 A1 A2 A3 A4 A5 A6 A7 A8 A9 A10 A11 A12 A13 D : Type} {a0 : A0} {a1 : A1} {a2 : A2} {a3 : A3} {a4 : A4} {a5 : A5} {a6 : A6} {a7 : A7} {a8 : A8} {a9 : A9} {a10 : A10} {a11 : A11} {a12 : A12} {a13 : A13} {K : A0 → A1 → A2 → A3 → A4 → A5 → A6 → A7 → A8 → A9 → A10 → A11 → A12 → A13 → Option D} : gT14 (some (a0, a1, a2, a3, a4, a5, a6, a7, a8, a9, a10, a11, a12, a13)) K = K a0 a1 a2 a3 a4 a5 a6 a7 a8 a9 a10 a11 a12 a13 := rfl
def gT15 {A0 A1 A2 A3 A4 A5 A6 A7 A8 A9 A10 A11 A12 A13 A14 D : Type} (e : Option (A0 × A1 × A2 × A3 × A4 × A5 × A6 × A7 × A8 × A9 × A10 × A11 × A12 × A13 × A14)) (K : A0 → A1 → A2 → A3 → A4 → A5 → A6 → A7 → A8 → A9 → A10 → A11 → A12 → A13 → A14 → Option D) : Option D := match e with | none => none | some (a0, a1, a2, a3, a4, a5, a6, a7, a8, a9, a10, a11, a12, a13, a14) => K a0 a1 a2 a3 a4 a5 a6 a7 a8 a9 a10 a11 a12 a13 a14
theorem gT15_i {A0 A1 A2 A3 A4 A5 A6 A7 A8 A9 A10 A11 A12 A13 A14 D : Type} {e : Option (A0 × A1 × A2 × A3 × A4 × A5 × A6 × A7 × A8 × A9 × A10 × A11 × A12 × A13 × A14)} {K : A0 → A1 → A2 → A3 → A4 → A5 → A6 → A7 → A8 → A9 → A10 → A11 → A12 → A13 → A14 → Option D} {r : D} (h : gT15 e K = some r) : ∃ a0 a1 a2 a3 a4 a5 a6 a7 a8 a9 a10 a11 a12 a13 a14, e = some (a0, a1, a2, a3, a4, a5, a6, a7, a8, a9, a10, a11, a12, a13, a14) ∧ K a0 a1 a2 a3 a4 a5 a6 a7 a8 a9 a10 a11 a12 a13 a14 = some r := by
  rcases e with _ | ⟨a0, a1, a2, a3, a4, a5, a6, a7, a8, a9, a10, a11, a12, a13, a14⟩
  · cases h
  · exact ⟨a0, a1, a2, a3, a4, a5, a6, a7, a8, a9, a10, a11, a12, a13, a14, rfl, h⟩
theorem gT15_s {A0 A1 A2 A3 A4 A5 A6 A7 A8 A9 A10 A11 A12 A13 A14 D : Type} {a0 : A0} {a1 : A1} {a2 : A2} {a3 : A3} {a4 : A4} {a5 : A5} {a6 : A6} {a7 : A7} {a8 : A8} {a9 : A9} {a10 : A10} {a11 : A11} {a12 : A12} {a13 : A13} {a14 : A14} {K : A0 → A1 → A2 → A3 → A4 → A5 → A6 → A7 → A8 → A9 → A10 → A11 → A12 → A13 → A14 → Option D} : gT15 (some (a0, a1, a2, a3, a4, a5, a6, a7, a8, a9, a10, a11, a12, a13, a14)) K = K a0 a1 a2 a3 a4 a5 a6 a7 a8 a9 a10 a11 a12 a13 a14 := rfl
def gT16 {A0 A1 A2 A3 A4 A5 A6 A7 A8 A9 A10 A11 A12 A13 A14 A15 D : Type} (e : Option (A0 × A1 × A2 × A3 × A4 × A5 × A6 × A7 × A8 × A9 × A10 × A11 × A12 × A13 × A14 × A15)) (K : A0 → A1 → A2 → A3 → A4 → A5 → A6 → A7 → A8 → A9 → A10 → A11 → A12 → A13 → A14 → A15 → Option D) : Option D := match e with | none => none | some (a0, a1, a2, a3, a4, a5, a6, a7, a8, a9, a10, a11, a12, a13, a14, a15) => K a0 a1 a2 a3 a4 a5 a6 a7 a8 a9 a10 a11 a12 a13 a14 a15
theorem gT16_i {A0 A1 A2 A3 A4 A5 A6 A7 A8 A9 A10 A11 A12 A13 A14 A15 D : Type} {e : Option (A0 × A1 × A2 × A3 × A4 × A5 × A6 × A7 × A8 × A9 × A10 × A11 × A12 × A13 × A14 × A15)} {K : A0 → A1 → A2 → A3 → A4 → A5 → A6 → A7 → A8 → A9 → A10 → A11 → A12 → A13 → A14 → A15 → Option D} {r : D} (h : gT16 e K = some r) : ∃ a0 a1 a2 a3 a4 a5 a6 a7 a8 a9 a10 a11 a12 a13 a14 a15, e = some (a0, a1, a2, a3, a4, a5, a6, a7, a8, a9, a10, a11, a12, a13, a14, a15) ∧ K a0 a1 a2 a3 a4 a5 a6 a7 a8 a9 a10 a11 a12 a13 a14 a15 = some r := by
  rcases e with _ | ⟨a0, a1, a2, a3, a4, a5, a6, a7, a8, a9, a10, a11, a12, a13, a14, a15⟩
  · cases h
  · exact ⟨a0, a1, a2, a3, a4, a5, a6, a7, a8, a9, a10, a11, a12, a13, a14, a15, rfl, h⟩
theorem gT16_s {A0 A1 A2 A3 A4 A5 A6 A7 A8 A9 A10 A11 A12 A13 A14 A15 D : Type} {a0 : A0} {a1 : A1} {a2 : A2} {a3 : A3} {a4 : A4} {a5 : A5} {a6 : A6} {a7 : A7} {a8 : A8} {a9 : A9} {a10 : A10} {a11 : A11} {a12 : A12} {a13 : A13} {a14 : A14} {a15 : A15} {K : A0 → A1 → A2 → A3 → A4 → A5 → A6 → A7 → A8 → A9 → A10 → A11 → A12 → A13 → A14 → A15 → Option D} : gT16 (some (a0, a1, a2, a3, a4, a5, a6, a7, a8, a9, a10, a11, a12, a13, a14, a15)) K = K a0 a1 a2 a3 a4 a5 a6 a7 a8 a9 a10 a11 a12 a13 a14 a15 := rfl
def gT17 {A0 A1 A2 A3 A4 A5 A6 A7 A8 A9 A10 A11 A12 A13 A14 A15 A16 D : Type} (e : Option (A0 × A1 × A2 × A3 × A4 × A5 × A6 × A7 × A8 × A9 × A10 × A11 × A12 × A13 × A14 × A15 × A16)) (K : A0 → A1 → A2 → A3 → A4 → A5 → A6 → A7 → A8 → A9 → A10 → A11 → A12 → A13 → A14 → A15 → A16 → Option D) : Option D := match e with | none => none | some (a0, a1, a2, a3, a4, a5, a6, a7, a8, a9, a10, a11, a12, a13, a14, a15, a16) => K a0 a1 a2 a3 a4 a5 a6 a7 a8 a9 a10 a11 a12 a13 a14 a15 a16
theorem gT17_i {A0 A1 A2 A3 A4 A5 A6 A7 A8 A9 A10 A11 A12 A13 A14 A15 A16 D : Type} {e : Option (A0 × A1 × A2 × A3 × A4 × A5 × A6 × A7 × A8 × A9 × A10 × A11 × A12 × A13 × A14 × A15 × A16)} {K : A0 → A1 → A2 → A3 → A4 → A5 → A6 → A7 → A8 → A9 → A10 → A11 → A12 → A13 → A14 → A15 → A16 → Option D} {r : D} (h : gT17 e K = some r) : ∃ a0 a1 a2 a3 a4 a5 a6 a7 a8 a9 a10 a11 a12 a13 a14 a15 a16, e = some (a0, a1, a2, a3, a4, a5, a6, a7, a8, a9, a10, a11, a12, a13, a14, a15, a16) ∧ K a0 a1 a2 a3 a4 a5 a6 a7 a8 a9 a10 a11 a12 a13 a14 a15 a16 = some r := by
  rcases e with _ | ⟨a0, a1, a2, a3, a4, a5, a6, a7, a8, a9, a10, a11, a12, a13, a14, a15, a16⟩
  · cases h
  · exact ⟨a0, a1, a2, a3, a4, a5, a6, a7, a8, a9, a10, a11, a12, a13, a14, a15, a16, rfl, h⟩
theorem gT17_s {A0 A1 A2 A3 A4 A5 A6 A7 A8 A9 A10 A11 A12 A13 A14 A15 A16 D : Type} {a0 : A0} {a1 : A1} {a2 : A2} {a3 : A3} {a4 : A4} {a5 : A5} {a6 : A6} {a7 : A7} {a8 : A8} {a9 : A9} {a10 : A10} {a11 : A11} {a12 : A12} {a13 : A13} {a14 : A14} {a15 : A15} {a16 : A16} {K : A0 → A1 → A2 → A3 → A4 → A5 → A6 → A7 → A8 → A9 → A10 → A11 → A12 → A13 → A14 → A15 → A16 → Option D} : gT17 (some (a0, a1, a2, a3, a4, a5, a6, a7, a8, a9, a10, a11, a12, a13, a14, a15, a16)) K = K a0 a1 a2 a3 a4 a5 a6 a7 a8 a9 a10 a11 a12 a13 a14 a15 a16 := rfl
/-- the reference's state, whole -/
abbrev gMS : Type := (Nat → Int32) × (Nat → Int32) × Int32 × (Nat → Int32) × Int32 × Int32 × Int32 × (Nat → Int32) × Int32 × Int32 × (Nat → Int32) × (Nat → Int32) × (Nat → Int32) × (Nat → Int32) × (Nat → Int32) × Int32 × Int32 × Int32 × Int32 × (Nat → Int32)
abbrev gMS.aM (M : gMS) : (Nat → Int32) := M.1
abbrev gMS.aS (M : gMS) : (Nat → Int32) := M.2.1
abbrev gMS.iU (M : gMS) : Int32 := M.2.2.1
abbrev gMS.aB (M : gMS) : (Nat → Int32) := M.2.2.2.1
abbrev gMS.iL (M : gMS) : Int32 := M.2.2.2.2.1
abbrev gMS.iE (M : gMS) : Int32 := M.2.2.2.2.2.1
abbrev gMS.iP (M : gMS) : Int32 := M.2.2.2.2.2.2.1
abbrev gMS.aR (M : gMS) : (Nat → Int32) := M.2.2.2.2.2.2.2.1
abbrev gMS.iW (M : gMS) : Int32 := M.2.2.2.2.2.2.2.2.1
abbrev gMS.iT (M : gMS) : Int32 := M.2.2.2.2.2.2.2.2.2.1
abbrev gMS.aT (M : gMS) : (Nat → Int32) := M.2.2.2.2.2.2.2.2.2.2.1
abbrev gMS.aC (M : gMS) : (Nat → Int32) := M.2.2.2.2.2.2.2.2.2.2.2.1
abbrev gMS.aH (M : gMS) : (Nat → Int32) := M.2.2.2.2.2.2.2.2.2.2.2.2.1
abbrev gMS.aE (M : gMS) : (Nat → Int32) := M.2.2.2.2.2.2.2.2.2.2.2.2.2.1
abbrev gMS.aQ (M : gMS) : (Nat → Int32) := M.2.2.2.2.2.2.2.2.2.2.2.2.2.2.1
abbrev gMS.iA (M : gMS) : Int32 := M.2.2.2.2.2.2.2.2.2.2.2.2.2.2.2.1
abbrev gMS.iY (M : gMS) : Int32 := M.2.2.2.2.2.2.2.2.2.2.2.2.2.2.2.2.1
abbrev gMS.iF (M : gMS) : Int32 := M.2.2.2.2.2.2.2.2.2.2.2.2.2.2.2.2.2.1
abbrev gMS.iV (M : gMS) : Int32 := M.2.2.2.2.2.2.2.2.2.2.2.2.2.2.2.2.2.2.1
abbrev gMS.aK (M : gMS) : (Nat → Int32) := M.2.2.2.2.2.2.2.2.2.2.2.2.2.2.2.2.2.2.2
abbrev gMS.H (M : gMS) (h : gH) (o : Nat) : gH := mH h o M.aM M.aS M.iU M.aB M.iL M.iE M.iP M.aR M.iW M.iT M.aT M.aC M.aH M.aE M.aQ M.iA M.iY M.iF M.iV M.aK
/-- .. read from the heap -/
noncomputable def mR (h : gH) (o : Nat) : Option gMS := @dite _ (∃ M : gMS, h = M.H h o) (Classical.propDecidable _) (fun hx => some (Classical.choose hx)) (fun _ => none)
theorem mR_i {h : gH} {o : Nat} {M : gMS} (e : mR h o = some M) : h = M.H h o := by
  unfold mR at e
  by_cases hx : ∃ M : gMS, h = M.H h o
  · rw [dif_pos hx] at e
    cases e
    exact Classical.choose_spec hx
  · rw [dif_neg hx] at e
    cases e
theorem mH_idem {h : gH} {o : Nat} (A B : gMS) : A.H (B.H h o) o = A.H h o := by
  funext q
  unfold gMS.H mH
  by_cases h0 : q = o
  · simp only [if_pos h0]
  simp only [if_neg h0]
  by_cases h1 : q = o + 1
  · simp only [if_pos h1]
  simp only [if_neg h1]
  by_cases h2 : q = o + 2
  · simp only [if_pos h2]
  simp only [if_neg h2]
  by_cases h3 : q = o + 3
  · simp only [if_pos h3]
  simp only [if_neg h3]
  by_cases h4 : q = o + 4
  · simp only [if_pos h4]
  simp only [if_neg h4]
  by_cases h5 : q = o + 5
  · simp only [if_pos h5]
  simp only [if_neg h5]
  by_cases h6 : q = o + 6
  · simp only [if_pos h6]
  simp only [if_neg h6]
  by_cases h7 : q = o + 7
  · simp only [if_pos h7]
  simp only [if_neg h7]
  by_cases h8 : q = o + 8
  · simp only [if_pos h8]
  simp only [if_neg h8]
  by_cases h9 : q = o + 9
  · simp only [if_pos h9]
  simp only [if_neg h9]
  by_cases h10 : q = o + 10
  · simp only [if_pos h10]
  simp only [if_neg h10]
theorem mH_inj {h h' : gH} {o : Nat} {A B : gMS} (e : A.H h o = B.H h' o) : A = B := by
  have e1 := congrFun e (o + 1)
  rw [gMS.H, gMS.H, mH_aaM, mH_aaM] at e1
  have e2 := congrFun e (o + 2)
  rw [gMS.H, gMS.H, mH_aaS, mH_aaS] at e2
  have e3 := congrFun e (o + 3)
  rw [gMS.H, gMS.H, mH_aaB, mH_aaB] at e3
  have e4 := congrFun e (o + 4)
  rw [gMS.H, gMS.H, mH_aaR, mH_aaR] at e4
  have e5 := congrFun e (o + 5)
  rw [gMS.H, gMS.H, mH_aaT, mH_aaT] at e5
  have e6 := congrFun e (o + 6)
  rw [gMS.H, gMS.H, mH_aaC, mH_aaC] at e6
  have e7 := congrFun e (o + 7)
  rw [gMS.H, gMS.H, mH_aaH, mH_aaH] at e7
  have e8 := congrFun e (o + 8)
  rw [gMS.H, gMS.H, mH_aaE, mH_aaE] at e8
  have e9 := congrFun e (o + 9)
  rw [gMS.H, gMS.H, mH_aaQ, mH_aaQ] at e9
  have e10 := congrFun e (o + 10)
  rw [gMS.H, gMS.H, mH_aaK, mH_aaK] at e10
  have e0 := congrFun e o
  rw [gMS.H, gMS.H, mH_0, mH_0] at e0
  obtain ⟨b1, b2, b3, b4, b5, b6, b7, b8, b9, b10, b11, b12, b13, b14, b15, b16, b17, b18, b19, b20⟩ := A
  obtain ⟨c1, c2, c3, c4, c5, c6, c7, c8, c9, c10, c11, c12, c13, c14, c15, c16, c17, c18, c19, c20⟩ := B
  simp only [Option.some.injEq, Sum.inl.injEq, Sum.inr.injEq, Prod.mk.injEq, true_and, and_true, List.cons.injEq, Value.int.injEq] at e0 e1 e2 e3 e4 e5 e6 e7 e8 e9 e10
  obtain ⟨a1, a2, a3, a4, a5, a6, a7, a8, a9, a10⟩ := e0
  subst e1 e2 e3 e4 e5 e6 e7 e8 e9 e10 a1 a2 a3 a4 a5 a6 a7 a8 a9 a10
  rfl
theorem mR_s {h : gH} {o : Nat} {M : gMS} : mR (M.H h o) o = some M := by
  have hx : ∃ N : gMS, M.H h o = N.H (M.H h o) o := ⟨M, (mH_idem M M).symm⟩
  unfold mR
  rw [dif_pos hx]
  have h1 := Classical.choose_spec hx
  rw [mH_idem] at h1
  rw [← mH_inj h1]
section GROW9
variable {p : Program} {l : Launch} {e : Env} {R : Room} {s : State} {m : MethodId} {args : Array Value} {below : List Frame} {meth : Method} {c : Code} {H : Heap} {locs : List Loc} {cells slots : Nat} {Q : State → Prop}
variable {x : gV} {base : Nat} {own : String} {cc : ByteArray} {nL : Nat} {ret : Option FieldType} {pc : Nat} {ls : Array Slot} {rest : List Value} {h : gH} {n : Nat} {H0 : Heap} {ρ : Type} {res : ρ} {a : Nat}
theorem gI.toM {o : Nat} {M : gMS} (hM : mR h o = some M) (hI : gI x base H0 h n H locs) : gI x base H0 (M.H h o) n H locs := by
  rw [← mR_i hM]; exact hI
theorem g_newL {b : Nat} (X : gXX x base own cc nL ret p l s m args meth c) (hI : gI x base s.heap h n H locs) (harr : (Cond.arrayClass (newarray.typeOf .long)) ∈ lw_all) (hcb : b * componentBytes (newarray.typeOf .long) ≤ 536870912) {k : Int32} (hcells : cells + 1 ≤ R.cells) (hslots : slots + b ≤ R.slots) {K : Nat → gH → Nat → Option ρ} (hr : gT3 (if ¬ k < 0 ∧ k.toNatClampNeg ≤ b then some (n, g_up h n (.inl (5, k.toNatClampNeg, .inr (.inl fun _ => 0))), n + 1) else none) K = some res) (hdg : decode cc pc = .ok (.newarray .long, 2))
    (kk : ∀ (q : Nat) (h1 : gH) (n1 : Nat) (H1 : Heap) (locs1 : List Loc), gI x base s.heap h1 n1 H1 locs1 → K q h1 n1 = some res → W p l e R s m args below meth c H1 locs1 (cells + 1) (slots + b) Q (F0 m (pc + 2) ls (.ref q :: rest))) : W p l e R s m args below meth c H locs cells slots Q (F0 m pc ls (.int k :: rest)) := by
  obtain ⟨q, h1, n1, g1, g2⟩ := gT3_i hr
  obtain ⟨⟨hk, hb⟩, g3⟩ := gIf_o g1
  cases g3
  have e2 := hI.1
  have hmul : k.toNatClampNeg * componentBytes (newarray.typeOf .long) ≤ b * componentBytes (newarray.typeOf .long) := Nat.mul_le_mul_right _ hb
  refine va_newaK (atype := .long) X.1 X.2.1 (X.w harr) (g := F0 m pc ls (.int k :: rest)) rfl hdg rfl hk rfl (Nat.le_trans hmul hcb) hcells (Nat.le_trans (Nat.add_le_add_left hb _) hslots) e2 fun H1 cA f1 z1 o1 hAr hNm => ?_
  refine W.widen (k := cells + 1) (n := slots + b) (Nat.le_refl _) (Nat.add_le_add_left hb _) ?_
  have hcA : x.2.1 5 = cA := Option.some.inj (((X.2.2.2.2.2.2.1.1.2 5 _ rfl).2).symm.trans hNm)
  refine kk n _ (n + 1) H1 locs (hI.new (e1 := .inl (5, k.toNatClampNeg, .inr (.inl fun _ => 0))) (by rw [e2]; exact z1) ?_ (by rw [e2]; exact o1)) g2
  rw [e2]
  show H1[n]? = some (vp_cell (x.2.1 5) (k.toNatClampNeg, .inr (.inl fun _ => 0)))
  rw [vp_cell_l, f1, hcA]
  rfl
theorem g_newD {b : Nat} (X : gXX x base own cc nL ret p l s m args meth c) (hI : gI x base s.heap h n H locs) (harr : (Cond.arrayClass (newarray.typeOf .double)) ∈ lw_all) (hcb : b * componentBytes (newarray.typeOf .double) ≤ 536870912) {k : Int32} (hcells : cells + 1 ≤ R.cells) (hslots : slots + b ≤ R.slots) {K : Nat → gH → Nat → Option ρ} (hr : gT3 (if ¬ k < 0 ∧ k.toNatClampNeg ≤ b then some (n, g_up h n (.inl (6, k.toNatClampNeg, .inr (.inr (.inr (.inl fun _ => 0))))), n + 1) else none) K = some res) (hdg : decode cc pc = .ok (.newarray .double, 2))
    (kk : ∀ (q : Nat) (h1 : gH) (n1 : Nat) (H1 : Heap) (locs1 : List Loc), gI x base s.heap h1 n1 H1 locs1 → K q h1 n1 = some res → W p l e R s m args below meth c H1 locs1 (cells + 1) (slots + b) Q (F0 m (pc + 2) ls (.ref q :: rest))) : W p l e R s m args below meth c H locs cells slots Q (F0 m pc ls (.int k :: rest)) := by
  obtain ⟨q, h1, n1, g1, g2⟩ := gT3_i hr
  obtain ⟨⟨hk, hb⟩, g3⟩ := gIf_o g1
  cases g3
  have e2 := hI.1
  have hmul : k.toNatClampNeg * componentBytes (newarray.typeOf .double) ≤ b * componentBytes (newarray.typeOf .double) := Nat.mul_le_mul_right _ hb
  refine va_newaK (atype := .double) X.1 X.2.1 (X.w harr) (g := F0 m pc ls (.int k :: rest)) rfl hdg rfl hk rfl (Nat.le_trans hmul hcb) hcells (Nat.le_trans (Nat.add_le_add_left hb _) hslots) e2 fun H1 cA f1 z1 o1 hAr hNm => ?_
  refine W.widen (k := cells + 1) (n := slots + b) (Nat.le_refl _) (Nat.add_le_add_left hb _) ?_
  have hcA : x.2.1 6 = cA := Option.some.inj (((X.2.2.2.2.2.2.1.1.2 6 _ rfl).2).symm.trans hNm)
  refine kk n _ (n + 1) H1 locs (hI.new (e1 := .inl (6, k.toNatClampNeg, .inr (.inr (.inr (.inl fun _ => 0))))) (by rw [e2]; exact z1) ?_ (by rw [e2]; exact o1)) g2
  rw [e2]
  show H1[n]? = some (vp_cell (x.2.1 6) (k.toNatClampNeg, .inr (.inr (.inr (.inl fun _ => 0)))))
  rw [vp_cell_d, f1, hcA]
  rfl
theorem g_sld {zb zL : Nat} {zx : Nat → Int32} (X : gXX x base own cc nL ret p l s m args meth c) (hI : gI x base s.heap h n H locs) (hsc : va_X zb zL zx s s.heap) (hsb : zb < s.heap.size) (hbs : base = s.heap.size) {i : Int32} {K : Int32 → Option ρ} (hr : Option.bind (g_ra zL zx i) K = some res) (hdg : decode cc pc = .ok (.iaload, 1)) (kk : ∀ v : Int32, K v = some res → W p l e R s m args below meth c H locs cells slots Q (F0 m (pc + 1) ls (.int v :: rest))) : W p l e R s m args below meth c H locs cells slots Q (F0 m pc ls (.int i :: .ref zb :: rest)) := by
  obtain ⟨hin, h2⟩ := g_ra_i hr
  exact va_sld X.1 X.2.1 hsc hsb (A := fun q => base ≤ q) (by rw [hbs]; exact Nat.not_le.mpr hsb) hI.2.2.2.1 hin hdg (kk _ h2)
theorem g_slen {zb zL : Nat} {zx : Nat → Int32} (X : gXX x base own cc nL ret p l s m args meth c) (hI : gI x base s.heap h n H locs) (hsc : va_X zb zL zx s s.heap) (hsb : zb < s.heap.size) (hbs : base = s.heap.size) (hdg : decode cc pc = .ok (.arraylength, 1)) (kk : W p l e R s m args below meth c H locs cells slots Q (F0 m (pc + 1) ls (.int (Int32.ofNat zL) :: rest))) : W p l e R s m args below meth c H locs cells slots Q (F0 m pc ls (.ref zb :: rest)) :=
  va_slen X.1 X.2.1 hsc hsb (A := fun q => base ≤ q) (by rw [hbs]; exact Nat.not_le.mpr hsb) hI.2.2.2.1 hdg kk
theorem g_lawret (X : gXX x base own cc nL (some .boolean) p l s m args meth c) (hI : gI x base s.heap h n H locs) (hbs : base = s.heap.size) (hc : cells ≤ 1200144) (hs : slots ≤ 5496442) (hdg : decode cc pc = .ok (.ireturn, 1)) : W p l e room_1 s m args below meth c H locs cells slots (lw_Z below args s) (F0 m pc ls [.int 1]) := by
  refine W.widen hc hs (va_forget (fun q hq => by rw [← hbs]; exact hI.2.2.2.1.2.2 q hq) ?_)
  have hx := X.1
  have hb := X.2.1
  have hr := X.2.2.2.1
  intro T hT X9
  obtain ⟨fs, hret, hrun, hended, hW, hframe⟩ := X9.leave (v := some (.int 1)) (hlocks := X.2.2.2.2.2.2.2.1) (fun h => by rw [hr] at h; cases h)
  have hmeth' : T.vm.method? m = some meth := X9.method'
  refine ⟨T.setFrames fs, ?_, .returned (some (.int 1)), hrun, hended, rfl, ⟨_, rfl⟩, hW, hframe⟩
  jvm_step X9.here [X9.here.top, hx, hb, hdg, hmeth', hr, narrow_b1]
  (try refine ⟨rfl, ?_⟩); (try refine ⟨rfl, ?_⟩)
  first | (intro acts; rw [hret _ acts rfl rfl rfl]) | rw [hret _ _ rfl rfl rfl]
  exact Steps.refl _
end GROW9
