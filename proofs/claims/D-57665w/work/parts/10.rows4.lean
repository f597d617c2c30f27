/-! the reference: one object and ten arrays behind it; rows of its fields and arrays; further small rows -/
def mO (o : Nat) (iU : Int32) (iL : Int32) (iE : Int32) (iP : Int32) (iW : Int32) (iT : Int32) (iA : Int32) (iY : Int32) (iF : Int32) (iV : Int32) : gE := .inr (4, [.ref (o + 1), .ref (o + 2), .int iU, .ref (o + 3), .int iL, .int iE, .int iP, .ref (o + 4), .int iW, .int iT, .ref (o + 5), .ref (o + 6), .ref (o + 7), .ref (o + 8), .ref (o + 9), .int iA, .int iY, .int iF, .int iV, .ref (o + 10)])
def mH (h : gH) (o : Nat) (aM : Nat → Int32) (aS : Nat → Int32) (iU : Int32) (aB : Nat → Int32) (iL : Int32) (iE : Int32) (iP : Int32) (aR : Nat → Int32) (iW : Int32) (iT : Int32) (aT : Nat → Int32) (aC : Nat → Int32) (aH : Nat → Int32) (aE : Nat → Int32) (aQ : Nat → Int32) (iA : Int32) (iY : Int32) (iF : Int32) (iV : Int32) (aK : Nat → Int32) : gH := fun q => if q = o then some (mO o iU iL iE iP iW iT iA iY iF iV) else if q = o + 1 then some (.inl (0, 2120, .inl aM)) else if q = o + 2 then some (.inl (2, 2, .inl aS)) else if q = o + 3 then some (.inl (0, 600, .inl aB)) else if q = o + 4 then some (.inl (0, 240, .inl aR)) else if q = o + 5 then some (.inl (0, 6, .inl aT)) else if q = o + 6 then some (.inl (0, 6, .inl aC)) else if q = o + 7 then some (.inl (2, 6, .inl aH)) else if q = o + 8 then some (.inl (0, 1600, .inl aE)) else if q = o + 9 then some (.inl (0, 6, .inl aQ)) else if q = o + 10 then some (.inl (0, 120, .inl aK)) else h q
theorem mH_0 {h : gH} {o : Nat} {aM : Nat → Int32} {aS : Nat → Int32} {iU : Int32} {aB : Nat → Int32} {iL : Int32} {iE : Int32} {iP : Int32} {aR : Nat → Int32} {iW : Int32} {iT : Int32} {aT : Nat → Int32} {aC : Nat → Int32} {aH : Nat → Int32} {aE : Nat → Int32} {aQ : Nat → Int32} {iA : Int32} {iY : Int32} {iF : Int32} {iV : Int32} {aK : Nat → Int32} : (mH h o aM aS iU aB iL iE iP aR iW iT aT aC aH aE aQ iA iY iF iV aK) o = some (.inr (4, [.ref (o + 1), .ref (o + 2), .int iU, .ref (o + 3), .int iL, .int iE, .int iP, .ref (o + 4), .int iW, .int iT, .ref (o + 5), .ref (o + 6), .ref (o + 7), .ref (o + 8), .ref (o + 9), .int iA, .int iY, .int iF, .int iV, .ref (o + 10)])) := by simp [mH, mO]
theorem mH_aaM {h : gH} {o : Nat} {aM : Nat → Int32} {aS : Nat → Int32} {iU : Int32} {aB : Nat → Int32} {iL : Int32} {iE : Int32} {iP : Int32} {aR : Nat → Int32} {iW : Int32} {iT : Int32} {aT : Nat → Int32} {aC : Nat → Int32} {aH : Nat → Int32} {aE : Nat → Int32} {aQ : Nat → Int32} {iA : Int32} {iY : Int32} {iF : Int32} {iV : Int32} {aK : Nat → Int32} : (mH h o aM aS iU aB iL iE iP aR iW iT aT aC aH aE aQ iA iY iF iV aK) (o + 1) = some (.inl (0, 2120, .inl aM)) := by simp [mH]
theorem mH_aaS {h : gH} {o : Nat} {aM : Nat → Int32} {aS : Nat → Int32} {iU : Int32} {aB : Nat → Int32} {iL : Int32} {iE : Int32} {iP : Int32} {aR : Nat → Int32} {iW : Int32} {iT : Int32} {aT : Nat → Int32} {aC : Nat → Int32} {aH : Nat → Int32} {aE : Nat → Int32} {aQ : Nat → Int32} {iA : Int32} {iY : Int32} {iF : Int32} {iV : Int32} {aK : Nat → Int32} : (mH h o aM aS iU aB iL iE iP aR iW iT aT aC aH aE aQ iA iY iF iV aK) (o + 2) = some (.inl (2, 2, .inl aS)) := by simp [mH]
theorem mH_aaB {h : gH} {o : Nat} {aM : Nat → Int32} {aS : Nat → Int32} {iU : Int32} {aB : Nat → Int32} {iL : Int32} {iE : Int32} {iP : Int32} {aR : Nat → Int32} {iW : Int32} {iT : Int32} {aT : Nat → Int32} {aC : Nat → Int32} {aH : Nat → Int32} {aE : Nat → Int32} {aQ : Nat → Int32} {iA : Int32} {iY : Int32} {iF : Int32} {iV : Int32} {aK : Nat → Int32} : (mH h o aM aS iU aB iL iE iP aR iW iT aT aC aH aE aQ iA iY iF iV aK) (o + 3) = some (.inl (0, 600, .inl aB)) := by simp [mH]
theorem mH_aaR {h : gH} {o : Nat} {aM : Nat → Int32} {aS : Nat → Int32} {iU : Int32} {aB : Nat → Int32} {iL : Int32} {iE : Int32} {iP : Int32} {aR : Nat → Int32} {iW : Int32} {iT : Int32} {aT : Nat → Int32} {aC : Nat → Int32} {aH : Nat → Int32} {aE : Nat → Int32} {aQ : Nat → Int32} {iA : Int32} {iY : Int32} {iF : Int32} {iV : Int32} {aK : Nat → Int32} : (mH h o aM aS iU aB iL iE iP aR iW iT aT aC aH aE aQ iA iY iF iV aK) (o + 4) = some (.inl (0, 240, .inl aR)) := by simp [mH]
theorem mH_aaT {h : gH} {o : Nat} {aM : Nat → Int32} {aS : Nat → Int32} {iU : Int32} {aB : Nat → Int32} {iL : Int32} {iE : Int32} {iP : Int32} {aR : Nat → Int32} {iW : Int32} {iT : Int32} {aT : Nat → Int32} {aC : Nat → Int32} {aH : Nat → Int32} {aE : Nat → Int32} {aQ : Nat → Int32} {iA : Int32} {iY : Int32} {iF : Int32} {iV : Int32} {aK : Nat → Int32} : (mH h o aM aS iU aB iL iE iP aR iW iT aT aC aH aE aQ iA iY iF iV aK) (o + 5) = some (.inl (0, 6, .inl aT)) := by simp [mH]
theorem mH_aaC {h : gH} {o : Nat} {aM : Nat → Int32} {aS : Nat → Int32} {iU : Int32} {aB : Nat → Int32} {iL : Int32} {iE : Int32} {iP : Int32} {aR : Nat → Int32} {iW : Int32} {iT : Int32} {aT : Nat → Int32} {aC : Nat → Int32} {aH : Nat → Int32} {aE : Nat → Int32} {aQ : Nat → Int32} {iA : Int32} {iY : Int32} {iF : Int32} {iV : Int32} {aK : Nat → Int32} : (mH h o aM aS iU aB iL iE iP aR iW iT aT aC aH aE aQ iA iY iF iV aK) (o + 6) = some (.inl (0, 6, .inl aC)) := by simp [mH]
theorem mH_aaH {h : gH} {o : Nat} {aM : Nat → Int32} {aS : Nat → Int32} {iU : Int32} {aB : Nat → Int32} {iL : Int32} {iE : Int32} {iP : Int32} {aR : Nat → Int32} {iW : Int32} {iT : Int32} {aT : Nat → Int32} {aC : Nat → Int32} {aH : Nat → Int32} {aE : Nat → Int32} {aQ : Nat → Int32} {iA : Int32} {iY : Int32} {iF : Int32} {iV : Int32} {aK : Nat → Int32} : (mH h o aM aS iU aB iL iE iP aR iW iT aT aC aH aE aQ iA iY iF iV aK) (o + 7) = some (.inl (2, 6, .inl aH)) := by simp [mH]
theorem mH_aaE {h : gH} {o : Nat} {aM : Nat → Int32} {aS : Nat → Int32} {iU : Int32} {aB : Nat → Int32} {iL : Int32} {iE : Int32} {iP : Int32} {aR : Nat → Int32} {iW : Int32} {iT : Int32} {aT : Nat → Int32} {aC : Nat → Int32} {aH : Nat → Int32} {aE : Nat → Int32} {aQ : Nat → Int32} {iA : Int32} {iY : Int32} {iF : Int32} {iV : Int32} {aK : Nat → Int32} : (mH h o aM aS iU aB iL iE iP aR iW iT aT aC aH aE aQ iA iY iF iV aK) (o + 8) = some (.inl (0, 1600, .inl aE)) := by simp [mH]
theorem mH_aaQ {h : gH} {o : Nat} {aM : Nat → Int32} {aS : Nat → Int32} {iU : Int32} {aB : Nat → Int32} {iL : Int32} {iE : Int32} {iP : Int32} {aR : Nat → Int32} {iW : Int32} {iT : Int32} {aT : Nat → Int32} {aC : Nat → Int32} {aH : Nat → Int32} {aE : Nat → Int32} {aQ : Nat → Int32} {iA : Int32} {iY : Int32} {iF : Int32} {iV : Int32} {aK : Nat → Int32} : (mH h o aM aS iU aB iL iE iP aR iW iT aT aC aH aE aQ iA iY iF iV aK) (o + 9) = some (.inl (0, 6, .inl aQ)) := by simp [mH]
theorem mH_aaK {h : gH} {o : Nat} {aM : Nat → Int32} {aS : Nat → Int32} {iU : Int32} {aB : Nat → Int32} {iL : Int32} {iE : Int32} {iP : Int32} {aR : Nat → Int32} {iW : Int32} {iT : Int32} {aT : Nat → Int32} {aC : Nat → Int32} {aH : Nat → Int32} {aE : Nat → Int32} {aQ : Nat → Int32} {iA : Int32} {iY : Int32} {iF : Int32} {iV : Int32} {aK : Nat → Int32} : (mH h o aM aS iU aB iL iE iP aR iW iT aT aC aH aE aQ iA iY iF iV aK) (o + 10) = some (.inl (0, 120, .inl aK)) := by simp [mH]
theorem mH_saM {h : gH} {o : Nat} {aM : Nat → Int32} {aS : Nat → Int32} {iU : Int32} {aB : Nat → Int32} {iL : Int32} {iE : Int32} {iP : Int32} {aR : Nat → Int32} {iW : Int32} {iT : Int32} {aT : Nat → Int32} {aC : Nat → Int32} {aH : Nat → Int32} {aE : Nat → Int32} {aQ : Nat → Int32} {iA : Int32} {iY : Int32} {iF : Int32} {iV : Int32} {aK : Nat → Int32} {f9 : Nat → Int32} : g_up (mH h o aM aS iU aB iL iE iP aR iW iT aT aC aH aE aQ iA iY iF iV aK) (o + 1) (.inl (0, 2120, .inl f9)) = (mH h o f9 aS iU aB iL iE iP aR iW iT aT aC aH aE aQ iA iY iF iV aK) := by
  funext q
  by_cases hq : q = o + 1
  · subst hq; rw [g_up_s, mH_aaM]
  · rw [g_up_n hq]; simp [mH, hq]
theorem mH_saS {h : gH} {o : Nat} {aM : Nat → Int32} {aS : Nat → Int32} {iU : Int32} {aB : Nat → Int32} {iL : Int32} {iE : Int32} {iP : Int32} {aR : Nat → Int32} {iW : Int32} {iT : Int32} {aT : Nat → Int32} {aC : Nat → Int32} {aH : Nat → Int32} {aE : Nat → Int32} {aQ : Nat → Int32} {iA : Int32} {iY : Int32} {iF : Int32} {iV : Int32} {aK : Nat → Int32} {f9 : Nat → Int32} : g_up (mH h o aM aS iU aB iL iE iP aR iW iT aT aC aH aE aQ iA iY iF iV aK) (o + 2) (.inl (2, 2, .inl f9)) = (mH h o aM f9 iU aB iL iE iP aR iW iT aT aC aH aE aQ iA iY iF iV aK) := by
  funext q
  by_cases hq : q = o + 2
  · subst hq; rw [g_up_s, mH_aaS]
  · rw [g_up_n hq]; simp [mH, hq]
theorem mH_saB {h : gH} {o : Nat} {aM : Nat → Int32} {aS : Nat → Int32} {iU : Int32} {aB : Nat → Int32} {iL : Int32} {iE : Int32} {iP : Int32} {aR : Nat → Int32} {iW : Int32} {iT : Int32} {aT : Nat → Int32} {aC : Nat → Int32} {aH : Nat → Int32} {aE : Nat → Int32} {aQ : Nat → Int32} {iA : Int32} {iY : Int32} {iF : Int32} {iV : Int32} {aK : Nat → Int32} {f9 : Nat → Int32} : g_up (mH h o aM aS iU aB iL iE iP aR iW iT aT aC aH aE aQ iA iY iF iV aK) (o + 3) (.inl (0, 600, .inl f9)) = (mH h o aM aS iU f9 iL iE iP aR iW iT aT aC aH aE aQ iA iY iF iV aK) := by
  funext q
  by_cases hq : q = o + 3
  · subst hq; rw [g_up_s, mH_aaB]
  · rw [g_up_n hq]; simp [mH, hq]
theorem mH_saR {h : gH} {o : Nat} {aM : Nat → Int32} {aS : Nat → Int32} {iU : Int32} {aB : Nat → Int32} {iL : Int32} {iE : Int32} {iP : Int32} {aR : Nat → Int32} {iW : Int32} {iT : Int32} {aT : Nat → Int32} {aC : Nat → Int32} {aH : Nat → Int32} {aE : Nat → Int32} {aQ : Nat → Int32} {iA : Int32} {iY : Int32} {iF : Int32} {iV : Int32} {aK : Nat → Int32} {f9 : Nat → Int32} : g_up (mH h o aM aS iU aB iL iE iP aR iW iT aT aC aH aE aQ iA iY iF iV aK) (o + 4) (.inl (0, 240, .inl f9)) = (mH h o aM aS iU aB iL iE iP f9 iW iT aT aC aH aE aQ iA iY iF iV aK) := by
  funext q
  by_cases hq : q = o + 4
  · subst hq; rw [g_up_s, mH_aaR]
  · rw [g_up_n hq]; simp [mH, hq]
theorem mH_saT {h : gH} {o : Nat} {aM : Nat → Int32} {aS : Nat → Int32} {iU : Int32} {aB : Nat → Int32} {iL : Int32} {iE : Int32} {iP : Int32} {aR : Nat → Int32} {iW : Int32} {iT : Int32} {aT : Nat → Int32} {aC : Nat → Int32} {aH : Nat → Int32} {aE : Nat → Int32} {aQ : Nat → Int32} {iA : Int32} {iY : Int32} {iF : Int32} {iV : Int32} {aK : Nat → Int32} {f9 : Nat → Int32} : g_up (mH h o aM aS iU aB iL iE iP aR iW iT aT aC aH aE aQ iA iY iF iV aK) (o + 5) (.inl (0, 6, .inl f9)) = (mH h o aM aS iU aB iL iE iP aR iW iT f9 aC aH aE aQ iA iY iF iV aK) := by
  funext q
  by_cases hq : q = o + 5
  · subst hq; rw [g_up_s, mH_aaT]
  · rw [g_up_n hq]; simp [mH, hq]
theorem mH_saC {h : gH} {o : Nat} {aM : Nat → Int32} {aS : Nat → Int32} {iU : Int32} {aB : Nat → Int32} {iL : Int32} {iE : Int32} {iP : Int32} {aR : Nat → Int32} {iW : Int32} {iT : Int32} {aT : Nat → Int32} {aC : Nat → Int32} {aH : Nat → Int32} {aE : Nat → Int32} {aQ : Nat → Int32} {iA : Int32} {iY : Int32} {iF : Int32} {iV : Int32} {aK : Nat → Int32} {f9 : Nat → Int32} : g_up (mH h o aM aS iU aB iL iE iP aR iW iT aT aC aH aE aQ iA iY iF iV aK) (o + 6) (.inl (0, 6, .inl f9)) = (mH h o aM aS iU aB iL iE iP aR iW iT aT f9 aH aE aQ iA iY iF iV aK) := by
  funext q
  by_cases hq : q = o + 6
  · subst hq; rw [g_up_s, mH_aaC]
  · rw [g_up_n hq]; simp [mH, hq]
theorem mH_saH {h : gH} {o : Nat} {aM : Nat → Int32} {aS : Nat → Int32} {iU : Int32} {aB : Nat → Int32} {iL : Int32} {iE : Int32} {iP : Int32} {aR : Nat → Int32} {iW : Int32} {iT : Int32} {aT : Nat → Int32} {aC : Nat → Int32} {aH : Nat → Int32} {aE : Nat → Int32} {aQ : Nat → Int32} {iA : Int32} {iY : Int32} {iF : Int32} {iV : Int32} {aK : Nat → Int32} {f9 : Nat → Int32} : g_up (mH h o aM aS iU aB iL iE iP aR iW iT aT aC aH aE aQ iA iY iF iV aK) (o + 7) (.inl (2, 6, .inl f9)) = (mH h o aM aS iU aB iL iE iP aR iW iT aT aC f9 aE aQ iA iY iF iV aK) := by
  funext q
  by_cases hq : q = o + 7
  · subst hq; rw [g_up_s, mH_aaH]
  · rw [g_up_n hq]; simp [mH, hq]
theorem mH_saE {h : gH} {o : Nat} {aM : Nat → Int32} {aS : Nat → Int32} {iU : Int32} {aB : Nat → Int32} {iL : Int32} {iE : Int32} {iP : Int32} {aR : Nat → Int32} {iW : Int32} {iT : Int32} {aT : Nat → Int32} {aC : Nat → Int32} {aH : Nat → Int32} {aE : Nat → Int32} {aQ : Nat → Int32} {iA : Int32} {iY : Int32} {iF : Int32} {iV : Int32} {aK : Nat → Int32} {f9 : Nat → Int32} : g_up (mH h o aM aS iU aB iL iE iP aR iW iT aT aC aH aE aQ iA iY iF iV aK) (o + 8) (.inl (0, 1600, .inl f9)) = (mH h o aM aS iU aB iL iE iP aR iW iT aT aC aH f9 aQ iA iY iF iV aK) := by
  funext q
  by_cases hq : q = o + 8
  · subst hq; rw [g_up_s, mH_aaE]
  · rw [g_up_n hq]; simp [mH, hq]
theorem mH_saQ {h : gH} {o : Nat} {aM : Nat → Int32} {aS : Nat → Int32} {iU : Int32} {aB : Nat → Int32} {iL : Int32} {iE : Int32} {iP : Int32} {aR : Nat → Int32} {iW : Int32} {iT : Int32} {aT : Nat → Int32} {aC : Nat → Int32} {aH : Nat → Int32} {aE : Nat → Int32} {aQ : Nat → Int32} {iA : Int32} {iY : Int32} {iF : Int32} {iV : Int32} {aK : Nat → Int32} {f9 : Nat → Int32} : g_up (mH h o aM aS iU aB iL iE iP aR iW iT aT aC aH aE aQ iA iY iF iV aK) (o + 9) (.inl (0, 6, .inl f9)) = (mH h o aM aS iU aB iL iE iP aR iW iT aT aC aH aE f9 iA iY iF iV aK) := by
  funext q
  by_cases hq : q = o + 9
  · subst hq; rw [g_up_s, mH_aaQ]
  · rw [g_up_n hq]; simp [mH, hq]
theorem mH_saK {h : gH} {o : Nat} {aM : Nat → Int32} {aS : Nat → Int32} {iU : Int32} {aB : Nat → Int32} {iL : Int32} {iE : Int32} {iP : Int32} {aR : Nat → Int32} {iW : Int32} {iT : Int32} {aT : Nat → Int32} {aC : Nat → Int32} {aH : Nat → Int32} {aE : Nat → Int32} {aQ : Nat → Int32} {iA : Int32} {iY : Int32} {iF : Int32} {iV : Int32} {aK : Nat → Int32} {f9 : Nat → Int32} : g_up (mH h o aM aS iU aB iL iE iP aR iW iT aT aC aH aE aQ iA iY iF iV aK) (o + 10) (.inl (0, 120, .inl f9)) = (mH h o aM aS iU aB iL iE iP aR iW iT aT aC aH aE aQ iA iY iF iV f9) := by
  funext q
  by_cases hq : q = o + 10
  · subst hq; rw [g_up_s, mH_aaK]
  · rw [g_up_n hq]; simp [mH, hq]
theorem mH_iU {h : gH} {o : Nat} {aM : Nat → Int32} {aS : Nat → Int32} {iU : Int32} {aB : Nat → Int32} {iL : Int32} {iE : Int32} {iP : Int32} {aR : Nat → Int32} {iW : Int32} {iT : Int32} {aT : Nat → Int32} {aC : Nat → Int32} {aH : Nat → Int32} {aE : Nat → Int32} {aQ : Nat → Int32} {iA : Int32} {iY : Int32} {iF : Int32} {iV : Int32} {aK : Nat → Int32} {x9 : Int32} : g_up (mH h o aM aS iU aB iL iE iP aR iW iT aT aC aH aE aQ iA iY iF iV aK) o (.inr (4, ([.ref (o + 1), .ref (o + 2), .int iU, .ref (o + 3), .int iL, .int iE, .int iP, .ref (o + 4), .int iW, .int iT, .ref (o + 5), .ref (o + 6), .ref (o + 7), .ref (o + 8), .ref (o + 9), .int iA, .int iY, .int iF, .int iV, .ref (o + 10)] : List Value).set 2 (.int x9))) = (mH h o aM aS x9 aB iL iE iP aR iW iT aT aC aH aE aQ iA iY iF iV aK) := by
  funext q
  by_cases hq : q = o
  · subst hq; rw [g_up_s, mH_0]; rfl
  · rw [g_up_n hq]; simp [mH, hq]
theorem mH_iL {h : gH} {o : Nat} {aM : Nat → Int32} {aS : Nat → Int32} {iU : Int32} {aB : Nat → Int32} {iL : Int32} {iE : Int32} {iP : Int32} {aR : Nat → Int32} {iW : Int32} {iT : Int32} {aT : Nat → Int32} {aC : Nat → Int32} {aH : Nat → Int32} {aE : Nat → Int32} {aQ : Nat → Int32} {iA : Int32} {iY : Int32} {iF : Int32} {iV : Int32} {aK : Nat → Int32} {x9 : Int32} : g_up (mH h o aM aS iU aB iL iE iP aR iW iT aT aC aH aE aQ iA iY iF iV aK) o (.inr (4, ([.ref (o + 1), .ref (o + 2), .int iU, .ref (o + 3), .int iL, .int iE, .int iP, .ref (o + 4), .int iW, .int iT, .ref (o + 5), .ref (o + 6), .ref (o + 7), .ref (o + 8), .ref (o + 9), .int iA, .int iY, .int iF, .int iV, .ref (o + 10)] : List Value).set 4 (.int x9))) = (mH h o aM aS iU aB x9 iE iP aR iW iT aT aC aH aE aQ iA iY iF iV aK) := by
  funext q
  by_cases hq : q = o
  · subst hq; rw [g_up_s, mH_0]; rfl
  · rw [g_up_n hq]; simp [mH, hq]
theorem mH_iE {h : gH} {o : Nat} {aM : Nat → Int32} {aS : Nat → Int32} {iU : Int32} {aB : Nat → Int32} {iL : Int32} {iE : Int32} {iP : Int32} {aR : Nat → Int32} {iW : Int32} {iT : Int32} {aT : Nat → Int32} {aC : Nat → Int32} {aH : Nat → Int32} {aE : Nat → Int32} {aQ : Nat → Int32} {iA : Int32} {iY : Int32} {iF : Int32} {iV : Int32} {aK : Nat → Int32} {x9 : Int32} : g_up (mH h o aM aS iU aB iL iE iP aR iW iT aT aC aH aE aQ iA iY iF iV aK) o (.inr (4, ([.ref (o + 1), .ref (o + 2), .int iU, .ref (o + 3), .int iL, .int iE, .int iP, .ref (o + 4), .int iW, .int iT, .ref (o + 5), .ref (o + 6), .ref (o + 7), .ref (o + 8), .ref (o + 9), .int iA, .int iY, .int iF, .int iV, .ref (o + 10)] : List Value).set 5 (.int x9))) = (mH h o aM aS iU aB iL x9 iP aR iW iT aT aC aH aE aQ iA iY iF iV aK) := by
  funext q
  by_cases hq : q = o
  · subst hq; rw [g_up_s, mH_0]; rfl
  · rw [g_up_n hq]; simp [mH, hq]
theorem mH_iP {h : gH} {o : Nat} {aM : Nat → Int32} {aS : Nat → Int32} {iU : Int32} {aB : Nat → Int32} {iL : Int32} {iE : Int32} {iP : Int32} {aR : Nat → Int32} {iW : Int32} {iT : Int32} {aT : Nat → Int32} {aC : Nat → Int32} {aH : Nat → Int32} {aE : Nat → Int32} {aQ : Nat → Int32} {iA : Int32} {iY : Int32} {iF : Int32} {iV : Int32} {aK : Nat → Int32} {x9 : Int32} : g_up (mH h o aM aS iU aB iL iE iP aR iW iT aT aC aH aE aQ iA iY iF iV aK) o (.inr (4, ([.ref (o + 1), .ref (o + 2), .int iU, .ref (o + 3), .int iL, .int iE, .int iP, .ref (o + 4), .int iW, .int iT, .ref (o + 5), .ref (o + 6), .ref (o + 7), .ref (o + 8), .ref (o + 9), .int iA, .int iY, .int iF, .int iV, .ref (o + 10)] : List Value).set 6 (.int x9))) = (mH h o aM aS iU aB iL iE x9 aR iW iT aT aC aH aE aQ iA iY iF iV aK) := by
  funext q
  by_cases hq : q = o
  · subst hq; rw [g_up_s, mH_0]; rfl
  · rw [g_up_n hq]; simp [mH, hq]
theorem mH_iW {h : gH} {o : Nat} {aM : Nat → Int32} {aS : Nat → Int32} {iU : Int32} {aB : Nat → Int32} {iL : Int32} {iE : Int32} {iP : Int32} {aR : Nat → Int32} {iW : Int32} {iT : Int32} {aT : Nat → Int32} {aC : Nat → Int32} {aH : Nat → Int32} {aE : Nat → Int32} {aQ : Nat → Int32} {iA : Int32} {iY : Int32} {iF : Int32} {iV : Int32} {aK : Nat → Int32} {x9 : Int32} : g_up (mH h o aM aS iU aB iL iE iP aR iW iT aT aC aH aE aQ iA iY iF iV aK) o (.inr (4, ([.ref (o + 1), .ref (o + 2), .int iU, .ref (o + 3), .int iL, .int iE, .int iP, .ref (o + 4), .int iW, .int iT, .ref (o + 5), .ref (o + 6), .ref (o + 7), .ref (o + 8), .ref (o + 9), .int iA, .int iY, .int iF, .int iV, .ref (o + 10)] : List Value).set 8 (.int x9))) = (mH h o aM aS iU aB iL iE iP aR x9 iT aT aC aH aE aQ iA iY iF iV aK) := by
  funext q
  by_cases hq : q = o
  · subst hq; rw [g_up_s, mH_0]; rfl
  · rw [g_up_n hq]; simp [mH, hq]
theorem mH_iT {h : gH} {o : Nat} {aM : Nat → Int32} {aS : Nat → Int32} {iU : Int32} {aB : Nat → Int32} {iL : Int32} {iE : Int32} {iP : Int32} {aR : Nat → Int32} {iW : Int32} {iT : Int32} {aT : Nat → Int32} {aC : Nat → Int32} {aH : Nat → Int32} {aE : Nat → Int32} {aQ : Nat → Int32} {iA : Int32} {iY : Int32} {iF : Int32} {iV : Int32} {aK : Nat → Int32} {x9 : Int32} : g_up (mH h o aM aS iU aB iL iE iP aR iW iT aT aC aH aE aQ iA iY iF iV aK) o (.inr (4, ([.ref (o + 1), .ref (o + 2), .int iU, .ref (o + 3), .int iL, .int iE, .int iP, .ref (o + 4), .int iW, .int iT, .ref (o + 5), .ref (o + 6), .ref (o + 7), .ref (o + 8), .ref (o + 9), .int iA, .int iY, .int iF, .int iV, .ref (o + 10)] : List Value).set 9 (.int x9))) = (mH h o aM aS iU aB iL iE iP aR iW x9 aT aC aH aE aQ iA iY iF iV aK) := by
  funext q
  by_cases hq : q = o
  · subst hq; rw [g_up_s, mH_0]; rfl
  · rw [g_up_n hq]; simp [mH, hq]
theorem mH_iA {h : gH} {o : Nat} {aM : Nat → Int32} {aS : Nat → Int32} {iU : Int32} {aB : Nat → Int32} {iL : Int32} {iE : Int32} {iP : Int32} {aR : Nat → Int32} {iW : Int32} {iT : Int32} {aT : Nat → Int32} {aC : Nat → Int32} {aH : Nat → Int32} {aE : Nat → Int32} {aQ : Nat → Int32} {iA : Int32} {iY : Int32} {iF : Int32} {iV : Int32} {aK : Nat → Int32} {x9 : Int32} : g_up (mH h o aM aS iU aB iL iE iP aR iW iT aT aC aH aE aQ iA iY iF iV aK) o (.inr (4, ([.ref (o + 1), .ref (o + 2), .int iU, .ref (o + 3), .int iL, .int iE, .int iP, .ref (o + 4), .int iW, .int iT, .ref (o + 5), .ref (o + 6), .ref (o + 7), .ref (o + 8), .ref (o + 9), .int iA, .int iY, .int iF, .int iV, .ref (o + 10)] : List Value).set 15 (.int x9))) = (mH h o aM aS iU aB iL iE iP aR iW iT aT aC aH aE aQ x9 iY iF iV aK) := by
  funext q
  by_cases hq : q = o
  · subst hq; rw [g_up_s, mH_0]; rfl
  · rw [g_up_n hq]; simp [mH, hq]
theorem mH_iY {h : gH} {o : Nat} {aM : Nat → Int32} {aS : Nat → Int32} {iU : Int32} {aB : Nat → Int32} {iL : Int32} {iE : Int32} {iP : Int32} {aR : Nat → Int32} {iW : Int32} {iT : Int32} {aT : Nat → Int32} {aC : Nat → Int32} {aH : Nat → Int32} {aE : Nat → Int32} {aQ : Nat → Int32} {iA : Int32} {iY : Int32} {iF : Int32} {iV : Int32} {aK : Nat → Int32} {x9 : Int32} : g_up (mH h o aM aS iU aB iL iE iP aR iW iT aT aC aH aE aQ iA iY iF iV aK) o (.inr (4, ([.ref (o + 1), .ref (o + 2), .int iU, .ref (o + 3), .int iL, .int iE, .int iP, .ref (o + 4), .int iW, .int iT, .ref (o + 5), .ref (o + 6), .ref (o + 7), .ref (o + 8), .ref (o + 9), .int iA, .int iY, .int iF, .int iV, .ref (o + 10)] : List Value).set 16 (.int x9))) = (mH h o aM aS iU aB iL iE iP aR iW iT aT aC aH aE aQ iA x9 iF iV aK) := by
  funext q
  by_cases hq : q = o
  · subst hq; rw [g_up_s, mH_0]; rfl
  · rw [g_up_n hq]; simp [mH, hq]
theorem mH_iF {h : gH} {o : Nat} {aM : Nat → Int32} {aS : Nat → Int32} {iU : Int32} {aB : Nat → Int32} {iL : Int32} {iE : Int32} {iP : Int32} {aR : Nat → Int32} {iW : Int32} {iT : Int32} {aT : Nat → Int32} {aC : Nat → Int32} {aH : Nat → Int32} {aE : Nat → Int32} {aQ : Nat → Int32} {iA : Int32} {iY : Int32} {iF : Int32} {iV : Int32} {aK : Nat → Int32} {x9 : Int32} : g_up (mH h o aM aS iU aB iL iE iP aR iW iT aT aC aH aE aQ iA iY iF iV aK) o (.inr (4, ([.ref (o + 1), .ref (o + 2), .int iU, .ref (o + 3), .int iL, .int iE, .int iP, .ref (o + 4), .int iW, .int iT, .ref (o + 5), .ref (o + 6), .ref (o + 7), .ref (o + 8), .ref (o + 9), .int iA, .int iY, .int iF, .int iV, .ref (o + 10)] : List Value).set 17 (.int x9))) = (mH h o aM aS iU aB iL iE iP aR iW iT aT aC aH aE aQ iA iY x9 iV aK) := by
  funext q
  by_cases hq : q = o
  · subst hq; rw [g_up_s, mH_0]; rfl
  · rw [g_up_n hq]; simp [mH, hq]
theorem mH_iV {h : gH} {o : Nat} {aM : Nat → Int32} {aS : Nat → Int32} {iU : Int32} {aB : Nat → Int32} {iL : Int32} {iE : Int32} {iP : Int32} {aR : Nat → Int32} {iW : Int32} {iT : Int32} {aT : Nat → Int32} {aC : Nat → Int32} {aH : Nat → Int32} {aE : Nat → Int32} {aQ : Nat → Int32} {iA : Int32} {iY : Int32} {iF : Int32} {iV : Int32} {aK : Nat → Int32} {x9 : Int32} : g_up (mH h o aM aS iU aB iL iE iP aR iW iT aT aC aH aE aQ iA iY iF iV aK) o (.inr (4, ([.ref (o + 1), .ref (o + 2), .int iU, .ref (o + 3), .int iL, .int iE, .int iP, .ref (o + 4), .int iW, .int iT, .ref (o + 5), .ref (o + 6), .ref (o + 7), .ref (o + 8), .ref (o + 9), .int iA, .int iY, .int iF, .int iV, .ref (o + 10)] : List Value).set 18 (.int x9))) = (mH h o aM aS iU aB iL iE iP aR iW iT aT aC aH aE aQ iA iY iF x9 aK) := by
  funext q
  by_cases hq : q = o
  · subst hq; rw [g_up_s, mH_0]; rfl
  · rw [g_up_n hq]; simp [mH, hq]
section MROW
variable {p : Program} {l : Launch} {e : Env} {R : Room} {s : State} {m : MethodId} {args : Array Value} {below : List Frame} {meth : Method} {c : Code} {H : Heap} {locs : List Loc} {cells slots : Nat} {Q : State → Prop}
variable {x : gV} {base : Nat} {own : String} {cc : ByteArray} {nL : Nat} {ret : Option FieldType} {pc : Nat} {ls : Array Slot} {rest : List Value} {h9 h8 : gH} {n : Nat} {ρ : Type} {res : ρ} {a : Nat}
theorem m_get {index : Nat} (X : gXX x base RX6 cc nL ret p l s m args meth c) (hI : gI x base s.heap h9 n H locs) {fs : List Value} (he : h9 a = some (.inr (4, fs))) (k : Nat) (hk : k < 20) (hlink : (Cond.fieldLink RX6 index RX6 (TX6 k).2.1 (TX6 k).2.2.1) ∈ lw_all) {v : Value} (hv : fs[k]? = some v) (hdg : decode cc pc = .ok (.getfield index, 3))
    (kk : W p l e R s m args below meth c H locs cells slots Q (F0 m (pc + 3) ls (v :: rest))) : W p l e R s m args below meth c H locs cells slots Q (F0 m pc ls (.ref a :: rest)) :=
  va_get (D := x.1) (C := RX6) (T := TX6) (N := 20) X.1 X.2.1 X.2.2.2.2.2.1 in_X6 X.2.2.2.2.1 X.2.2.2.2.2.2.1.1 (hI.2.1.obj he) 0 rfl rfl k hk (X.w hlink) (by intro z h; rcases (show k = 0 ∨ k = 1 ∨ k = 2 ∨ k = 3 ∨ k = 4 ∨ k = 5 ∨ k = 6 ∨ k = 7 ∨ k = 8 ∨ k = 9 ∨ k = 10 ∨ k = 11 ∨ k = 12 ∨ k = 13 ∨ k = 14 ∨ k = 15 ∨ k = 16 ∨ k = 17 ∨ k = 18 ∨ k = 19 by omega) with h1 | h1 | h1 | h1 | h1 | h1 | h1 | h1 | h1 | h1 | h1 | h1 | h1 | h1 | h1 | h1 | h1 | h1 | h1 | h1 <;> subst h1 <;> exact h) hv hdg kk
theorem m_put {index : Nat} (X : gXX x base RX6 cc nL ret p l s m args meth c) (hI : gI x base s.heap h9 n H locs) {fs : List Value} (he : h9 a = some (.inr (4, fs))) (k : Nat) (hk : k < 20) (hlink : (Cond.fieldLink RX6 index RX6 (TX6 k).2.1 (TX6 k).2.2.1) ∈ lw_all) (hfin : (TX6 k).2.2.2 = false) {v : Int32} (hd : parseFieldDescriptor (TX6 k).2.2.1 = some .int) (hl : k < fs.length) (hdc : (TX6 k).1 = RX6) (hh : g_up h9 a (.inr (4, fs.set k (.int v))) = h8) (hdg : decode cc pc = .ok (.putfield index, 3))
    (kk : ∀ (H1 : Heap) (locs1 : List Loc), gI x base s.heap h8 n H1 locs1 → W p l e R s m args below meth c H1 locs1 cells slots Q (F0 m (pc + 3) ls rest)) : W p l e R s m args below meth c H locs cells slots Q (F0 m pc ls (.int v :: .ref a :: rest)) := by
  refine g_put (C := RX6) (T := TX6) (N := 20) (ci := 4) (v := .int v) (ty := .int) (ref := RX6) X hI in_X6 tyX6 tyX6_ok nmX6 rfl k hk hlink (by rw [hdc]; exact fun z h => h) hfin hd rfl rfl (K := fun h1 => some h1) (res := h8) ?_ hdg (fun h1 H1 locs1 hI1 e1 => ?_)
  · simp only [g_pf, g_obj_s he, Option.bind_some, hl, if_true, hh]
  · cases e1
    exact kk H1 locs1 hI1
theorem m_iald (X : gXX x base own cc nL ret p l s m args meth c) (hI : gI x base s.heap h9 n H locs) {N : Nat} {f : Nat → Int32} (he : h9 a = some (.inl (0, N, .inl f))) {i : Int32} {K : Int32 → Option ρ} (hr : Option.bind (g_ra N f i) K = some res) (hdg : decode cc pc = .ok (.iaload, 1))
    (kk : ∀ v : Int32, K v = some res → W p l e R s m args below meth c H locs cells slots Q (F0 m (pc + 1) ls (.int v :: rest))) : W p l e R s m args below meth c H locs cells slots Q (F0 m pc ls (.int i :: .ref a :: rest)) := by
  obtain ⟨h1, h2⟩ := g_ra_i hr
  exact va_iald X.1 X.2.1 X.2.2.2.2.2.2.1.1 (hI.2.1.arr he) 0 0 rfl rfl h1 hdg (kk _ h2)
theorem m_zald (X : gXX x base own cc nL ret p l s m args meth c) (hI : gI x base s.heap h9 n H locs) {N : Nat} {f : Nat → Int32} (he : h9 a = some (.inl (2, N, .inl f))) {i : Int32} {K : Int32 → Option ρ} (hr : Option.bind (g_ra N f i) K = some res) (hdg : decode cc pc = .ok (.baload, 1))
    (kk : ∀ v : Int32, K v = some res → W p l e R s m args below meth c H locs cells slots Q (F0 m (pc + 1) ls (.int v :: rest))) : W p l e R s m args below meth c H locs cells slots Q (F0 m pc ls (.int i :: .ref a :: rest)) := by
  obtain ⟨h1, h2⟩ := g_ra_i hr
  exact va_zald X.1 X.2.1 X.2.2.2.2.2.2.1.1 (hI.2.1.arr he) 0 2 rfl rfl h1 hdg (kk _ h2)
theorem m_iast (X : gXX x base own cc nL ret p l s m args meth c) (hI : gI x base s.heap h9 n H locs) {N : Nat} {f : Nat → Int32} (he : h9 a = some (.inl (0, N, .inl f))) {g8 : (Nat → Int32) → gH} (hh : ∀ {f9 : Nat → Int32}, g_up h9 a (.inl (0, N, .inl f9)) = g8 f9) {i v : Int32} {K : (Nat → Int32) → Option ρ} (hr : Option.bind (g_wa N f i v) K = some res) (hdg : decode cc pc = .ok (.iastore, 1))
    (kk : ∀ (f1 : Nat → Int32) (H1 : Heap) (locs1 : List Loc), gI x base s.heap (g8 f1) n H1 locs1 → K f1 = some res → W p l e R s m args below meth c H1 locs1 cells slots Q (F0 m (pc + 1) ls rest)) : W p l e R s m args below meth c H locs cells slots Q (F0 m pc ls (.int v :: .int i :: .ref a :: rest)) := by
  obtain ⟨h1, h2⟩ := g_wa_i hr
  refine g_iast X hI (i := i) (v := v) (K := fun h1 => some h1) (res := g8 (upd f i.toNatClampNeg v)) ?_ hdg (fun h1 H1 locs1 hI1 e1 => ?_)
  · simp only [g_sI, g_arr_s he, Option.bind_some, g_xI, g_in_of h1, if_true, hh]
  · cases e1
    exact kk _ H1 locs1 hI1 h2
theorem m_zast (X : gXX x base own cc nL ret p l s m args meth c) (hI : gI x base s.heap h9 n H locs) {N : Nat} {f : Nat → Int32} (he : h9 a = some (.inl (2, N, .inl f))) {g8 : (Nat → Int32) → gH} (hh : ∀ {f9 : Nat → Int32}, g_up h9 a (.inl (2, N, .inl f9)) = g8 f9) {i v : Int32} {K : (Nat → Int32) → Option ρ} (hr : Option.bind (g_wa N f i (vp_nar .boolean v)) K = some res) (hdg : decode cc pc = .ok (.bastore, 1))
    (kk : ∀ (f1 : Nat → Int32) (H1 : Heap) (locs1 : List Loc), gI x base s.heap (g8 f1) n H1 locs1 → K f1 = some res → W p l e R s m args below meth c H1 locs1 cells slots Q (F0 m (pc + 1) ls rest)) : W p l e R s m args below meth c H locs cells slots Q (F0 m pc ls (.int v :: .int i :: .ref a :: rest)) := by
  obtain ⟨h1, h2⟩ := g_wa_i hr
  refine g_zast X hI (i := i) (v := v) (K := fun h1 => some h1) (res := g8 (upd f i.toNatClampNeg (vp_nar .boolean v))) ?_ hdg (fun h1 H1 locs1 hI1 e1 => ?_)
  · simp only [g_sI, g_arr_s he, Option.bind_some, g_xI, g_in_of h1, if_true, hh]
  · cases e1
    exact kk _ H1 locs1 hI1 h2
end MROW
theorem g_inc {x y : Int32} {n : Int} (h : Int32.ofInt n = y) : x + Int32.ofInt n = x + y := by rw [h]
theorem g_narZ {v : Int32} (h : v = 0 ∨ v = 1) : narrow .boolean (.int v) = .int v := by
  rcases h with rfl | rfl <;> decide
theorem g_fitZ {v : Int32} (h : v = 0 ∨ v = 1) : fits .boolean (.int v) = true := by
  rcases h with rfl | rfl <;> decide
def g_n32 (r : UInt32) : Bool := decide (r &&& 0x7fffffff ≤ 0x7f800000)
def g_n64 (r : UInt64) : Bool := decide (r &&& 0x7fffffffffffffff ≤ 0x7ff0000000000000)
theorem g_n32_i {r : UInt32} (h : g_n32 r = true) : vf_n32 r := of_decide_eq_true (p := (r &&& 0x7fffffff ≤ 0x7f800000)) h
theorem g_n64_i {r : UInt64} (h : g_n64 r = true) : vf_n64 r := of_decide_eq_true (p := (r &&& 0x7fffffffffffffff ≤ 0x7ff0000000000000)) h
def gO {D : Type} (r : Option Nat) (A : Option D) (B : Nat → Option D) : Option D := match r with | none => A | some a => B a
theorem gO_n {D : Type} {A : Option D} {B : Nat → Option D} {d : D} (h : gO none A B = some d) : A = some d := h
theorem gO_s {D : Type} {A : Option D} {B : Nat → Option D} {a : Nat} {d : D} (h : gO (some a) A B = some d) : B a = some d := h

