/-! String constants: length and charAt -/
def g_sIx (x : gV) (a : Nat) : Option Nat := (List.range g_tN).find? (fun i => decide (x.2.2.1 i = a))
def f_J9_length (x : gV) (a : Nat) : Option Int32 := Option.bind (g_sIx x a) fun i => some (nI (g_tL.getD i 0))
def f_J9_charAt (x : gV) (a : Nat) (j : Int32) : Option Int32 := Option.bind (g_sIx x a) fun i => if g_in j (g_tL.getD i 0) = true then some ((g_tB.getD i []).getD j.toNatClampNeg 0) else none
section GSTR
variable {p : Program} {l : Launch} {e : Env} {R : Room} {s : State} {m : MethodId} {args : Array Value} {below : List Frame} {meth : Method} {c : Code} {H : Heap} {locs : List Loc} {cells slots : Nat} {Q : State → Prop}
variable {x : gV} {base : Nat} {own : String} {cc : ByteArray} {nL : Nat} {ret : Option FieldType} {pc : Nat} {ls : Array Slot} {rest : List Value} {h : gH} {n : Nat} {H0 : Heap} {ρ : Type} {res : ρ} {a : Nat}
theorem g_ldc {index i : Nat} {tx : String} (X : gXX x base own cc nL ret p l s m args meth c) (hz : (own, index, tx, i) ∈ g_str) (hdg : decode cc pc = .ok (.ldc index, 2)) (kk : W p l e R s m args below meth c H locs cells slots Q (F0 m (pc + 2) ls (.ref (x.2.2.1 i) :: rest))) : W p l e R s m args below meth c H locs cells slots Q (F0 m pc ls rest) :=
  va_ldcS X.1 X.2.1 X.2.2.2.2.1 (X.2.2.2.2.2.2.1.2.2.2.2.2.2.1 _ hz) hdg kk
theorem g_anyT {i : Nat} (X : gXX x base own cc nL ret p l s m args meth c) (hI : gI x base s.heap h n H locs) (hi : i < g_tN) : va_Any "java/lang/String" s H (x.2.2.1 i) := by
  obtain ⟨cell, h1, h2, h3⟩ := vk_recv X.2.2.2.2.2.2.1.2.2.2.2.2.2.2.1 hi hI.2.2.2.1
  obtain ⟨kC, hkC, -⟩ := Vm.findClass_spec h3
  refine ⟨cell, h1, h2, ⟨kC, hkC⟩, fun comp hcomp => ?_⟩
  have e1 := Option.some.inj (h3.symm.trans hcomp)
  rw [← e1]
  exact va_asg _ _
end GSTR
