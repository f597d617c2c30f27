/-! the claim's start, out of the law's walk and law_ok -/
theorem whole_start {p : Program} {e : Env} {s : State} {m : MethodId} {below : List Frame} {meth : Method} {c : Code} (l : Launch) (hflags : l.flags = flags0) {b L : Nat} {xs : Nat → Int32} (hL : L ≤ 144) (C0 : lw_At p s m meth c b L xs) : W p l e room_1 s m #[Value.ref b] below meth c s.heap [] 0 0 (lw_Z below #[Value.ref b] s) (entryFrame m ([Value.ref b] : List Value).toArray 10) := by
  obtain ⟨x, hG, hdist⟩ := g_start C0
  obtain ⟨hx, hb, hr, hml, hown, hts, hX, hbl, hlocks, hgv⟩ := C0
  have hst : l.stackTraces = false := by unfold Launch.stackTraces; rw [hflags]; decide +kernel
  have X : gXX x s.heap.size RX0 cL_law 10 (some .boolean) p l s m #[Value.ref b] meth c := ⟨hx, hb, hml, hr, hown, fun w h => hts w (lw_all_tbl h), hG, hlocks, Nat.le_refl _⟩
  have hl := lv_entry [.ref b] (show (lg_sl [.ref b]).length ≤ 10 from Nat.le_of_ble_eq_true rfl)
  rw [lg_entry_eq]
  refine w_L_law (zb := b) (zL := L) (zx := xs) (h := fun _ => none) (n := s.heap.size) X hst hX hbl rfl (law_ok x hdist L xs hL s.heap.size) ⟨rfl, ?_, ?_, va_S.rf, Nat.le_refl _⟩ hl
  · intro a e h
    cases h
  · intro a e h
    cases h
