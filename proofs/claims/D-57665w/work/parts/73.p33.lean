/-! THE OUTPUT -/
theorem dv10 : ∀ r : Nat, r < 25 → iI r / (10 : Int32) = iI (r / 10 : Nat) ∧ iI r - iI r / (10 : Int32) * (10 : Int32) = iI (r % 10 : Nat) := by decide
theorem by127' : ∀ z : Nat, z < 128 → (iI z).toInt8.toInt32 = iI z := by decide +kernel
theorem by127 (z : Nat) (hz : z < 128) : vp_nar .byte ((iI z).toInt8.toInt32) = iI z := by
  show ((iI z).toInt8.toInt32).toInt8.toInt32 = iI z
  rw [by127' z hz, by127' z hz]
def DW (cd b : Nat) : Prop := b = cd ∨ b = cd + 11
section WR
variable {h : gH} {cd o n : Nat} {M M' : gMS} {st : Nat} {S S' : gS} {sa : Nat → Nat} {len hd : Nat} {hs : Nat → Nat} {HS : Nat → gS} {fv : Nat → Option Nat} {VS : Nat → gS} {h0 : gH} {n0 : Nat} {iL ec ep : Int32}
/-- since h0, only the class object and its output changed -/
def wrP (cd st : Nat) (iL ec ep : Int32) (h0 : gH) (n0 : Nat) (h : gH) (n W : Nat) (k : Nat → Int32) : Prop := gPas h0 n0 h n (DW cd) ∧ h cd = some (clO cd st iL ec ep (iI W)) ∧ h (cd + 11) = some (.inl (1, 240, .inl k))
theorem wr1 {W z : Nat} {k : Nat → Int32} (p : wrP cd st iL ec ep h0 n0 h n W k) (F0 : gFr h0 n0) (hc : cd + 11 < n0) (hW : W < 240) (hz : z < 128) : ∃ h', f_X1_write cd n (ar1 h n (iI z)) = some h' ∧ wrP cd st iL ec ep h0 n0 h' (n + 1) (W + 1) (upd k W (iI z)) := by
  obtain ⟨u, c1, c2⟩ := p
  have hn := u.1
  have u1 := ar1_p u.2.1 (iI z)
  have k1 := u1.c0 u.2.1 c1
  have k2 := u1.c0 u.2.1 c2
  have b1 : vp_nar .byte ((upd (fun _ => 0) 0 (iI (z : Int)) 0).toInt8.toInt32) = iI z := by127 z hz
  unfold f_X1_write
  refine ⟨g_up (g_up (ar1 h n (iI z)) cd (clO cd st iL ec ep (iI (W + 1 : Nat)))) (cd + 11) (.inl (1, 240, .inl (upd k W (iI z)))), ?_, ?_, ?_, g_up_s⟩
  · show f_X1_write_L2 cd n (gL2 (f_X1_write_L2 cd n) 99999) (iI 0) _ = _
    have e9 : ∀ H : gH, (∃ f, H n = some (.inl (0, 1, .inl f))) → gL2 (f_X1_write_L2 cd n) 99999 (iI (0 : Nat) + (1 : Int32)) H = some H := fun H ⟨f, hf⟩ => by
      show f_X1_write_L2 cd n (gL2 (f_X1_write_L2 cd n) 99998) (iI ((1 : Nat) : Int)) H = _
      unfold f_X1_write_L2
      rw [len_at hf, gB_s]
      exact if_pos (Int32.le_refl _)
    generalize gL2 (f_X1_write_L2 cd n) 99999 = r at e9 ⊢
    unfold f_X1_write_L2
    rw [len_at ar1_at, gB_s]
    show (if iI ((1 : Nat) : Int) ≤ iI 0 then _ else _) = _
    rw [if_neg (by rw [iI_le (by omega) (by omega) (by omega) (by omega)]; omega), fA_at k1 rfl, gB_s, fI_at k1 rfl, gB_s, pf_at k1 (by show _ < 10; decide), gB_s]
    have e1 : g_up (ar1 h n (iI z)) cd (.inr (3, [Value.ref (cd + 1), Value.int iL, Value.int ec, Value.int ep, Value.ref st, Value.ref (cd + 7), Value.ref (cd + 9), Value.ref (cd + 10), Value.ref (cd + 11), Value.int (iI W)].set 9 (.int (iI W + (1 : Int32))))) = g_up (ar1 h n (iI z)) cd (clO cd st iL ec ep (iI (W + 1 : Nat))) := by
      rw [iI_1, iI_add, Int.natCast_add]; rfl
    rw [e1]
    have e2 : g_up (ar1 h n (iI z)) cd (clO cd st iL ec ep (iI (W + 1 : Nat))) n = some (.inl (0, 1, .inl (upd (fun _ => 0) 0 (iI z)))) := by
      rw [g_up_n (by omega)]; exact ar1_at
    have e3 : g_up (ar1 h n (iI z)) cd (clO cd st iL ec ep (iI (W + 1 : Nat))) (cd + 11) = some (.inl (1, 240, .inl k)) := by
      rw [g_up_n (by omega)]; exact k2
    rw [aI_at (a := 0) (j := 0) e2 rfl (by decide) (by decide) rfl, gB_s, b1, sI_at (j := W) e3 rfl hW (by decide), gB_s]
    exact e9 _ ⟨_, by rw [g_up_n (by omega)]; exact e2⟩
  · refine u.tr' (u1.no.tr' ⟨Nat.le_refl _, fun b hb => ?_, fun b hb hD => ?_⟩)
    · rw [g_up_n (by omega), g_up_n (by omega)]; exact u1.2.1 b hb
    · rw [g_up_n (fun z => hD (.inr z)), g_up_n (fun z => hD (.inl z))]
  · rw [g_up_n (by omega), g_up_s]
theorem mPut {W z : Nat} {aR : Nat → Int32} (hW : W < 240) : f_X6_put (iI z) aR (iI W) = some (upd aR W (iI z), iI (W + 1 : Nat)) := by
  unfold f_X6_put
  rw [wa_at (j := W) rfl hW (by decide), gB_s, iI_1, iI_add, Int.natCast_add]
  rfl
def eqW (k aR : Nat → Int32) (W : Nat) : Prop := ∀ i, i < W → k i = aR i
theorem eqW.sn {k aR : Nat → Int32} {W : Nat} {x : Int32} (e : eqW k aR W) : eqW (upd k W x) (upd aR W x) (W + 1) := fun i hi => by
  unfold upd
  by_cases q : i = W
  · rw [if_pos q, if_pos q]
  · rw [if_neg q, if_neg q]; exact e i (by omega)
/-- a byte put, then on -/
theorem wr_e {α : Type} {W z : Nat} {k : Nat → Int32} {x : Int32} (hx : x = iI z) (p : wrP cd st iL ec ep h0 n0 h n W k) (F0 : gFr h0 n0) (hc : cd + 11 < n0) (hW : W < 240) (hz : z < 128) : ∃ h', wrP cd st iL ec ep h0 n0 h' (n + 1) (W + 1) (upd k W (iI z)) ∧ ∀ K : gH → Nat → Option α, (gT3 (g_nI h n 0 1 (1 : Int32)) fun q37 h38 n39 => (Option.bind (g_sI h38 q37 0 (0 : Int32) x) fun h40 => (Option.bind (g_obj h40 cd 3) fun _ => (Option.bind (f_X1_write cd q37 h40) fun h43 => K h43 n39)))) = K h' (n + 1) := by
  subst hx
  obtain ⟨h', e1, e2⟩ := wr1 p F0 hc hW hz
  refine ⟨h', e2, fun K => ?_⟩
  have u1 := ar1_p p.1.2.1 (iI z)
  have k1 := u1.c0 p.1.2.1 p.2.1
  rw [ar1_e, g_obj_s k1, gB_s, e1, gB_s]
theorem wrN_loop {m : Nat → Int32} {s na : Nat} {nm : List Int} (F0 : gFr h0 n0) (hc : cd + 11 < n0) {g : Nat → Int32} (hna : h0 na = some (.inl (1, nm.length, .inl g))) (hg : ∀ i, i < nm.length → g i = iI (nm.getD i 0)) (hnc : na ≠ cd ∧ na ≠ cd + 11) (hl : nm.length ≤ 6) (hr : ∀ i, i < nm.length → 97 ≤ nm.getD i 0 ∧ nm.getD i 0 ≤ 122) (hs : s ≤ 5) (b1 : m (26 + 31 * s) = iI (nm.length : Int)) (b2 : ∀ i, i < nm.length → m (26 + 31 * s + 1 + i) = iI (nm.getD i 0)) : ∀ (d i k j : Nat) (h : gH) (n W : Nat) (kk aR : Nat → Int32), i + d = nm.length → d < k → d < j → wrP cd st iL ec ep h0 n0 h n W kk → eqW kk aR W → W + d ≤ 240 → ∃ h' n' kk' aR', gL3 (f_X1_writeRun_L92 cd na) k (iI i) h n = some (h', n') ∧ gL3 (f_X6_putRun_L64 ((26 : Int32) + (iI s * (31 : Int32))) m) j (iI i) aR (iI W) = some (aR', iI (W + d : Nat)) ∧ wrP cd st iL ec ep h0 n0 h' n' (W + d) kk' ∧ eqW kk' aR' (W + d) := by
  intro d
  induction d with
  | zero =>
    intro i k j h n W kk aR e hk hk2 p eq hW
    obtain ⟨k, rfl⟩ : ∃ k', k = k' + 1 := ⟨k - 1, by omega⟩
    obtain ⟨j, rfl⟩ : ∃ k', j = k' + 1 := ⟨j - 1, by omega⟩
    have e1 : i = nm.length := by omega
    subst e1
    have k1 := p.1.ce F0 hna (fun z => z.elim hnc.1 hnc.2)
    refine ⟨h, n, kk, aR, ?_, ?_, p, eq⟩
    · show f_X1_writeRun_L92 cd na (gL3 (f_X1_writeRun_L92 cd na) k) _ _ _ = _
      unfold f_X1_writeRun_L92
      rw [len_at k1, gB_s]
      exact if_pos (Int32.le_refl _)
    · show f_X6_putRun_L64 _ m (gL3 (f_X6_putRun_L64 _ m) j) _ _ _ = _
      unfold f_X6_putRun_L64
      rw [iI_26, iI_31, iI_mul, iI_add, ra_at (j := 26 + 31 * s) (by omega) (by omega) (by decide) b1, gB_s]
      exact if_pos (Int32.le_refl _)
  | succ d ih =>
    intro i k j h n W kk aR e hk hk2 p eq hW
    obtain ⟨k, rfl⟩ : ∃ k', k = k' + 1 := ⟨k - 1, by omega⟩
    obtain ⟨j, rfl⟩ : ∃ k', j = k' + 1 := ⟨j - 1, by omega⟩
    have hi : i < nm.length := by omega
    have k1 := p.1.ce F0 hna (fun z => z.elim hnc.1 hnc.2)
    have hb := hr i hi
    obtain ⟨z, hz⟩ : ∃ z : Nat, nm.getD i 0 = (z : Int) := ⟨(nm.getD i 0).toNat, by omega⟩
    obtain ⟨h1, e1, p1⟩ := wr1 (z := z) p F0 hc (by omega) (by omega)
    obtain ⟨h', n', kk', aR', e2, e3, p2, eq2⟩ := ih (i + 1) k j h1 (n + 1) (W + 1) _ _ (by omega) (by omega) (by omega) p1 (eq.sn (x := iI z)) (by omega)
    have hW2 : W + 1 + d = W + (d + 1) := by omega
    rw [hW2] at e3 p2 eq2
    have u1 := gPas.new (D := noD) (e := .inl (0, 1, .inl fun _ => 0)) p.1.2.1
    have u2 := ar1_p p.1.2.1 (iI z)
    have k2 := u1.c0 p.1.2.1 k1
    have k3 := u2.c0 p.1.2.1 p.2.1
    have e1' : f_X1_write cd n (g_up (g_up h n (.inl (0, 1, .inl fun _ => 0))) n (.inl (0, 1, .inl (upd (fun _ => 0) 0 (iI z))))) = some h1 := e1
    have k3' : g_up (g_up h n (.inl (0, 1, .inl fun _ => 0))) n (.inl (0, 1, .inl (upd (fun _ => 0) 0 (iI z)))) cd = some (clO cd st iL ec ep (iI W)) := k3
    refine ⟨h', n', kk', aR', ?_, ?_, p2, eq2⟩
    · show f_X1_writeRun_L92 cd na (gL3 (f_X1_writeRun_L92 cd na) k) _ _ _ = _
      generalize gL3 (f_X1_writeRun_L92 cd na) k = r at e2 ⊢
      unfold f_X1_writeRun_L92
      rw [Int.natCast_add, Int.natCast_one] at e2
      rw [len_at k1, gB_s]
      show (if iI (nm.length : Int) ≤ iI (i : Int) then _ else _) = _
      rw [if_neg (by rw [iI_le (by omega) (by omega) (by omega) (by omega)]; omega), iI_1, nI_at (by decide) (by decide) (by decide), gT3_s]
      show Option.bind (g_aI (g_up h n (.inl (0, 1, .inl fun _ => 0))) na 1 (iI i)) _ = _
      rw [aI_at (j := i) k2 rfl hi (by omega) (hg i hi), gB_s, hz, show (0 : Int32) = iI 0 from rfl, sI_at (a := 0) (j := 0) g_up_s rfl (by decide) (by decide), gB_s]
      show Option.bind (g_obj (g_up (g_up h n (.inl (0, 1, .inl fun _ => 0))) n (.inl (0, 1, .inl (upd (fun _ => 0) 0 (iI z))))) cd 3) _ = _
      rw [g_obj_s k3', gB_s]
      show Option.bind (f_X1_write cd n (g_up (g_up h n (.inl (0, 1, .inl fun _ => 0))) n (.inl (0, 1, .inl (upd (fun _ => 0) 0 (iI z)))))) _ = _
      rw [e1', gB_s, iI_add]
      exact e2
    · show f_X6_putRun_L64 _ m (gL3 (f_X6_putRun_L64 _ m) j) _ _ _ = _
      generalize gL3 (f_X6_putRun_L64 ((26 : Int32) + (iI s * (31 : Int32))) m) j = r at e3 ⊢
      unfold f_X6_putRun_L64
      rw [Int.natCast_add, Int.natCast_one] at e3
      rw [iI_26, iI_31, iI_mul, iI_add, ra_at (j := 26 + 31 * s) (by omega) (by omega) (by decide) b1, gB_s, if_neg (by rw [iI_le (by omega) (by omega) (by omega) (by omega)]; omega), iI_1, iI_add, iI_add, ra_at (j := 26 + 31 * s + 1 + i) (by omega) (by omega) (by decide) (b2 i hi), gB_s, hz, mPut (by omega), gT2_s, iI_add]
      exact e3
end WR
