/-! THE SETUP: the class's parser, 2 -/
section CP2
variable {B : Nat → Int} {L : Nat} {f g : Nat → Int32} {x : gV} {q cd st : Nat} {ec ep wr : Int32}
theorem cVal (hB : byR f g B L) (hL : L ≤ 600) {r25 : gH → Nat → Option ((Nat ⊕ gX) × gH × Nat)} {z nm va c : Nat} (hc : c ≤ 24) : ∀ (d k fu : Nat) (h : gH) (n : Nat) (t : gTk) (fs : Nat → Int) (V : Nat → Int32), k + d = c → d < fu → gFr h n → scP B h q cd st ec ep wr f L t → tkG B L t → h va = some (.inl (0, c, .inl V)) → va ≠ q → va ≠ cd → va ≠ cd + 1 → (∀ i, i < k → V i = iI (fs i)) → match pVal B L d k t fs with
    | .inl (e, p) => ∃ h1, (∀ b, b ≠ q → b ≠ va → h1 b = h b) ∧ gTE (gL3 (f_X1_parseSetup_L72 x r25 q z nm va) fu (iI k) h n) e p h1 n q ∧ gFr h1 n
    | .inr (t', f') => ∃ h' V', gL3 (f_X1_parseSetup_L72 x r25 q z nm va) fu (iI k) h n = f_X1_parseSetup_J98 x r25 q z nm va h' n ∧ scP B h' q cd st ec ep wr f L t' ∧ h' va = some (.inl (0, c, .inl V')) ∧ (∀ i, i < c → V' i = iI (f' i)) ∧ ∀ b, b ≠ q → b ≠ va → h' b = h b := by
  intro d
  induction d with
  | zero =>
    intro k fu h n t fs V e hfu F w ht hv _ _ _ hV
    obtain ⟨fu, rfl⟩ : ∃ k', fu = k' + 1 := ⟨fu - 1, by omega⟩
    refine ⟨h, V, ?_, w, hv, fun i hi => hV i (by omega), fun _ _ _ => rfl⟩
    show f_X1_parseSetup_L72 x r25 q z nm va (gL3 (f_X1_parseSetup_L72 x r25 q z nm va) fu) _ _ _ = _
    unfold f_X1_parseSetup_L72
    rw [len_at hv, gB_s, if_pos (by rw [iI_le (by omega) (by omega) (by omega) (by omega)]; show ((c : Nat) : Int) ≤ _; omega)]
  | succ d ih =>
    intro k fu h n t fs V e hfu F w ht hv v1 v2 v3 hV
    obtain ⟨fu, rfl⟩ : ∃ k', fu = k' + 1 := ⟨fu - 1, by omega⟩
    obtain ⟨gs, o⟩ := w.ob
    have hqn : q < n := by
      obtain ⟨-, v, e, -⟩ := w
      exact F.lt e
    have hvn := F.lt hv
    have hnum := cNum w F hB hL ht (lo := 0) (hi := 9) (by omega) (by omega)
    simp only [pVal]
    cases hp : pNum B L t 0 9 with
    | inl er =>
      obtain ⟨ec', p⟩ := er
      rw [hp] at hnum
      have hnum' : gTE (f_X3_expectNumber q (0 : Int32) (9 : Int32) h n) ec' p h n q := hnum
      refine ⟨h, fun _ _ _ => rfl, ?_, F⟩
      show gTE (f_X1_parseSetup_L72 x r25 q z nm va (gL3 (f_X1_parseSetup_L72 x r25 q z nm va) fu) _ _ _) _ _ _ _ _
      unfold f_X1_parseSetup_L72
      rw [len_at hv, gB_s, if_neg (by rw [iI_le (by omega) (by omega) (by omega) (by omega)]; show ¬ ((c : Nat) : Int) ≤ _; omega), o, gB_s]
      exact hnum'.X
    | inr rr =>
      obtain ⟨v, t2⟩ := rr
      rw [hp] at hnum
      obtain ⟨h1, x1, x2, x3⟩ := hnum
      obtain ⟨b1, b2, b3, b4, b5⟩ := pNum_ok hp
      have x1' : f_X3_expectNumber q (0 : Int32) (9 : Int32) h n = some (.inl (iI v), h1, n) := x1
      have hv1 : h1 va = some (.inl (0, c, .inl V)) := by rw [x3 va v1]; exact hv
      have F1 : gFr h1 n := (upP F hqn x3).2.1
      generalize eh2 : g_up h1 va (.inl (0, c, .inl (upd V k (iI v)))) = h2
      have hv2 : h2 va = some (.inl (0, c, .inl (upd V k (iI v)))) := by rw [← eh2, g_up_s]
      have o2 : ∀ b, b ≠ va → h2 b = h1 b := fun b hb => by rw [← eh2, g_up_n hb]
      have F2 : gFr h2 n := fun b hb => by rw [o2 b (by omega)]; exact F1 b hb
      have w2 : scP B h2 q cd st ec ep wr f L t2 := x2.mono fun b e hb he => by
        rw [o2 b (by rcases hb with y | y | y <;> rw [y] <;> intro z <;> first | exact v1 z.symm | exact v2 z.symm | exact v3 z.symm)]
        exact he
      have ih := ih (k + 1) fu h2 n t2 (fun j => if j = k then v else fs j) (upd V k (iI v)) (by omega) (by omega) F2 w2 (by rw [b5]; exact tkG_z ht.2.1) hv2 v1 v2 v3 (fun i hi => by
        unfold upd
        by_cases y : i = k
        · subst y; rw [if_pos rfl, if_pos rfl]
        · rw [if_neg y, if_neg y]; exact hV i (by omega))
      have step : gL3 (f_X1_parseSetup_L72 x r25 q z nm va) (fu + 1) (iI k) h n = gL3 (f_X1_parseSetup_L72 x r25 q z nm va) fu (iI (k + 1 : Nat)) h2 n := by
        show f_X1_parseSetup_L72 x r25 q z nm va (gL3 (f_X1_parseSetup_L72 x r25 q z nm va) fu) _ _ _ = _
        generalize gL3 (f_X1_parseSetup_L72 x r25 q z nm va) fu = r
        unfold f_X1_parseSetup_L72
        rw [len_at hv, gB_s, if_neg (by rw [iI_le (by omega) (by omega) (by omega) (by omega)]; show ¬ ((c : Nat) : Int) ≤ _; omega), o, gB_s, x1', gTX_l, sI_at (j := k) hv1 rfl (by omega) (by omega), gB_s, eh2, iI_1, iI_add, Int.natCast_add]
        rfl
      rw [step]
      show match pVal B L d (k + 1) t2 (fun j => if j = k then v else fs j) with | .inl (e, p) => _ | .inr (t', f') => _
      have o12 : ∀ b, b ≠ q → b ≠ va → h2 b = h b := fun b y1 y2 => by rw [o2 b y2, x3 b y1]
      cases hs : pVal B L d (k + 1) t2 (fun j => if j = k then v else fs j) with
      | inl er =>
        obtain ⟨ec', p⟩ := er
        rw [hs] at ih
        obtain ⟨h3, y1, y2, y3⟩ := ih
        exact ⟨h3, fun b c1 c2 => by rw [y1 b c1 c2, o12 b c1 c2], y2, y3⟩
      | inr rr =>
        obtain ⟨t', f'⟩ := rr
        rw [hs] at ih
        obtain ⟨h', V', y1, y2, y3, y4, y5⟩ := ih
        exact ⟨h', V', y1, y2, y3, y4, fun b c1 c2 => by rw [y5 b c1 c2, o12 b c1 c2]⟩
end CP2
