/-! CHECKS: what a method throws, what it answers -/
def gThr {α : Type} (r : Option ((α ⊕ gX) × gH × Nat)) (k : Nat) (h : gH) (n : Nat) : Prop := ∃ h' n' q, r = some (.inr (k, q), h', n') ∧ gPas h n h' n' noD
def gRt {α : Type} (r : Option ((α ⊕ gX) × gH × Nat)) (v : α) (h : gH) (n : Nat) (D : Nat → Prop) (P : gH → Nat → Prop) : Prop := ∃ h' n', r = some (.inl v, h', n') ∧ gPas h n h' n' D ∧ P h' n'
abbrev tT : gH → Nat → Prop := fun _ _ => True
theorem gThr.X {α β : Type} {e : Option ((α ⊕ gX) × gH × Nat)} {K : α → gH → Nat → Option ((β ⊕ gX) × gH × Nat)} {k n : Nat} {h : gH} (t : gThr e k h n) : gThr (gTX e K fun q h n => some (.inr (q.1, q.2), h, n)) k h n := by
  obtain ⟨h', n', q, e1, u⟩ := t
  rw [e1]
  exact ⟨h', n', q, rfl, u⟩
theorem gThr.pre {α : Type} {e : Option ((α ⊕ gX) × gH × Nat)} {k n n0 : Nat} {h h0 : gH} (t : gThr e k h n) (u : gPas h0 n0 h n noD) : gThr e k h0 n0 := by
  obtain ⟨h', n', q, e1, w⟩ := t
  exact ⟨h', n', q, e1, u.tr' w⟩
theorem gX_new {h : gH} {n k : Nat} (hk : 9 ≤ k ∧ k ≤ 13) : g_xcl (g_up h n (.inr (k, []))) n = some k := by
  unfold g_xcl
  rw [g_up_s]
  exact if_pos hk
theorem thr_new {α : Type} {h : gH} {n k : Nat} (F : gFr h n) (hk : 9 ≤ k ∧ k ≤ 13) : gThr (α := α) (gT3 (g_new h n (.inr (k, []))) fun q4 h5 n6 => (Option.bind (g_xcl h5 q4) fun k7 => some (.inr (k7, q4), h5, n6))) k h n := by
  show gThr (Option.bind (g_xcl (g_up h n (.inr (k, []))) n) fun k7 => some (.inr (k7, n), g_up h n (.inr (k, [])), n + 1)) k h n
  rw [gX_new hk, gB_s]
  exact ⟨_, _, _, rfl, gPas.new F⟩
section CK
variable {h : gH} {n cd st : Nat} {S : gS} {sa : Nat → Nat} {m : Nat → Int32}
theorem cCI_ok {a N : Int} (h1 : 0 ≤ a ∧ a < N) (h2 : N < 2147483648) : f_X1_checkIndex (iI a) (iI N) h n = some (.inl (), h, n) := by
  unfold f_X1_checkIndex
  rw [iI_0, if_neg (by rw [iI_lt (by omega) (by omega) (by omega) (by omega)]; omega), if_pos (by rw [iI_lt (by omega) (by omega) (by omega) (by omega)]; omega)]
theorem cCI_no {a N : Int} (F : gFr h n) (ha : -2147483648 ≤ a ∧ a < 2147483648) (h1 : ¬ (0 ≤ a ∧ a < N)) (h2 : 0 ≤ N ∧ N < 2147483648) : gThr (f_X1_checkIndex (iI a) (iI N) h n) 12 h n := by
  unfold f_X1_checkIndex
  by_cases q : a < 0
  · rw [iI_0, if_pos (by rw [iI_lt (by omega) (by omega) (by omega) (by omega)]; omega)]
    exact thr_new F ⟨by decide, by decide⟩
  · rw [iI_0, if_neg (by rw [iI_lt (by omega) (by omega) (by omega) (by omega)]; omega), if_neg (by rw [iI_lt (by omega) (by omega) (by omega) (by omega)]; omega)]
    exact thr_new F ⟨by decide, by decide⟩
theorem cCA_ok : f_X1_checkArgument (1 : Int32) h n = some (.inl (), h, n) := by
  unfold f_X1_checkArgument
  rw [if_neg (by decide)]
theorem cCA_no (F : gFr h n) : gThr (f_X1_checkArgument (0 : Int32) h n) 11 h n := by
  unfold f_X1_checkArgument
  rw [if_pos rfl]
  exact thr_new F ⟨by decide, by decide⟩
theorem cCt_ok : f_X1_checkState (1 : Int32) h n = some (.inl (), h, n) := by
  unfold f_X1_checkState
  rw [if_neg (by decide)]
theorem cCt_no (F : gFr h n) : gThr (f_X1_checkState (0 : Int32) h n) 10 h n := by
  unfold f_X1_checkState
  rw [if_pos rfl]
  exact thr_new F ⟨by decide, by decide⟩
theorem cBt_ok {a b c : Int} (ha : -2147483648 ≤ a ∧ a < 2147483648) (hb : -2147483648 ≤ b ∧ b < 2147483648) (hc : -2147483648 ≤ c ∧ c < 2147483648) (q : b ≤ a ∧ a ≤ c) : f_X1_isBetween (iI a) (iI b) (iI c) h = some (1 : Int32) := by
  unfold f_X1_isBetween
  rw [if_neg (by rw [iI_lt (by omega) (by omega) (by omega) (by omega)]; omega), if_neg (by rw [iI_lt (by omega) (by omega) (by omega) (by omega)]; omega)]
theorem cBt_no {a b c : Int} (ha : -2147483648 ≤ a ∧ a < 2147483648) (hb : -2147483648 ≤ b ∧ b < 2147483648) (hc : -2147483648 ≤ c ∧ c < 2147483648) (q : ¬ (b ≤ a ∧ a ≤ c)) : f_X1_isBetween (iI a) (iI b) (iI c) h = some (0 : Int32) := by
  unfold f_X1_isBetween
  by_cases q1 : a < b
  · rw [if_pos (by rw [iI_lt (by omega) (by omega) (by omega) (by omega)]; omega)]
  · rw [if_neg (by rw [iI_lt (by omega) (by omega) (by omega) (by omega)]; omega), if_pos (by rw [iI_lt (by omega) (by omega) (by omega) (by omega)]; omega)]
theorem cBt_ok0 {a c : Int} (ha : -2147483648 ≤ a ∧ a < 2147483648) (hb : True → (0 : Int) ≤ 0) (hc : -2147483648 ≤ c ∧ c < 2147483648) (q : 0 ≤ a ∧ a ≤ c) : f_X1_isBetween (iI a) (0 : Int32) (iI c) h = some (1 : Int32) := cBt_ok (b := 0) ha (by omega) hc q
theorem cBt_no0 {a c : Int} (ha : -2147483648 ≤ a ∧ a < 2147483648) (hb : True → (0 : Int) ≤ 0) (hc : -2147483648 ≤ c ∧ c < 2147483648) (q : ¬ (0 ≤ a ∧ a ≤ c)) : f_X1_isBetween (iI a) (0 : Int32) (iI c) h = some (0 : Int32) := cBt_no (b := 0) ha (by omega) hc q
theorem iI_sub_1 {z : Int} : iI z - (1 : Int32) = iI (z - 1) := iI_sub z 1
theorem csStep {q N : Nat} {f : Nat → Int32} {i : Nat} {a : Int} {r : Int32 → gH → Nat → Option ((Unit ⊕ gX) × gH × Nat)} (hq : h q = some (.inl (0, N, .inl f))) (hi : i < N) (hN : N ≤ 2) (hf : f i = iI a) (hO : CurAt h cd st) (hS : StAt h st S sa) (hn : S.n ≤ 6) : f_X1_checkSiblings_L2 cd q r (iI i) h n = gTX (f_X1_checkIndex (iI a) (iI S.n) h n) (fun _ h9 n10 => r (iI (i + 1)) h9 n10) fun q8 h11 n12 => some (.inr (q8.1, q8.2), h11, n12) := by
  obtain ⟨fs, o1, o2⟩ := hO
  obtain ⟨fs2, o3⟩ := a_obj hS
  unfold f_X1_checkSiblings_L2
  rw [len_at hq, gB_s, if_neg (by rw [iI_le (by omega) (by omega) (by omega) (by omega)]; show ¬ ((N : Nat) : Int) ≤ _; omega), aI_at hq rfl hi (by omega) hf, gB_s, fA_at o1 o2, gB_s, o3, gB_s, a_size hS, gB_s, iI_1, iI_add]
theorem csEnd {q N : Nat} {f : Nat → Int32} {r : Int32 → gH → Nat → Option ((Unit ⊕ gX) × gH × Nat)} (hq : h q = some (.inl (0, N, .inl f))) (hN : N ≤ 2) : f_X1_checkSiblings_L2 cd q r (iI N) h n = some (.inl (), h, n) := by
  unfold f_X1_checkSiblings_L2
  rw [len_at hq, gB_s, if_pos (Int32.le_refl _)]
def ar1 (h : gH) (n : Nat) (x : Int32) : gH := g_up (g_up h n (.inl (0, 1, .inl fun _ => 0))) n (.inl (0, 1, .inl (upd (fun _ => 0) 0 x)))
def ar2 (h : gH) (n : Nat) (x y : Int32) : gH := g_up (g_up (g_up h n (.inl (0, 2, .inl fun _ => 0))) n (.inl (0, 2, .inl (upd (fun _ => 0) 0 x)))) n (.inl (0, 2, .inl (upd (upd (fun _ => 0) 0 x) 1 y)))
theorem ar1_e {α : Type} {x : Int32} {K : Nat → gH → Nat → Option α} : gT3 (g_nI h n 0 1 (1 : Int32)) (fun q1 h2 n3 => Option.bind (g_sI h2 q1 0 (0 : Int32) x) fun h4 => K q1 h4 n3) = K n (ar1 h n x) (n + 1) := by
  rw [iI_1, nI_at (by decide) (by decide) (by decide), gT3_s, iI_0, sI_at (a := 0) (j := 0) g_up_s rfl (by decide) (by decide), gB_s]
  rfl
theorem ar2_e {α : Type} {x y : Int32} {K : Nat → gH → Nat → Option α} : gT3 (g_nI h n 0 2 (2 : Int32)) (fun q1 h2 n3 => Option.bind (g_sI h2 q1 0 (0 : Int32) x) fun h4 => Option.bind (g_sI h4 q1 0 (1 : Int32) y) fun h5 => K q1 h5 n3) = K n (ar2 h n x y) (n + 1) := by
  rw [iI_2, nI_at (by decide) (by decide) (by decide), gT3_s, iI_0, sI_at (a := 0) (j := 0) g_up_s rfl (by decide) (by decide), gB_s, iI_1, sI_at (a := 1) (j := 1) g_up_s rfl (by decide) (by decide), gB_s]
  rfl
theorem ar1_p (F : gFr h n) (x : Int32) : gPas h n (ar1 h n x) (n + 1) noD := (gPas.new F).tr (D2 := fun b => b = n) (gPas.up (gPas.new (D := noD) F).2.1 (by omega) rfl) fun b q1 q2 => by omega
theorem ar2_p (F : gFr h n) (x y : Int32) : gPas h n (ar2 h n x y) (n + 1) noD := by
  have u := (gPas.new (D := noD) (e := .inl (0, 2, .inl fun _ => 0)) F).tr (D2 := fun b => b = n) (gPas.up (e := .inl (0, 2, .inl (upd (fun _ => 0) 0 x))) (gPas.new (D := noD) F).2.1 (by omega) rfl) fun b q1 q2 => by omega
  exact u.tr (D2 := fun b => b = n) (gPas.up u.2.1 (by omega) rfl) fun b q1 q2 => by omega
theorem ar1_at {x : Int32} : ar1 h n x n = some (.inl (0, 1, .inl (upd (fun _ => 0) 0 x))) := g_up_s
theorem ar2_at {x y : Int32} : ar2 h n x y n = some (.inl (0, 2, .inl (upd (upd (fun _ => 0) 0 x) 1 y))) := g_up_s
theorem cS1_ok {q : Nat} {f : Nat → Int32} {a : Int} (hq : h q = some (.inl (0, 1, .inl f))) (hf : f 0 = iI a) (hO : CurAt h cd st) (hS : StAt h st S sa) (hn : S.n ≤ 6) (ha : 0 ≤ a ∧ a < S.n) : f_X1_checkSiblings cd q h n = some (.inl (), h, n) := by
  show f_X1_checkSiblings_L2 cd q (gL3 (f_X1_checkSiblings_L2 cd q) 2) (iI (0 : Nat)) h n = _
  rw [csStep hq (by decide) (by decide) hf hO hS hn, cCI_ok ha (by omega), gTX_l]
  exact csEnd (r := gL3 (f_X1_checkSiblings_L2 cd q) 1) hq (by decide)
theorem cS1_no {q : Nat} {f : Nat → Int32} {a : Int} (F : gFr h n) (hq : h q = some (.inl (0, 1, .inl f))) (hf : f 0 = iI a) (hO : CurAt h cd st) (hS : StAt h st S sa) (hn : S.n ≤ 6) (hb : -2147483648 ≤ a ∧ a < 2147483648) (ha : ¬ (0 ≤ a ∧ a < S.n)) : gThr (f_X1_checkSiblings cd q h n) 12 h n := by
  show gThr (f_X1_checkSiblings_L2 cd q (gL3 (f_X1_checkSiblings_L2 cd q) 2) (iI (0 : Nat)) h n) 12 h n
  rw [csStep hq (by decide) (by decide) hf hO hS hn]
  exact (cCI_no F hb ha (by omega)).X
theorem cS2_ok {q : Nat} {f : Nat → Int32} {a b : Int} (hq : h q = some (.inl (0, 2, .inl f))) (hf : f 0 = iI a) (hf2 : f 1 = iI b) (hO : CurAt h cd st) (hS : StAt h st S sa) (hn : S.n ≤ 6) (ha : 0 ≤ a ∧ a < S.n) (hb : 0 ≤ b ∧ b < S.n) : f_X1_checkSiblings cd q h n = some (.inl (), h, n) := by
  show f_X1_checkSiblings_L2 cd q (gL3 (f_X1_checkSiblings_L2 cd q) 2) (iI (0 : Nat)) h n = _
  rw [csStep hq (by decide) (by decide) hf hO hS hn, cCI_ok ha (by omega), gTX_l]
  show f_X1_checkSiblings_L2 cd q (gL3 (f_X1_checkSiblings_L2 cd q) 1) (iI (1 : Nat)) h n = _
  rw [csStep hq (by decide) (by decide) hf2 hO hS hn, cCI_ok hb (by omega), gTX_l]
  exact csEnd (r := gL3 (f_X1_checkSiblings_L2 cd q) 0) hq (by decide)
theorem cS2_no {q : Nat} {f : Nat → Int32} {a b : Int} (F : gFr h n) (hq : h q = some (.inl (0, 2, .inl f))) (hf : f 0 = iI a) (hf2 : f 1 = iI b) (hO : CurAt h cd st) (hS : StAt h st S sa) (hn : S.n ≤ 6) (ha : -2147483648 ≤ a ∧ a < 2147483648) (hb : -2147483648 ≤ b ∧ b < 2147483648) (hx : ¬ ((0 ≤ a ∧ a < S.n) ∧ 0 ≤ b ∧ b < S.n)) : gThr (f_X1_checkSiblings cd q h n) 12 h n := by
  show gThr (f_X1_checkSiblings_L2 cd q (gL3 (f_X1_checkSiblings_L2 cd q) 2) (iI (0 : Nat)) h n) 12 h n
  rw [csStep hq (by decide) (by decide) hf hO hS hn]
  by_cases hc : 0 ≤ a ∧ a < S.n
  · rw [cCI_ok hc (by omega), gTX_l]
    show gThr (f_X1_checkSiblings_L2 cd q (gL3 (f_X1_checkSiblings_L2 cd q) 1) (iI (1 : Nat)) h n) 12 h n
    rw [csStep hq (by decide) (by decide) hf2 hO hS hn]
    exact (cCI_no F hb (fun w => hx ⟨hc, w⟩) (by omega)).X
  · exact (cCI_no F ha hc (by omega)).X
theorem cS1a_ok {a : Int} {N : Nat} (hO : CurAt (ar1 h n (iI a)) cd st) (hS : StAt (ar1 h n (iI a)) st S sa) (hn : S.n ≤ 6) (ha : 0 ≤ a ∧ a < S.n) : f_X1_checkSiblings cd n (ar1 h n (iI a)) N = some (.inl (), ar1 h n (iI a), N) := cS1_ok ar1_at rfl hO hS hn ha
theorem cS2a_ok {a b : Int} {N : Nat} (hO : CurAt (ar2 h n (iI a) (iI b)) cd st) (hS : StAt (ar2 h n (iI a) (iI b)) st S sa) (hn : S.n ≤ 6) (ha : 0 ≤ a ∧ a < S.n) (hb : 0 ≤ b ∧ b < S.n) : f_X1_checkSiblings cd n (ar2 h n (iI a) (iI b)) N = some (.inl (), ar2 h n (iI a) (iI b), N) := cS2_ok ar2_at rfl rfl hO hS hn ha hb
theorem cSA_ok {s : Nat} (F : gFr h n) (hO : CurAt h cd st) (hS : StAt h st S sa) (hn : S.n ≤ 6) (hs : s < S.n) : f_X1_siblingAt cd (iI s) h n = some (.inl (sa s), ar1 h n (iI s), n + 1) := by
  have u := ar1_p F (iI s)
  have hO' := u.cur F hO
  have hS' := u.st F hS
  obtain ⟨fs, o1, o2⟩ := hO'
  obtain ⟨fs2, o3⟩ := a_obj hS'
  unfold f_X1_siblingAt
  rw [ar1_e, g_obj_s o1, gB_s, cS1a_ok (a := (s : Int)) ⟨fs, o1, o2⟩ hS' hn (by omega), gTX_l, fA_at o1 o2, gB_s, o3, gB_s, a_sib hS' hs hn, gB_s]
theorem cSA_no {a : Int} (F : gFr h n) (hO : CurAt h cd st) (hS : StAt h st S sa) (hn : S.n ≤ 6) (hb : -2147483648 ≤ a ∧ a < 2147483648) (ha : ¬ (0 ≤ a ∧ a < S.n)) : gThr (f_X1_siblingAt cd (iI a) h n) 12 h n := by
  have u := ar1_p F (iI a)
  have hO' := u.cur F hO
  have hS' := u.st F hS
  obtain ⟨fs, o1, o2⟩ := hO'
  unfold f_X1_siblingAt
  rw [ar1_e, g_obj_s o1, gB_s]
  exact ((cS1_no u.2.1 ar1_at rfl ⟨fs, o1, o2⟩ hS' hn hb ha).X).pre u
theorem cCC_ok {a e : Nat} (hO : CurAt h cd st) (hS : StAt h st S sa) (hc : S.c ≤ 24) (h1 : a ≤ e) (h2 : e < S.c) : f_X1_checkCells cd (iI a) (iI e) h n = some (.inl (), h, n) := by
  obtain ⟨fs, o1, o2⟩ := hO
  obtain ⟨fs2, o3⟩ := a_obj hS
  unfold f_X1_checkCells
  rw [fA_at o1 o2, gB_s, o3, gB_s, a_cells hS, gB_s, iI_sub_1, cBt_ok0 (by omega) (by omega) (by omega) (by omega), gB_s, if_neg (by decide), gB_s, o3, gB_s, a_cells hS, gB_s, iI_sub_1, cBt_ok (by omega) (by omega) (by omega) (by omega), gB_s, if_neg (by decide), cCA_ok, gTX_l]
theorem cCC_no {a e : Int} (F : gFr h n) (hO : CurAt h cd st) (hS : StAt h st S sa) (hc : S.c ≤ 24) (h1 : -2147483648 ≤ a ∧ a < 2147483648) (h2 : -2147483648 ≤ e ∧ e < 2147483648) (hx : ¬ (0 ≤ a ∧ a ≤ e ∧ e < S.c)) : gThr (f_X1_checkCells cd (iI a) (iI e) h n) 11 h n := by
  obtain ⟨fs, o1, o2⟩ := hO
  obtain ⟨fs2, o3⟩ := a_obj hS
  unfold f_X1_checkCells
  rw [fA_at o1 o2, gB_s, o3, gB_s, a_cells hS, gB_s, iI_sub_1]
  by_cases hq : 0 ≤ a ∧ a ≤ (S.c : Int) - 1
  · rw [cBt_ok0 (by omega) (by omega) (by omega) hq, gB_s, if_neg (by decide), gB_s, o3, gB_s, a_cells hS, gB_s, iI_sub_1, cBt_no (by omega) (by omega) (by omega) (by omega), gB_s, if_pos rfl]
    exact (cCA_no F).X
  · rw [cBt_no0 (by omega) (by omega) (by omega) hq, gB_s, if_pos rfl]
    exact (cCA_no F).X
-- the reference's checks
theorem mBt_ok {a b c : Int} (ha : -2147483648 ≤ a ∧ a < 2147483648) (hb : -2147483648 ≤ b ∧ b < 2147483648) (hc : -2147483648 ≤ c ∧ c < 2147483648) (q : b ≤ a ∧ a ≤ c) : f_X6_in (iI a) (iI b) (iI c) = some (1 : Int32) := by
  unfold f_X6_in
  rw [if_neg (by rw [iI_lt (by omega) (by omega) (by omega) (by omega)]; omega), if_neg (by rw [iI_lt (by omega) (by omega) (by omega) (by omega)]; omega)]
theorem mBt_no {a b c : Int} (ha : -2147483648 ≤ a ∧ a < 2147483648) (hb : -2147483648 ≤ b ∧ b < 2147483648) (hc : -2147483648 ≤ c ∧ c < 2147483648) (q : ¬ (b ≤ a ∧ a ≤ c)) : f_X6_in (iI a) (iI b) (iI c) = some (0 : Int32) := by
  unfold f_X6_in
  by_cases q1 : a < b
  · rw [if_pos (by rw [iI_lt (by omega) (by omega) (by omega) (by omega)]; omega)]
  · rw [if_neg (by rw [iI_lt (by omega) (by omega) (by omega) (by omega)]; omega), if_pos (by rw [iI_lt (by omega) (by omega) (by omega) (by omega)]; omega)]
theorem mSib_ok {a : Nat} (hB : BlkAt m 0 S) (hw : WF S) (h1 : a < S.n) : f_X6_isSibling (iI a) m = some (1 : Int32) := by
  have := hw.2.1
  unfold f_X6_isSibling
  rw [iI_1, b_n hB, gB_s, iI_0, iI_sub, mBt_ok (by omega) (by omega) (by omega) (by omega), gB_s, if_pos (.inr rfl)]
  rfl
theorem mSib_no {a : Int} (hB : BlkAt m 0 S) (hw : WF S) (hb : -2147483648 ≤ a ∧ a < 2147483648) (h1 : ¬ (0 ≤ a ∧ a < S.n)) : f_X6_isSibling (iI a) m = some (0 : Int32) := by
  have := hw.2.1
  unfold f_X6_isSibling
  rw [iI_1, b_n hB, gB_s, iI_0, iI_sub, mBt_no (by omega) (by omega) (by omega) (by omega), gB_s, if_pos (.inl rfl)]
  rfl
theorem mCell_ok {a : Nat} (hB : BlkAt m 0 S) (hw : WF S) (h1 : a < S.c) : f_X6_isCell (iI a) m = some (1 : Int32) := by
  have := hw.1
  unfold f_X6_isCell
  rw [iI_1, iI_0, b_c hB, gB_s, iI_sub, mBt_ok (by omega) (by omega) (by omega) (by omega), gB_s, if_pos (.inr rfl)]
  rfl
theorem mCell_no {a : Int} (hB : BlkAt m 0 S) (hw : WF S) (hb : -2147483648 ≤ a ∧ a < 2147483648) (h1 : ¬ (0 ≤ a ∧ a < S.c)) : f_X6_isCell (iI a) m = some (0 : Int32) := by
  have := hw.1
  unfold f_X6_isCell
  rw [iI_1, iI_0, b_c hB, gB_s, iI_sub, mBt_no (by omega) (by omega) (by omega) (by omega), gB_s, if_pos (.inl rfl)]
  rfl
theorem mRg_ok {a e : Nat} (hB : BlkAt m 0 S) (hw : WF S) (h1 : a ≤ e) (h2 : e < S.c) : f_X6_isRange (iI a) (iI e) m = some (1 : Int32) := by
  have := hw.1
  unfold f_X6_isRange
  rw [mCell_ok hB hw (by omega), gB_s, if_neg (by decide), mCell_ok hB hw (by omega), gB_s, if_neg (by decide), if_neg (by rw [iI_lt (by omega) (by omega) (by omega) (by omega)]; omega)]
theorem mRg_no {a e : Int} (hB : BlkAt m 0 S) (hw : WF S) (ha : -2147483648 ≤ a ∧ a < 2147483648) (he : -2147483648 ≤ e ∧ e < 2147483648) (hx : ¬ (0 ≤ a ∧ a ≤ e ∧ e < S.c)) : f_X6_isRange (iI a) (iI e) m = some (0 : Int32) := by
  have := hw.1
  unfold f_X6_isRange
  by_cases q1 : 0 ≤ a ∧ a < S.c
  · obtain ⟨a, rfl⟩ : ∃ k : Nat, a = k := ⟨a.toNat, by omega⟩
    rw [mCell_ok hB hw (by omega), gB_s, if_neg (by decide)]
    by_cases q2 : 0 ≤ e ∧ e < S.c
    · obtain ⟨e, rfl⟩ : ∃ k : Nat, e = k := ⟨e.toNat, by omega⟩
      rw [mCell_ok hB hw (by omega), gB_s, if_neg (by decide), if_pos (by rw [iI_lt (by omega) (by omega) (by omega) (by omega)]; omega)]
    · rw [mCell_no hB hw he q2, gB_s, if_pos rfl]
  · rw [mCell_no hB hw ha q1, gB_s, if_pos rfl]
theorem mSs_ok {a b : Nat} (hB : BlkAt m 0 S) (hw : WF S) (h1 : a < S.n) (h2 : b < S.n) : f_X6_areSiblings (iI a) (iI b) m = some (1 : Int32) := by
  unfold f_X6_areSiblings
  rw [mSib_ok hB hw h1, gB_s, if_neg (by decide), mSib_ok hB hw h2, gB_s, if_neg (by decide)]
theorem mSs_no {a b : Int} (hB : BlkAt m 0 S) (hw : WF S) (ha : -2147483648 ≤ a ∧ a < 2147483648) (hb : -2147483648 ≤ b ∧ b < 2147483648) (hx : ¬ ((0 ≤ a ∧ a < S.n) ∧ 0 ≤ b ∧ b < S.n)) : f_X6_areSiblings (iI a) (iI b) m = some (0 : Int32) := by
  unfold f_X6_areSiblings
  by_cases q1 : 0 ≤ a ∧ a < S.n
  · obtain ⟨a, rfl⟩ : ∃ k : Nat, a = k := ⟨a.toNat, by omega⟩
    rw [mSib_ok hB hw (by omega), gB_s, if_neg (by decide), mSib_no hB hw hb (fun w => hx ⟨q1, w⟩), gB_s, if_pos rfl]
  · rw [mSib_no hB hw ha q1, gB_s, if_pos rfl]
end CK
