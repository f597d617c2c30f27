/-! CONTIGUOUS SHARES: the class -/
def mdI (b : Bool) : Int32 := if b = true then 1 else 0
def dvI (S : gS) (b : Bool) (hb : gH) (nb st : Nat) (K e0 : Nat) (h : gH) (n : Nat) : Prop :=
  gPas hb nb h n noD ∧ h nb = some (.inr (6, [.ref (nb + 1), .ref st, .int (mdI b)])) ∧ (∃ f0 : Nat → Int32, h (nb + 1) = some (.inl (0, 64, .inl f0)) ∧ ∀ s, s < K → f0 s = iI (Tz S b s S.c)) ∧ h (nb + 2) = some (.inl (7, 2 ^ S.n, .inr (.inr (.inr (.inr fun j => if j < 2 ^ S.n then some (nb + 2 + 1 + j) else none))))) ∧ ∀ s, s < 2 ^ S.n → ∃ f : Nat → Int32, h (nb + 2 + 1 + s) = some (.inl (0, S.c + 1, .inl f)) ∧ ∀ e, e ≤ S.c → (s < K ∨ (s = K ∧ e < e0)) → f e = iI (Tz S b s e)
section DV
variable {S : gS} {b : Bool} {hb h : gH} {nb st cd n K e0 s e a : Nat} {sa : Nat → Nat}
theorem dvI.row (v : dvI S b hb nb st K e0 h n) (hn : S.n ≤ 6) (hs : s < 2 ^ S.n) : g_aA h (nb + 2) 7 (iI s) = some (nb + 2 + 1 + s) := by
  have := two_n hn
  exact aA_at (j := s) v.2.2.2.1 rfl hs (by omega) (if_pos hs)
theorem dvI.cur (v : dvI S b hb nb st K e0 h n) (F : gFr hb nb) (hS : StAt hb st S sa) : StAt h st S sa := v.1.st F hS
theorem cCmb {x w : Int} (v : dvI S b hb nb st K e0 h n) (hx : -2147483648 ≤ x ∧ x < 2147483648) (hw : -2147483648 ≤ w ∧ w < 2147483648) : f_X8_combine nb (iI x) (iI w) h = some (iI (cmb b x w)) := by
  unfold f_X8_combine cmb
  rw [fI_at v.2.1 rfl, gB_s]
  cases b with
  | false =>
    rw [if_pos (show mdI false = 0 from rfl), if_neg (show ¬ false = true from by decide)]
    by_cases q : w < x
    · rw [if_pos (by rw [iI_lt (by omega) (by omega) (by omega) (by omega)]; omega), if_pos q]
    · rw [if_neg (by rw [iI_lt (by omega) (by omega) (by omega) (by omega)]; omega), if_neg q]
  | true =>
    rw [if_neg (show ¬ mdI true = 0 from by decide), if_pos rfl, iI_add]
theorem mxI {x t : Int} (hx : -2147483648 ≤ x ∧ x < 2147483648) (ht : -2147483648 ≤ t ∧ t < 2147483648) : (if iI x < iI t then iI t else iI x) = iI (mx x t) := by
  unfold mx
  by_cases q : x < t
  · rw [if_pos (by rw [iI_lt (by omega) (by omega) (by omega) (by omega)]; omega), if_pos q]
  · rw [if_neg (by rw [iI_lt (by omega) (by omega) (by omega) (by omega)]; omega), if_neg q]
theorem v55 (v : dvI S b hb nb st s e0 h n) (F : gFr hb nb) (hS : StAt hb st S sa) (hw : WF S) (ha : a < S.n) (hs : s < 2 ^ S.n) (he : e ≤ S.c) (hbit : s.testBit a = true) {acc : Int} (hacc : -1 ≤ acc ∧ acc ≤ 2147483647) (r30 : Int32 → Int32 → Option Int32) : ∀ d k fu : Nat, k + d = e + 1 → d < fu → gL2 (f_X8_value_L55 r30 nb (nb + 2) (iI s) (iI e) (iI a) (iI (oth s a : Nat)) h) fu (iI (uP S b (Tz S b) s a e acc k)) (iI k) = r30 (iI (uP S b (Tz S b) s a e acc (e + 1))) (iI ((a : Int) + 1)) := by
  have hn := hw.2.1
  have hc := hw.1
  have h64 := two_n hn.2
  have hS' := v.cur F hS
  have ho := oth_lt hbit
  have hos : oth s a < 2 ^ S.n := by omega
  intro d
  induction d with
  | zero =>
    intro k fu hk hfu
    obtain ⟨fu, rfl⟩ : ∃ k', fu = k' + 1 := ⟨fu - 1, by omega⟩
    have : k = e + 1 := by omega
    subst this
    show f_X8_value_L55 r30 nb (nb + 2) (iI s) (iI e) (iI a) (iI (oth s a : Nat)) h (gL2 (f_X8_value_L55 r30 nb (nb + 2) (iI s) (iI e) (iI a) (iI (oth s a : Nat)) h) fu) _ _ = _
    unfold f_X8_value_L55
    rw [if_pos (by rw [iI_lt (by omega) (by omega) (by omega) (by omega)]; omega), iI_1, iI_add]
  | succ d ih =>
    intro k fu hk hfu
    obtain ⟨fu, rfl⟩ : ∃ k', fu = k' + 1 := ⟨fu - 1, by omega⟩
    have ih := ih (k + 1) fu (by omega) (by omega)
    have hke : k ≤ e := by omega
    have hup := uP_b (b := b) hw ha hs he hacc k (by omega)
    have hT := Tz_r (b := b) (e := k) hw hos (by omega)
    have hwk := wt_b hw ha hke he
    have htr := trm_b (b := b) hw ha hs hke he
    obtain ⟨f, r1, r2⟩ := v.2.2.2.2 _ hos
    show f_X8_value_L55 r30 nb (nb + 2) (iI s) (iI e) (iI a) (iI (oth s a : Nat)) h (gL2 (f_X8_value_L55 r30 nb (nb + 2) (iI s) (iI e) (iI a) (iI (oth s a : Nat)) h) fu) _ _ = _
    generalize gL2 (f_X8_value_L55 r30 nb (nb + 2) (iI s) (iI e) (iI a) (iI (oth s a : Nat)) h) fu = r at ih ⊢
    unfold f_X8_value_L55
    rw [Int.natCast_add, Int.natCast_one] at ih
    rw [if_neg (by rw [iI_lt (by omega) (by omega) (by omega) (by omega)]; omega), if_neg (by rw [iI_eq (by omega) (by omega) (by omega) (by omega)]; omega), v.row hn.2 hos, gB_s, aI_at (j := k) r1 rfl (by omega) (by omega) (r2 k (by omega) (.inl ho)), gB_s]
    by_cases z : Tz S b (oth s a) k = -1
    · have et : trm S b (Tz S b) s a e k = -1 := by unfold trm; rw [if_pos z]
      rw [if_pos (by rw [z]; rfl), iI_n1, mxI (by omega) (by omega), iI_1, iI_add, ← et]
      exact ih
    · have et : trm S b (Tz S b) s a e k = cmb b (Tz S b (oth s a) k) (wt S a k e) := by unfold trm; rw [if_neg z]
      obtain ⟨fs, o1⟩ := a_obj hS'
      have hsib := hS'.2.2.2.2.2 a ha
      obtain ⟨na, y1, -⟩ := hsib
      have hwr := cWr hS' hw ha hke he
      rw [if_neg (by rw [iI_n1, iI_eq (by omega) (by omega) (by omega) (by omega)]; exact z), fA_at v.2.1 rfl, gB_s, o1, gB_s, a_sib hS' ha hn.2, gB_s, g_obj_s y1, gB_s, iI_1, iI_sub, hwr, gB_s, g_obj_s v.2.1, gB_s, show pS S a e - pS S a k = wt S a k e from rfl, cCmb v (by omega) (by omega), gB_s, ← et, mxI (by omega) (by omega), iI_add]
      exact ih
theorem v30 (v : dvI S b hb nb st s e0 h n) (F : gFr hb nb) (hS : StAt hb st S sa) (hw : WF S) (hs : s < 2 ^ S.n) (he : e ≤ S.c) : ∀ d a fu : Nat, a + d = S.n → d < fu → gL2 (f_X8_value_L30 nb (nb + 2) (iI s) (iI e) h) fu (iI (uS S b (Tz S b) s e a)) (iI a) = some (iI (uS S b (Tz S b) s e S.n)) := by
  have hn := hw.2.1
  have hc := hw.1
  have h64 := two_n hn.2
  have hS' := v.cur F hS
  obtain ⟨fs, o1⟩ := a_obj hS'
  intro d
  induction d with
  | zero =>
    intro a fu ha hfu
    obtain ⟨fu, rfl⟩ : ∃ k', fu = k' + 1 := ⟨fu - 1, by omega⟩
    have : a = S.n := by omega
    subst this
    show f_X8_value_L30 nb (nb + 2) (iI s) (iI e) h (gL2 (f_X8_value_L30 nb (nb + 2) (iI s) (iI e) h) fu) _ _ = _
    unfold f_X8_value_L30
    rw [fA_at v.2.1 rfl, gB_s, o1, gB_s, a_size hS', gB_s, if_pos (Int32.le_refl _)]
  | succ d ih =>
    intro a fu ha hfu
    obtain ⟨fu, rfl⟩ : ∃ k', fu = k' + 1 := ⟨fu - 1, by omega⟩
    have ih := ih (a + 1) fu (by omega) (by omega)
    have han : a < S.n := by omega
    have hacc := uS_b (b := b) hw hs he a (by omega)
    show f_X8_value_L30 nb (nb + 2) (iI s) (iI e) h (gL2 (f_X8_value_L30 nb (nb + 2) (iI s) (iI e) h) fu) _ _ = _
    generalize gL2 (f_X8_value_L30 nb (nb + 2) (iI s) (iI e) h) fu = r at ih ⊢
    unfold f_X8_value_L30
    rw [Int.natCast_add, Int.natCast_one] at ih
    rw [fA_at v.2.1 rfl, gB_s, o1, gB_s, a_size hS', gB_s, if_neg (by rw [iI_le (by omega) (by omega) (by omega) (by omega)]; omega), oI s (by omega) a (by omega)]
    rw [show uS S b (Tz S b) s e (a + 1) = if s.testBit a = true then uP S b (Tz S b) s a e (uS S b (Tz S b) s e a) (e + 1) else uS S b (Tz S b) s e a from rfl] at ih
    by_cases q : s.testBit a = true
    · rw [if_pos q] at ih
      have := v55 v F hS hw han hs he q hacc r (e + 1) 0 gN (by omega) (by unfold gN; omega)
      exact this.trans ih
    · rw [if_neg q] at ih
      rw [oth_no q]
      show f_X8_value_L55 r nb (nb + 2) (iI s) (iI e) (iI a) (iI s) h (gL2 (f_X8_value_L55 r nb (nb + 2) (iI s) (iI e) (iI a) (iI s) h) 99999) _ (iI (0 : Nat)) = _
      unfold f_X8_value_L55
      rw [if_neg (by rw [iI_lt (by omega) (by omega) (by omega) (by omega)]; omega), if_pos rfl, iI_1, iI_add]
      exact ih
theorem cVl (v : dvI S b hb nb st s e0 h n) (F : gFr hb nb) (hS : StAt hb st S sa) (hw : WF S) (hs : s < 2 ^ S.n) (he : e ≤ S.c) : f_X8_value nb (nb + 2) (iI s) (iI e) h = some (iI (Tz S b s e)) := by
  have hn := hw.2.1
  have hc := hw.1
  have h64 := two_n hn.2
  have key := v30 (e := e) v F hS hw hs he S.n 0 gN (by omega) (by unfold gN; omega)
  rw [← Tz_eq] at key
  unfold f_X8_value f_X8_value_J24 f_X8_value_J25
  by_cases q : s = 0
  · by_cases r : e = 0
    · subst q r
      rw [if_pos (show iI ((0 : Nat) : Int) = (0 : Int32) from rfl), if_pos (show iI ((0 : Nat) : Int) = (0 : Int32) from rfl), fI_at v.2.1 rfl, gB_s]
      have e1 : uS S b (Tz S b) 0 0 0 = ini b := rfl
      rw [e1] at key
      cases b with
      | false => rw [if_pos (show mdI false = 0 from rfl)]; exact key
      | true => rw [if_neg (show ¬ mdI true = 0 from by decide)]; exact key
    · have e1 : uS S b (Tz S b) s e 0 = -1 := if_neg (fun y => r y.2)
      rw [e1] at key
      rw [if_pos (by rw [q]; rfl), if_neg (by rw [show (0 : Int32) = iI 0 from rfl, iI_eq (by omega) (by omega) (by omega) (by omega)]; omega)]
      exact key
  · have e1 : uS S b (Tz S b) s e 0 = -1 := if_neg (fun y => q y.1)
    rw [e1] at key
    rw [if_neg (by rw [show (0 : Int32) = iI 0 from rfl, iI_eq (by omega) (by omega) (by omega) (by omega)]; omega)]
    exact key
theorem dvI.wr (v : dvI S b hb nb st s e h n) (hs : s < 2 ^ S.n) (he : e ≤ S.c) (hc : S.c ≤ 24) : ∃ h', g_sI h (nb + 2 + 1 + s) 0 (iI e) (iI (Tz S b s e)) = some h' ∧ dvI S b hb nb st s (e + 1) h' n := by
  obtain ⟨v1, v2, ⟨f0, v3, v3'⟩, v4, v5⟩ := v
  obtain ⟨f, r1, r2⟩ := v5 s hs
  have lt1 := v1.2.1.lt r1
  refine ⟨_, sI_at (j := e) r1 rfl (by omega) (by omega), ⟨v1.1, fun x hx => by rw [g_up_n (by omega)]; exact v1.2.1 x hx, fun x hx hD => by rw [g_up_n (by omega)]; exact v1.2.2 x hx hD⟩, by rw [g_up_n (by omega)]; exact v2, ⟨f0, by rw [g_up_n (by omega)]; exact v3, v3'⟩, by rw [g_up_n (by omega)]; exact v4, fun s' hs' => ?_⟩
  by_cases q : s' = s
  · subst q
    refine ⟨_, g_up_s, fun e' he' hh => ?_⟩
    unfold upd
    by_cases z : e' = e
    · rw [if_pos z, z]
    · rw [if_neg z]
      exact r2 e' he' (by omega)
  · obtain ⟨f', r1', r2'⟩ := v5 s' hs'
    exact ⟨f', by rw [g_up_n (by omega)]; exact r1', fun e' he' hh => r2' e' he' (by omega)⟩
theorem dvI.nx (v : dvI S b hb nb st s (S.c + 1) h n) (hs : s < 2 ^ S.n) (h6 : S.n ≤ 6) : ∃ h', g_sI h (nb + 1) 0 (iI s) (iI (Tz S b s S.c)) = some h' ∧ dvI S b hb nb st (s + 1) 0 h' n := by
  obtain ⟨v1, v2, ⟨f0, v3, v3'⟩, v4, v5⟩ := v
  have h64 := two_n h6
  have lt1 := v1.2.1.lt v3
  refine ⟨_, sI_at (j := s) v3 rfl (by omega) (by decide), ⟨v1.1, fun x hx => by rw [g_up_n (by omega)]; exact v1.2.1 x hx, fun x hx hD => by rw [g_up_n (by omega)]; exact v1.2.2 x hx hD⟩, by rw [g_up_n (by omega)]; exact v2, ⟨_, g_up_s, fun s' hs' => ?_⟩, by rw [g_up_n (by omega)]; exact v4, fun s' hs' => ?_⟩
  · unfold upd
    by_cases z : s' = s
    · rw [if_pos z, z]
    · rw [if_neg z]; exact v3' s' (by omega)
  · obtain ⟨f', r1', r2'⟩ := v5 s' hs'
    exact ⟨f', by rw [g_up_n (by omega)]; exact r1', fun e' he' hh => r2' e' he' (by omega)⟩
theorem r43 (F : gFr hb nb) (hS : StAt hb st S sa) (hw : WF S) (hs : s < 2 ^ S.n) (r34 : Int32 → gH → Option (Int32 × gH × Nat)) : ∀ d e fu : Nat, ∀ h, e + d = S.c + 1 → d < fu → dvI S b hb nb st s e h n → ∃ h', dvI S b hb nb st (s + 1) 0 h' n ∧ gL2 (f_X8_run_L43 r34 nb (iI S.c) (iI (2 ^ S.n - 1 : Nat)) (nb + 2) (iI s) n) fu (iI e) h = r34 (iI ((s : Int) + 1)) h' := by
  have hn := hw.2.1
  have hc := hw.1
  have h64 := two_n hn.2
  intro d
  induction d with
  | zero =>
    intro e fu h hd hfu v
    obtain ⟨fu, rfl⟩ : ∃ k', fu = k' + 1 := ⟨fu - 1, by omega⟩
    have : e = S.c + 1 := by omega
    subst this
    obtain ⟨h', e1, v'⟩ := v.nx hs hn.2
    obtain ⟨f, r1, r2⟩ := v.2.2.2.2 s hs
    refine ⟨h', v', ?_⟩
    show f_X8_run_L43 r34 nb (iI S.c) (iI (2 ^ S.n - 1 : Nat)) (nb + 2) (iI s) n (gL2 (f_X8_run_L43 r34 nb (iI S.c) (iI (2 ^ S.n - 1 : Nat)) (nb + 2) (iI s) n) fu) _ _ = _
    unfold f_X8_run_L43 f_X8_run_J71
    rw [if_pos (by rw [iI_lt (by omega) (by omega) (by omega) (by omega)]; omega), fA_at v.2.1 rfl, gB_s, v.row hn.2 hs, gB_s, aI_at (j := S.c) r1 rfl (by omega) (by omega) (r2 S.c (Nat.le_refl _) (.inr ⟨rfl, by omega⟩)), gB_s, e1, gB_s, iI_1, iI_add]
  | succ d ih =>
    intro e fu h hd hfu v
    obtain ⟨fu, rfl⟩ : ∃ k', fu = k' + 1 := ⟨fu - 1, by omega⟩
    have he : e ≤ S.c := by omega
    obtain ⟨h1, e1, v1⟩ := v.wr hs he hc.2
    obtain ⟨h', v', e2⟩ := ih (e + 1) fu h1 (by omega) (by omega) v1
    refine ⟨h', v', ?_⟩
    rw [← e2]
    show f_X8_run_L43 r34 nb (iI S.c) (iI (2 ^ S.n - 1 : Nat)) (nb + 2) (iI s) n (gL2 (f_X8_run_L43 r34 nb (iI S.c) (iI (2 ^ S.n - 1 : Nat)) (nb + 2) (iI s) n) fu) _ _ = _
    generalize gL2 (f_X8_run_L43 r34 nb (iI S.c) (iI (2 ^ S.n - 1 : Nat)) (nb + 2) (iI s) n) fu = r
    unfold f_X8_run_L43
    rw [if_neg (by rw [iI_lt (by omega) (by omega) (by omega) (by omega)]; omega), v.row hn.2 hs, gB_s, g_obj_s v.2.1, gB_s, cVl v F hS hw hs he, gB_s, e1, gB_s, iI_1, iI_add, Int.natCast_add]
    rfl
theorem r34_loop (F : gFr hb nb) (hS : StAt hb st S sa) (hw : WF S) : ∀ d s fu : Nat, ∀ h, s + d = 2 ^ S.n → d < fu → dvI S b hb nb st s 0 h n → ∃ h', gPas hb nb h' n noD ∧ gL2 (f_X8_run_L34 nb (iI S.c) (iI (2 ^ S.n - 1 : Nat)) (nb + 2) n) fu (iI s) h = some (iI (Tz S b (2 ^ S.n - 1) S.c), h', n) := by
  have hn := hw.2.1
  have hc := hw.1
  have h64 := two_n hn.2
  have hpos : 0 < 2 ^ S.n := Nat.pow_pos (by decide)
  intro d
  induction d with
  | zero =>
    intro s fu h hd hfu v
    obtain ⟨fu, rfl⟩ : ∃ k', fu = k' + 1 := ⟨fu - 1, by omega⟩
    obtain ⟨f0, r1, r2⟩ := v.2.2.1
    refine ⟨h, v.1, ?_⟩
    show f_X8_run_L34 nb (iI S.c) (iI (2 ^ S.n - 1 : Nat)) (nb + 2) n (gL2 (f_X8_run_L34 nb (iI S.c) (iI (2 ^ S.n - 1 : Nat)) (nb + 2) n) fu) _ _ = _
    unfold f_X8_run_L34
    rw [if_pos (by rw [iI_lt (by omega) (by omega) (by omega) (by omega)]; omega), fA_at v.2.1 rfl, gB_s, aI_at (j := 2 ^ S.n - 1) r1 rfl (by omega) (by decide) (r2 _ (by omega)), gB_s]
  | succ d ih =>
    intro s fu h hd hfu v
    obtain ⟨fu, rfl⟩ : ∃ k', fu = k' + 1 := ⟨fu - 1, by omega⟩
    obtain ⟨h1, v1, e1⟩ := r43 (n := n) F hS hw (s := s) (by omega) (gL2 (f_X8_run_L34 nb (iI S.c) (iI (2 ^ S.n - 1 : Nat)) (nb + 2) n) fu) (S.c + 1) 0 gN h (by omega) (by unfold gN; omega) v
    obtain ⟨h', u', e2⟩ := ih (s + 1) fu h1 (by omega) (by omega) v1
    refine ⟨h', u', ?_⟩
    show f_X8_run_L34 nb (iI S.c) (iI (2 ^ S.n - 1 : Nat)) (nb + 2) n (gL2 (f_X8_run_L34 nb (iI S.c) (iI (2 ^ S.n - 1 : Nat)) (nb + 2) n) fu) _ _ = _
    rw [← e2]
    unfold f_X8_run_L34
    rw [if_neg (by rw [iI_lt (by omega) (by omega) (by omega) (by omega)]; omega)]
    exact e1
theorem rows_s {h : gH} {q k : Nat} : ∀ j i, i < j → g_rows h q 0 k j (q + i) = some (.inl (0, k, .inl fun _ => 0)) := by
  intro j
  induction j with
  | zero => intro i hi; omega
  | succ j ih =>
    intro i hi
    show g_up (g_rows h q 0 k j) (q + j) _ (q + i) = _
    by_cases z : i = j
    · subst z; exact g_up_s
    · rw [g_up_n (by omega)]; exact ih i (by omega)
theorem rows_n {h : gH} {q k x : Nat} : ∀ j, x < q ∨ q + j ≤ x → g_rows h q 0 k j x = h x := by
  intro j
  induction j with
  | zero => intro _; rfl
  | succ j ih =>
    intro hx
    show g_up (g_rows h q 0 k j) (q + j) _ x = _
    rw [g_up_n (by omega)]; exact ih (by omega)
theorem cDvd (F : gFr h n) (hO : CurAt h cd st) (hS : StAt h st S sa) (hw : WF S) : ∃ h' n', gPas h n h' n' noD ∧ (gT3 (g_new h n (.inr (6, [.null, .null, .int 0]))) fun q1 h2 n3 => (Option.bind (g_fA h2 cd 3 4) fun v4 => (gT2 (f_X8_init q1 v4 (mdI b) h2 n3) fun h6 n7 => (Option.bind (g_obj h6 q1 6) fun _ => (gT3 (f_X8_run q1 h6 n7) fun v10 h11 n12 => some (v10, h11, n12)))))) = some (iI (Tz S b (2 ^ S.n - 1) S.c), h', n') := by
  have hn := hw.2.1
  have hc := hw.1
  have h64 := two_n hn.2
  have hpos : 0 < 2 ^ S.n := Nat.pow_pos (by decide)
  have u0 := gPas.new (D := noD) (e := .inr (6, [.null, .null, .int 0])) F
  have e0 : g_fA (g_up h n (.inr (6, [.null, .null, .int 0]))) cd 3 4 = some st := by
    obtain ⟨gs, p1, p2⟩ := u0.cur F hO
    exact fA_at p1 p2
  rw [new_e, e0, gB_s]
  have hmd : mdI b = 0 ∨ mdI b = 1 := by cases b <;> simp [mdI]
  unfold f_X8_init
  have q0 : g_up h n (.inr (6, [.null, .null, .int 0])) n = some (.inr (6, [.null, .null, .int 0])) := g_up_s
  generalize e1 : g_up (g_up h n (.inr (6, [.null, .null, .int 0]))) n (.inr (6, [.null, .ref st, .int 0])) = h1
  have q1 : h1 n = some (.inr (6, [.null, .ref st, .int 0])) := by rw [← e1, g_up_s]
  generalize e2 : g_up h1 n (.inr (6, [.null, .ref st, .int (mdI b)])) = h2
  have q2 : h2 n = some (.inr (6, [.null, .ref st, .int (mdI b)])) := by rw [← e2, g_up_s]
  generalize e3 : g_up h2 (n + 1) (.inl (0, 64, .inl fun _ => 0)) = h3
  have q3 : h3 n = some (.inr (6, [.null, .ref st, .int (mdI b)])) := by rw [← e3, g_up_n (by omega)]; exact q2
  generalize e4 : g_up h3 n (.inr (6, [.ref (n + 1), .ref st, .int (mdI b)])) = h4
  have q4 : h4 n = some (.inr (6, [.ref (n + 1), .ref st, .int (mdI b)])) := by rw [← e4, g_up_s]
  have q4a : h4 (n + 1) = some (.inl (0, 64, .inl fun _ => 0)) := by rw [← e4, g_up_n (by omega), ← e3, g_up_s]
  have same : ∀ x, x ≠ n → x ≠ n + 1 → h4 x = h x := fun x x1 x2 => by
    rw [← e4, g_up_n x1, ← e3, g_up_n x2, ← e2, g_up_n x1, ← e1, g_up_n x1, g_up_n x1]
  have u4 : gPas h n h4 (n + 1 + 1) noD := ⟨by omega, fun x hx => by rw [same x (by omega) (by omega)]; exact F x (by omega), fun x hx _ => same x (by omega) (by omega)⟩
  have hS4 := u4.st F hS
  obtain ⟨fs4, o4⟩ := a_obj hS4
  rw [show g_pf (g_up h n (.inr (6, [.null, .null, .int 0]))) n 6 1 (.ref st) = some h1 from by rw [pf_at q0 (by show _ < 3; decide), ← e1]; rfl, gB_s, if_pos hmd, show g_pf h1 n 6 2 (.int (mdI b)) = some h2 from by rw [pf_at q1 (by show _ < 3; decide), ← e2]; rfl, gB_s, show g_nI h2 (n + 1) 0 64 (64 : Int32) = some (n + 1, h3, n + 1 + 1) from by rw [← e3]; exact nI_at (z := 64) (by decide) (by decide) (by decide), gT3_s, show g_pf h3 n 6 0 (.ref (n + 1)) = some h4 from by rw [pf_at q3 (by show _ < 3; decide), ← e4]; rfl, gB_s, gT2_s, g_obj_s q4, gB_s]
  unfold f_X8_run
  have ef : iI ((2 ^ S.n : Nat) : Int) - (1 : Int32) = iI ((2 ^ S.n - 1 : Nat) : Int) := by rw [iI_1, iI_sub]; congr 1; omega
  have eg : iI ((2 ^ S.n - 1 : Nat) : Int) + (1 : Int32) = iI ((2 ^ S.n : Nat) : Int) := by rw [iI_1, iI_add]; congr 1; omega
  have eh : iI (S.c : Int) + (1 : Int32) = iI ((S.c + 1 : Nat) : Int) := by rw [iI_1, iI_add]; rfl
  have k1 : (iI ((2 ^ S.n : Nat) : Int)).toNatClampNeg = 2 ^ S.n := by rw [iI_cl (by omega) (by omega)]; omega
  have k2 : (iI ((S.c + 1 : Nat) : Int)).toNatClampNeg = S.c + 1 := by rw [iI_cl (by omega) (by omega)]; omega
  generalize e5 : g_up (g_rows h4 (n + 2 + 1) 0 (S.c + 1) (2 ^ S.n)) (n + 2) (.inl (7, 2 ^ S.n, .inr (.inr (.inr (.inr fun j => if j < 2 ^ S.n then some (n + 2 + 1 + j) else none))))) = h5
  have eG : g_nG h4 (n + 1 + 1) 64 25 (iI ((2 ^ S.n : Nat) : Int)) (iI ((S.c + 1 : Nat) : Int)) = some (n + 2, h5, n + 2 + 1 + 2 ^ S.n) := by
    unfold g_nG
    rw [k1, k2, if_pos ⟨by rw [show (0 : Int32) = iI 0 from rfl, iI_lt (by omega) (by omega) (by omega) (by omega)]; omega, by rw [show (0 : Int32) = iI 0 from rfl, iI_lt (by omega) (by omega) (by omega) (by omega)]; omega, h64, by omega⟩, ← e5]
  have s5 : ∀ x, x < n + 2 → h5 x = h4 x := fun x hx => by rw [← e5, g_up_n (by omega), rows_n _ (by omega)]
  have u5 : gPas h n h5 (n + 2 + 1 + 2 ^ S.n) noD := ⟨by omega, fun x hx => by rw [← e5, g_up_n (by omega), rows_n _ (by omega), same x (by omega) (by omega)]; exact F x (by omega), fun x hx _ => by rw [s5 x (by omega), same x (by omega) (by omega)]⟩
  have v5 : dvI S b h n st 0 0 h5 (n + 2 + 1 + 2 ^ S.n) := ⟨u5, by rw [s5 _ (by omega)]; exact q4, ⟨_, by rw [s5 _ (by omega)]; exact q4a, fun s hs => absurd hs (Nat.not_lt_zero s)⟩, by rw [← e5, g_up_s], fun s hs => ⟨fun _ => 0, by rw [← e5, g_up_n (by omega)]; exact rows_s _ s hs, fun e he hh => by omega⟩⟩
  obtain ⟨h', u', e6⟩ := r34_loop F hS hw (2 ^ S.n) 0 gN h5 (by omega) (by unfold gN; omega) v5
  have e6' : gL2 (f_X8_run_L34 n (iI S.c) (iI (2 ^ S.n - 1 : Nat)) (n + 2) (n + 2 + 1 + 2 ^ S.n)) gN (0 : Int32) h5 = some (iI (Tz S b (2 ^ S.n - 1) S.c), h', n + 2 + 1 + 2 ^ S.n) := e6
  refine ⟨h', _, u', ?_⟩
  rw [fA_at q4 rfl, gB_s, o4, gB_s, a_cells hS4, gB_s, gB_s, o4, gB_s, a_size hS4, gB_s, fI2 S.n (by omega), ef, eg, eh, eG, gT3_s, e6', gT3_s]
end DV
