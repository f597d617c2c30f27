/-! THE SETUP: what it says; the reference's parser -/
theorem gT7_s {A B C E F G I D : Type} {a : A} {b : B} {c : C} {d : E} {e : F} {f : G} {g : I} {K : A → B → C → E → F → G → I → Option D} : gT7 (some (a, b, c, d, e, f, g)) K = K a b c d e f g := rfl
theorem gT8_s {A B C E F G I J D : Type} {a : A} {b : B} {c : C} {d : E} {e : F} {f : G} {g : I} {j : J} {K : A → B → C → E → F → G → I → J → Option D} : gT8 (some (a, b, c, d, e, f, g, j)) K = K a b c d e f g j := rfl
abbrev gEr (α : Type) : Type := (Nat × Nat) ⊕ α
def bE {α β : Type} (x : gEr α) (K : α → gEr β) : gEr β := match x with | .inl e => .inl e | .inr a => K a
def pNum (B : Nat → Int) (L : Nat) (t : gTk) (lo hi : Int) : gEr (Int × gTk) := if t.k = 2 then (if lo ≤ t.v ∧ t.v ≤ hi then .inr (t.v, tkZ B L t.e) else .inl (2, t.s)) else .inl (1, t.s)
def pSem (B : Nat → Int) (L : Nat) (t : gTk) : gEr gTk := if t.k = 3 ∧ B t.s = 59 then .inr (tkZ B L t.e) else .inl (1, t.s)
def pVal (B : Nat → Int) (L : Nat) : Nat → Nat → gTk → (Nat → Int) → gEr (gTk × (Nat → Int))
  | 0, _, t, f => .inr (t, f)
  | d + 1, k, t, f => bE (pNum B L t 0 9) fun r => pVal B L d (k + 1) r.2 (fun j => if j = k then r.1 else f j)
def nmL (B : Nat → Int) (s wl : Nat) : List Int := (List.range wl).map fun j => B (s + j)
def addS (S : gS) (f : Nat → Int) (nm : List Int) : gS := (S.c, S.n + 1, S.ow, (fun s => if s = S.n then f else S.v s), fun s => if s = S.n then nm else S.nm s)
def pNam (B : Nat → Int) (L : Nat) (S : gS) (t : gTk) : gEr gTk :=
  if t.k = 1 then (if t.e - t.s ≤ 6 then (if snZ S (t.e - t.s) (fun j => B (t.s + j)) S.n 0 = -1 then .inr (tkZ B L t.e) else .inl (3, t.s)) else .inl (3, t.s)) else .inl (1, t.s)
def pSib (B : Nat → Int) (L : Nat) (S : gS) (t : gTk) : gEr (gTk × gS) :=
  if S.n = 6 then .inl (4, t.s) else
  bE (pNam B L S (tkZ B L t.e)) fun t2 => bE (pVal B L S.c 0 t2 fun _ => 0) fun r => bE (pSem B L r.1) fun t4 => .inr (t4, addS S r.2 (nmL B (tkZ B L t.e).s ((tkZ B L t.e).e - (tkZ B L t.e).s)))
def pSibs (B : Nat → Int) (L : Nat) : Nat → gTk → gS → gEr gS
  | 0, t, _ => .inl (1, t.s)
  | d + 1, t, S => if wdIs B t 2 = true then bE (pSib B L S t) fun r => if r.1.k = 0 then .inr r.2 else pSibs B L d r.1 r.2 else .inl (1, t.s)
def pSet (B : Nat → Int) (L : Nat) : gEr gS :=
  if wdIs B (tkZ B L 0) 1 = true then bE (pNum B L (tkZ B L (tkZ B L 0).e) 1 24) fun r => bE (pSem B L r.2) fun t3 => pSibs B L 8 t3 (r.1.toNat, 0, (fun _ => -1), (fun _ _ => 0), fun _ => []) else .inl (1, (tkZ B L 0).s)
def WFp (S : gS) : Prop := (1 ≤ S.c ∧ S.c ≤ 24) ∧ S.n ≤ 6 ∧ (∀ k, k < S.c → S.ow k = -1) ∧ (∀ s, s < S.n → ∀ k, k < S.c → 0 ≤ S.v s k ∧ S.v s k ≤ 9) ∧ ∀ s, s < S.n → (1 ≤ (S.nm s).length ∧ (S.nm s).length ≤ 6) ∧ ∀ i, i < (S.nm s).length → 97 ≤ (S.nm s).getD i 0 ∧ (S.nm s).getD i 0 ≤ 122
theorem WFp.wf {S : gS} (h : WFp S) (hn : 1 ≤ S.n) : WF S := ⟨h.1, ⟨hn, h.2.1⟩, fun k hk => by have := h.2.2.1 k hk; omega, h.2.2.2.1, h.2.2.2.2⟩
theorem nmL_l {B : Nat → Int} {s wl : Nat} : (nmL B s wl).length = wl := by simp [nmL]
theorem nmL_g {B : Nat → Int} {s wl i : Nat} (hi : i < wl) : (nmL B s wl).getD i 0 = B (s + i) := by
  simp [nmL, List.getD, hi]
theorem addS_wf {S : gS} {f : Nat → Int} {B : Nat → Int} {s wl : Nat} (h : WFp S) (hn : S.n ≤ 5) (hf : ∀ k, k < S.c → 0 ≤ f k ∧ f k ≤ 9) (h1 : 1 ≤ wl ∧ wl ≤ 6) (h2 : ∀ i, i < wl → smB (B (s + i))) : WFp (addS S f (nmL B s wl)) := by
  refine ⟨h.1, by show S.n + 1 ≤ 6; omega, h.2.2.1, fun a ha k hk => ?_, fun a ha => ?_⟩
  · have ha : a < S.n + 1 := ha
    show 0 ≤ (if a = S.n then f else S.v a) k ∧ (if a = S.n then f else S.v a) k ≤ 9
    by_cases z : a = S.n
    · rw [if_pos z]; exact hf k hk
    · rw [if_neg z]; exact h.2.2.2.1 a (by omega) k hk
  · have ha : a < S.n + 1 := ha
    show (1 ≤ (if a = S.n then nmL B s wl else S.nm a).length ∧ (if a = S.n then nmL B s wl else S.nm a).length ≤ 6) ∧ ∀ i, i < (if a = S.n then nmL B s wl else S.nm a).length → 97 ≤ (if a = S.n then nmL B s wl else S.nm a).getD i 0 ∧ (if a = S.n then nmL B s wl else S.nm a).getD i 0 ≤ 122
    by_cases z : a = S.n
    · rw [if_pos z, nmL_l]
      refine ⟨h1, fun i hi => ?_⟩
      rw [nmL_g hi]; exact h2 i hi
    · rw [if_neg z]; exact h.2.2.2.2 a (by omega)
theorem pNum_ok {B : Nat → Int} {L : Nat} {t : gTk} {lo hi v : Int} {t' : gTk} (h : pNum B L t lo hi = .inr (v, t')) : t.k = 2 ∧ lo ≤ t.v ∧ t.v ≤ hi ∧ v = t.v ∧ t' = tkZ B L t.e := by
  unfold pNum at h
  split at h
  · split at h
    · cases h; rename_i a b; exact ⟨a, b.1, b.2, rfl, rfl⟩
    · cases h
  · cases h
theorem pVal_b {B : Nat → Int} {L : Nat} : ∀ d k t f t' f', pVal B L d k t f = .inr (t', f') → (∀ i, i < k → 0 ≤ f i ∧ f i ≤ 9) → tkG B L t → tkG B L t' ∧ ∀ i, i < k + d → 0 ≤ f' i ∧ f' i ≤ 9 := by
  intro d
  induction d with
  | zero =>
    intro k t f t' f' h hf ht
    cases h
    exact ⟨ht, fun i hi => hf i (by omega)⟩
  | succ d ih =>
    intro k t f t' f' h hf ht
    simp only [pVal] at h
    cases hp : pNum B L t 0 9 with
    | inl e => rw [hp] at h; cases h
    | inr r =>
      rw [hp] at h
      obtain ⟨a1, a2, a3, a4, a5⟩ := pNum_ok hp
      have := ih (k + 1) r.2 _ t' f' h (fun i hi => by
        by_cases z : i = k
        · rw [if_pos z, a4]; omega
        · rw [if_neg z]; exact hf i (by omega)) (by rw [a5]; exact tkG_z ht.2.1)
      exact ⟨this.1, fun i hi => this.2 i (by omega)⟩
section PM
variable {B : Nat → Int} {L : Nat} {fc g : Nat → Int32} {x : gV} {t : gTk} {m : Nat → Int32} {S : gS} {iE iP iA iY iF iV : Int32}
def tkR (B : Nat → Int) (t : gTk) (iA iY iF iV : Int32) : Prop := iA = iI t.e ∧ iY = iI (kM B t : Nat) ∧ iF = iI t.s ∧ (t.k = 2 → iV = iI t.v)
theorem mTkR (hB : byR fc g B L) (hL : L ≤ 600) (ht : tkG B L t) {iY iF iV : Int32} : ∃ iA' iY' iF' iV', f_X6_token g (iI L) (iI t.e) iY iF iV = some (iA', iY', iF', iV') ∧ tkR B (tkZ B L t.e) iA' iY' iF' iV' := by
  obtain ⟨iV', e1, e2⟩ := mTk (iY := iY) (iF := iF) (iV := iV) hB hL ht.2.1
  exact ⟨_, _, _, iV', e1, rfl, rfl, rfl, e2⟩
theorem kM_2 (hk : t.k ≤ 4) : iI (kM B t : Nat) = (2 : Int32) ↔ t.k = 2 := by
  rw [iI_2, iI_eq (by omega) (by unfold kM; split <;> omega) (by omega) (by omega)]
  unfold kM; split <;> omega
theorem kM_3 (hk : t.k ≤ 4) : iI (kM B t : Nat) = (3 : Int32) ↔ (t.k = 3 ∧ B t.s = 59) := by
  rw [iI_3, iI_eq (by omega) (by unfold kM; split <;> omega) (by omega) (by omega)]
  unfold kM; split <;> omega
theorem kM_0 (hk : t.k ≤ 4) : iI (kM B t : Nat) = (0 : Int32) ↔ t.k = 0 := by
  rw [show (0 : Int32) = iI 0 from rfl, iI_eq (by omega) (by unfold kM; split <;> omega) (by omega) (by omega)]
  unfold kM; split <;> omega
theorem mNum (hB : byR fc g B L) (hL : L ≤ 600) (ht : tkG B L t) (hr : tkR B t iA iY iF iV) {to_ : Nat} (hto : to_ < 2120) {lo hi : Int} (hlo : -100 ≤ lo ∧ lo ≤ 100) (hhi : -100 ≤ hi ∧ hi ≤ 100) : match pNum B L t lo hi with
    | .inl (c, p) => f_X6_parseRanged (iI to_) (iI lo) (iI hi) m g (iI L) iE iP iA iY iF iV = some ((0 : Int32), m, iI c, iI p, iA, iY, iF, iV)
    | .inr (v, t') => ∃ iA' iY' iF' iV', f_X6_parseRanged (iI to_) (iI lo) (iI hi) m g (iI L) iE iP iA iY iF iV = some ((1 : Int32), upd m to_ (iI v), iE, iP, iA', iY', iF', iV') ∧ tkR B t' iA' iY' iF' iV' := by
  obtain ⟨r1, r2, r3, r4⟩ := hr
  have hk := ht.2.2.1
  have hv := ht.2.2.2.1
  by_cases k2 : t.k = 2
  · by_cases q : lo ≤ t.v ∧ t.v ≤ hi
    · have e : pNum B L t lo hi = .inr (t.v, tkZ B L t.e) := by unfold pNum; rw [if_pos k2, if_pos q]
      obtain ⟨a1, a2, a3, a4, e1, e2⟩ := mTkR hB hL ht (iY := iY) (iF := iF) (iV := iI t.v)
      rw [e]
      refine ⟨a1, a2, a3, a4, ?_, e2⟩
      unfold f_X6_parseRanged
      rw [if_pos (by rw [r2]; exact (kM_2 hk).mpr k2), r4 k2, mBt_ok (by omega) (by omega) (by omega) q, gB_s, if_neg (by decide), wa_at (j := to_) rfl hto (by decide), gB_s, r1, e1, gT4_s]
    · have e : pNum B L t lo hi = .inl (2, t.s) := by unfold pNum; rw [if_pos k2, if_neg q]
      rw [e]
      show f_X6_parseRanged (iI to_) (iI lo) (iI hi) m g (iI L) iE iP iA iY iF iV = some ((0 : Int32), m, (2 : Int32), iI t.s, iA, iY, iF, iV)
      unfold f_X6_parseRanged f_X6_wrong
      rw [if_pos (by rw [r2]; exact (kM_2 hk).mpr k2), r4 k2, mBt_no (by omega) (by omega) (by omega) q, gB_s, if_pos rfl, gT3_s, if_pos (.inl rfl), r3]
  · have e : pNum B L t lo hi = .inl (1, t.s) := by unfold pNum; rw [if_neg k2]
    rw [e]
    show f_X6_parseRanged (iI to_) (iI lo) (iI hi) m g (iI L) iE iP iA iY iF iV = some ((0 : Int32), m, (1 : Int32), iI t.s, iA, iY, iF, iV)
    unfold f_X6_parseRanged f_X6_wrong
    rw [if_neg (by rw [r2]; exact fun w => k2 ((kM_2 hk).mp w)), gT3_s, if_pos (.inl rfl), r3]
theorem mSem (hB : byR fc g B L) (hL : L ≤ 600) (ht : tkG B L t) (hr : tkR B t iA iY iF iV) : match pSem B L t with
    | .inl (c, p) => f_X6_semicolon g (iI L) iE iP iA iY iF iV = some ((0 : Int32), iI c, iI p, iA, iY, iF, iV)
    | .inr t' => ∃ iA' iY' iF' iV', f_X6_semicolon g (iI L) iE iP iA iY iF iV = some ((1 : Int32), iE, iP, iA', iY', iF', iV') ∧ tkR B t' iA' iY' iF' iV' := by
  obtain ⟨r1, r2, r3, r4⟩ := hr
  have hk := ht.2.2.1
  by_cases q : t.k = 3 ∧ B t.s = 59
  · have e : pSem B L t = .inr (tkZ B L t.e) := by unfold pSem; rw [if_pos q]
    obtain ⟨a1, a2, a3, a4, e1, e2⟩ := mTkR hB hL ht (iY := iY) (iF := iF) (iV := iV)
    rw [e]
    refine ⟨a1, a2, a3, a4, ?_, e2⟩
    unfold f_X6_semicolon
    rw [if_pos (by rw [r2]; exact (kM_3 hk).mpr q), r1, e1, gT4_s]
  · have e : pSem B L t = .inl (1, t.s) := by unfold pSem; rw [if_neg q]
    rw [e]
    show f_X6_semicolon g (iI L) iE iP iA iY iF iV = some ((0 : Int32), (1 : Int32), iI t.s, iA, iY, iF, iV)
    unfold f_X6_semicolon f_X6_wrong
    rw [if_neg (by rw [r2]; exact fun w => q ((kM_3 hk).mp w)), gT3_s, if_pos (.inl rfl), r3]
theorem mVal (hB : byR fc g B L) (hL : L ≤ 600) {c n : Nat} (hc : c ≤ 24) (hn : n ≤ 5) : ∀ (d k fu : Nat) (t : gTk) (f : Nat → Int) (m : Nat → Int32) (iE iP iA iY iF iV : Int32), k + d = c → d < fu → m 0 = iI c → tkG B L t → tkR B t iA iY iF iV → (∀ i, i < k → m (26 + 31 * n + 7 + i) = iI (f i)) → match pVal B L d k t f with
    | .inl (e, p) => ∃ m' a1 a2 a3 a4, gL8 (f_X6_parseNewSibling_L131 (iI (26 + 31 * n : Nat)) g (iI L)) fu (iI k) m iE iP iA iY iF iV = some ((0 : Int32), m', iI e, iI p, a1, a2, a3, a4) ∧ ∀ j, 212 ≤ j → m' j = m j
    | .inr (t', f') => ∃ m' a1 a2 a3 a4, gL8 (f_X6_parseNewSibling_L131 (iI (26 + 31 * n : Nat)) g (iI L)) fu (iI k) m iE iP iA iY iF iV = f_X6_parseNewSibling_J165 m' g (iI L) iE iP a1 a2 a3 a4 ∧ tkR B t' a1 a2 a3 a4 ∧ (∀ i, i < c → m' (26 + 31 * n + 7 + i) = iI (f' i)) ∧ ∀ j, j < 26 + 31 * n + 7 ∨ 26 + 31 * n + 7 + c ≤ j → m' j = m j := by
  intro d
  induction d with
  | zero =>
    intro k fu t f m iE iP iA iY iF iV e hfu hm ht hr hf
    obtain ⟨fu, rfl⟩ : ∃ k', fu = k' + 1 := ⟨fu - 1, by omega⟩
    refine ⟨m, iA, iY, iF, iV, ?_, hr, fun i hi => hf i (by omega), fun _ _ => rfl⟩
    show f_X6_parseNewSibling_L131 (iI (26 + 31 * n : Nat)) g (iI L) (gL8 (f_X6_parseNewSibling_L131 (iI (26 + 31 * n : Nat)) g (iI L)) fu) _ _ _ _ _ _ _ _ = _
    unfold f_X6_parseNewSibling_L131
    rw [show g_ra 2120 m (0 : Int32) = some (iI c) from ra_at (a := 0) (j := 0) rfl (by decide) (by decide) hm, gB_s, if_pos (by rw [iI_le (by omega) (by omega) (by omega) (by omega)]; omega)]
  | succ d ih =>
    intro k fu t f m iE iP iA iY iF iV e hfu hm ht hr hf
    obtain ⟨fu, rfl⟩ : ∃ k', fu = k' + 1 := ⟨fu - 1, by omega⟩
    have hnum := mNum (iE := iE) (iP := iP) (m := m) hB hL ht hr (to_ := 26 + 31 * n + 7 + k) (by omega) (lo := 0) (hi := 9) (by omega) (by omega)
    have e7 : iI (26 + 31 * n : Nat) + (7 : Int32) + iI k = iI ((26 + 31 * n + 7 + k : Nat) : Int) := by rw [iI_7, iI_add, iI_add]; congr 1
    simp only [pVal]
    cases hp : pNum B L t 0 9 with
    | inl er =>
      obtain ⟨ec, p⟩ := er
      rw [hp] at hnum
      refine ⟨m, iA, iY, iF, iV, ?_, fun _ _ => rfl⟩
      show f_X6_parseNewSibling_L131 (iI (26 + 31 * n : Nat)) g (iI L) (gL8 (f_X6_parseNewSibling_L131 (iI (26 + 31 * n : Nat)) g (iI L)) fu) _ _ _ _ _ _ _ _ = _
      unfold f_X6_parseNewSibling_L131
      rw [show g_ra 2120 m (0 : Int32) = some (iI c) from ra_at (a := 0) (j := 0) rfl (by decide) (by decide) hm, gB_s, if_neg (by rw [iI_le (by omega) (by omega) (by omega) (by omega)]; omega), e7]
      have hnum' : f_X6_parseRanged (iI (26 + 31 * n + 7 + k : Nat)) (0 : Int32) (9 : Int32) m g (iI L) iE iP iA iY iF iV = some ((0 : Int32), m, iI ec, iI p, iA, iY, iF, iV) := hnum
      rw [hnum', gT8_s, if_pos rfl]
    | inr r =>
      obtain ⟨v, t2⟩ := r
      rw [hp] at hnum
      obtain ⟨a1, a2, a3, a4, e1, e2⟩ := hnum
      obtain ⟨b1, b2, b3, b4, b5⟩ := pNum_ok hp
      have e1' : f_X6_parseRanged (iI (26 + 31 * n + 7 + k : Nat)) (0 : Int32) (9 : Int32) m g (iI L) iE iP iA iY iF iV = some ((1 : Int32), upd m (26 + 31 * n + 7 + k) (iI v), iE, iP, a1, a2, a3, a4) := e1
      have ih := ih (k + 1) fu t2 (fun j => if j = k then v else f j) (upd m (26 + 31 * n + 7 + k) (iI v)) iE iP a1 a2 a3 a4 (by omega) (by omega) (by unfold upd; rw [if_neg (by omega)]; exact hm) (by rw [b5]; exact tkG_z ht.2.1) e2 (fun i hi => by
        unfold upd
        by_cases z : i = k
        · subst z; rw [if_pos rfl, if_pos rfl]
        · rw [if_neg (by omega), if_neg z]; exact hf i (by omega))
      have step : gL8 (f_X6_parseNewSibling_L131 (iI (26 + 31 * n : Nat)) g (iI L)) (fu + 1) (iI k) m iE iP iA iY iF iV = gL8 (f_X6_parseNewSibling_L131 (iI (26 + 31 * n : Nat)) g (iI L)) fu (iI (k + 1 : Nat)) (upd m (26 + 31 * n + 7 + k) (iI v)) iE iP a1 a2 a3 a4 := by
        show f_X6_parseNewSibling_L131 (iI (26 + 31 * n : Nat)) g (iI L) (gL8 (f_X6_parseNewSibling_L131 (iI (26 + 31 * n : Nat)) g (iI L)) fu) _ _ _ _ _ _ _ _ = _
        generalize gL8 (f_X6_parseNewSibling_L131 (iI (26 + 31 * n : Nat)) g (iI L)) fu = r
        unfold f_X6_parseNewSibling_L131
        rw [show g_ra 2120 m (0 : Int32) = some (iI c) from ra_at (a := 0) (j := 0) rfl (by decide) (by decide) hm, gB_s, if_neg (by rw [iI_le (by omega) (by omega) (by omega) (by omega)]; omega), e7, e1', gT8_s, if_neg (by decide), iI_1, iI_add, Int.natCast_add]
        rfl
      rw [step]
      show match pVal B L d (k + 1) t2 (fun j => if j = k then v else f j) with | .inl (e, p) => _ | .inr (t', f') => _
      cases hv : pVal B L d (k + 1) t2 (fun j => if j = k then v else f j) with
      | inl er =>
        obtain ⟨ec, p⟩ := er
        rw [hv] at ih
        obtain ⟨m', c1, c2, c3, c4, d1, d2⟩ := ih
        exact ⟨m', c1, c2, c3, c4, d1, fun j hj => by rw [d2 j hj]; unfold upd; rw [if_neg (by omega)]⟩
      | inr rr =>
        obtain ⟨t', f'⟩ := rr
        rw [hv] at ih
        obtain ⟨m', c1, c2, c3, c4, d1, d2, d3, d4⟩ := ih
        exact ⟨m', c1, c2, c3, c4, d1, d2, d3, fun j hj => by rw [d4 j hj]; unfold upd; rw [if_neg (by omega)]⟩
end PM
