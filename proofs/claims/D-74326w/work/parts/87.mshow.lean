set_option maxRecDepth 100000
set_option maxHeartbeats 4000000
/-! what is shown: plain, and the model's saying -/
theorem iI_div {a b : Int} (ha : 0 ≤ a ∧ a < 2147483648) (hb : 0 < b ∧ b < 2147483648) : iI a / iI b = iI (a / b) := by
  have h := Int32.ofInt_tdiv (a := a) (b := b) (by show (-2147483648 : Int) ≤ a; omega) (by show a ≤ 2147483647; omega) (by show (-2147483648 : Int) ≤ b; omega) (by show b ≤ 2147483647; omega)
  rw [Int.tdiv_eq_ediv_of_nonneg ha.1] at h
  exact h.symm
/-- a number's digits, from the k-th on -/
def dgR (n : Int) : Nat → List Int
  | 0 => [48 + n % 10]
  | k + 1 => (48 + n / 10 ^ (k + 1) % 10) :: dgR n k
def dgK (n : Int) : Nat := if n < 10 then 0 else if n < 100 then 1 else if n < 1000 then 2 else 3
def numS (v : Int) : List Int := if v < 0 then 45 :: dgR (-v) (dgK (-v)) else dgR v (dgK v)
theorem dgR_len (n : Int) : ∀ k, (dgR n k).length = k + 1
  | 0 => rfl
  | k + 1 => by show (dgR n k).length + 1 = k + 2; rw [dgR_len n k]
theorem dgK_le (n : Int) : dgK n ≤ 3 := by
  unfold dgK
  split
  · omega
  split
  · omega
  split <;> omega
theorem numS_len (v : Int) : (numS v).length ≤ 5 := by
  unfold numS
  split
  · rw [List.length_cons, dgR_len]; have := dgK_le (-v); omega
  · rw [dgR_len]; have := dgK_le v; omega
/-- a constant text -/
def wL (t : Nat) : List Int := (sByt.getD t []).map Int32.toInt
theorem wL_len (t : Nat) (h : t < 12) : (wL t).length = sLen.getD t 0 ∧ (wL t).length ≤ 6 := by
  rcases (show t = 0 ∨ t = 1 ∨ t = 2 ∨ t = 3 ∨ t = 4 ∨ t = 5 ∨ t = 6 ∨ t = 7 ∨ t = 8 ∨ t = 9 ∨ t = 10 ∨ t = 11 by omega) with e | e | e | e | e | e | e | e | e | e | e | e <;> subst e <;> exact ⟨rfl, by decide⟩
theorem wL_at : ∀ t : Fin 12, ∀ j : Fin 6, j.val < sLen.getD t.val 0 → sCh t.val j.val = iI ((wL t.val).getD j.val 0) := by decide
/-- what saying changes -/
def shEq (S S' : MS) : Prop := S'.2.1 = S.2.1 ∧ S'.2.2.2 = S.2.2.2 ∧ (∀ k, k ≠ 49 → S'.1 k = S.1 k) ∧ ∀ k, k ≠ 48 → S'.2.2.1 k = S.2.2.1 k
theorem shEq.refl (S : MS) : shEq S S := ⟨rfl, rfl, fun _ _ => rfl, fun _ _ => rfl⟩
theorem shEq.trans {S S' S'' : MS} (h : shEq S S') (g : shEq S' S'') : shEq S S'' := ⟨g.1.trans h.1, g.2.1.trans h.2.1, fun k a => (g.2.2.1 k a).trans (h.2.2.1 k a), fun k a => (g.2.2.2 k a).trans (h.2.2.2 k a)⟩
theorem shEq.forms {S S' : MS} {F : Nat → List tm} (h : shEq S S') (hF : mForms S F) : mForms S' F := by
  intro s hs
  rw [h.2.2.2 0 (by omega), h.2.2.2 1 (by omega)]
  exact hF s hs
theorem shEq.laid {S S' : MS} {F : Nat → List tm} (h : shEq S S') (hL : mLaid S F) : mLaid S' F := hL.rd (h.2.2.1 21 (by omega)) (by rw [h.2.1])
theorem m_says {post : Unit → MS → Prop} {S : MS} {L : List Int} {c : Int} (hL : mShown S L) (hl : L.length < 3000) (h : ∀ S', shEq S S' → mShown S' (L ++ [c]) → post () S') : wX1_says post S (iI c) := by
  obtain ⟨h1, h2, h3⟩ := hL
  unfold wX1_says
  rw [h2]
  refine ⟨iI_in (by omega) (by omega) (by omega), ?_⟩
  rw [nat_i (by omega), show iI (L.length : Int) + 1 = iI ((L.length + 1 : Nat) : Int) from iI_add L.length 1]
  refine h _ ⟨rfl, rfl, fun k a => up_ne _ _ _ a, fun k a => up_ne S.2.2.1 48 _ a⟩ ⟨by rw [len1]; omega, by rw [len1]; exact mI_at _ _ _, fun k d hk => ?_⟩
  show (mA S 48 _).2.2.1 48 k = _
  rw [mA_at]
  by_cases e : k < L.length
  · rw [List.getElem?_append_left e] at hk
    rw [upd_ne _ _ _ (by omega)]; exact h3 k d hk
  · rw [List.getElem?_append_right (by omega)] at hk
    have : k - L.length = 0 := by
      have := (List.getElem?_eq_some_iff.mp hk).1
      simp at this
      omega
    rw [this] at hk
    cases hk
    rw [show k = L.length by omega, upd_eq]
theorem m_sw_2 {post : Unit → MS → Prop} {S0 : MS} {t : Nat} {L : List Int} (ht : t < 12) (hl : L.length + 6 ≤ 3000) (h : ∀ S', shEq S0 S' → mShown S' (L ++ wL t) → post () S') : ∀ (m k : Nat) (S : MS), k + m = (wL t).length → shEq S0 S → mShown S (L ++ (wL t).take k) → wX1_saysWord_2 post (m + 1) t (iI k) S := by
  obtain ⟨w1, w2⟩ := wL_len t ht
  intro m
  induction m with
  | zero =>
    intro k S hk hS hL
    unfold wX1_saysWord_2
    refine ⟨ht, ?_⟩
    rw [nI_i, ← w1]
    refine b_t (by simp (disch := omega) only [iLit, lLit, iI_add, iI_sub, iI_mul, iI_neg, lI_add, lI_sub, lI_mul, lI_neg, nI_i, lI_i, iI_l, iI_nat, iI_lt, iI_le, iI_eq, lI_lt, lI_le, lI_eq] <;> omega) ?_
    rw [List.take_of_length_le (by omega)] at hL
    exact h S hS hL
  | succ m ih =>
    intro k S hk hS hL
    unfold wX1_saysWord_2
    refine ⟨ht, ?_⟩
    rw [nI_i, ← w1]
    refine b_f (by simp (disch := omega) only [iLit, lLit, iI_add, iI_sub, iI_mul, iI_neg, lI_add, lI_sub, lI_mul, lI_neg, nI_i, lI_i, iI_l, iI_nat, iI_lt, iI_le, iI_eq, lI_lt, lI_le, lI_eq] <;> omega) ⟨ht, iI_in (by omega) (by omega) (by omega), ?_⟩
    have hc := wL_at ⟨t, ht⟩ ⟨k, by omega⟩ (by show k < sLen.getD t 0; omega)
    simp only [] at hc
    rw [nat_i (by omega), hc]
    refine m_says hL (by rw [List.length_append, List.length_take]; omega) (fun S' e1 e2 => ?_)
    rw [show iI (k : Int) + 1 = iI ((k + 1 : Nat) : Int) from iI_add k 1]
    refine ih (k + 1) S' (by omega) (hS.trans e1) ?_
    rw [List.append_assoc] at e2
    have e3 : (wL t).take (k + 1) = (wL t).take k ++ [(wL t).getD k 0] := by
      rw [List.take_add_one, List.getD_eq_getElem?_getD, List.getElem?_eq_getElem (by omega)]
      rfl
    rw [e3]; exact e2
theorem m_saysWord {post : Unit → MS → Prop} {S : MS} {t : Nat} {L : List Int} (ht : t < 12) (hL : mShown S L) (hl : L.length + 6 ≤ 3000) (h : ∀ S', shEq S S' → mShown S' (L ++ wL t) → post () S') : wX1_saysWord post S t :=
  ⟨(wL t).length + 1, m_sw_2 ht hl h (wL t).length 0 S (by omega) (shEq.refl S) (by rw [List.take_zero, List.append_nil]; exact hL)⟩
theorem ten_in {k : Nat} (h : k ≤ 3) : 1 ≤ (10 : Int) ^ k ∧ (10 : Int) ^ k ≤ 1000 := by
  rcases (show k = 0 ∨ k = 1 ∨ k = 2 ∨ k = 3 by omega) with e | e | e | e <;> subst e <;> decide
theorem m_sn_39 {post : Unit → MS → Prop} {S0 : MS} {n : Int} (hn : 0 ≤ n ∧ n ≤ 9999) : ∀ (k : Nat) (L : List Int) (S : MS), k ≤ 3 → shEq S0 S → mShown S L → L.length + k + 1 ≤ 3000 → (∀ S', shEq S0 S' → mShown S' (L ++ dgR n k) → post () S') → wX1_saysNumber_39 post (k + 2) (iI n) (iI (10 ^ k)) S
  | 0, L, S, _, hS, hL, hl, h => by
    unfold wX1_saysNumber_39
    refine b_f (by decide) ⟨by decide, ?_⟩
    show wX1_says _ S (48 + ((iI n / iI 1) - (iI n / iI 1) / iI 10 * iI 10))
    rw [iI_div (by omega) (by omega), Int.ediv_one, iI_rem (by omega) (by omega), Int.tmod_eq_emod_of_nonneg hn.1, show (48 : Int32) + iI (n % 10) = iI (48 + n % 10) from iI_add 48 (n % 10)]
    refine m_says hL (by omega) (fun S' e1 e2 => ?_)
    show wX1_saysNumber_39 post 1 (iI n) (iI 1 / iI 10) S'
    rw [iI_div (by omega) (by omega)]
    unfold wX1_saysNumber_39
    exact b_t (by decide) (h S' (hS.trans e1) e2)
  | k + 1, L, S, hk, hS, hL, hl, h => by
    have hp := ten_in hk
    have hp' := ten_in (show k ≤ 3 by omega)
    have e10 : (10 : Int) ^ (k + 1) = 10 ^ k * 10 := Int.pow_succ 10 k
    unfold wX1_saysNumber_39
    have hq : 0 ≤ n / 10 ^ (k + 1) ∧ n / 10 ^ (k + 1) ≤ n := ⟨Int.ediv_nonneg hn.1 (by omega), Int.ediv_le_self _ hn.1⟩
    refine b_f (by simp (disch := omega) only [iLit, lLit, iI_add, iI_sub, iI_mul, iI_neg, lI_add, lI_sub, lI_mul, lI_neg, nI_i, lI_i, iI_l, iI_nat, iI_lt, iI_le, iI_eq, lI_lt, lI_le, lI_eq] <;> omega) ⟨?_, ?_⟩
    · rw [show (0 : Int32) = iI 0 from rfl, iI_eq (by omega) (by omega) (by omega) (by omega)]; omega
    show wX1_says _ S (48 + ((iI n / iI (10 ^ (k + 1))) - (iI n / iI (10 ^ (k + 1))) / iI 10 * iI 10))
    rw [iI_div (by omega) (by omega), iI_rem (by omega) (by omega), Int.tmod_eq_emod_of_nonneg hq.1, show (48 : Int32) + iI (n / 10 ^ (k + 1) % 10) = iI (48 + n / 10 ^ (k + 1) % 10) from iI_add 48 _]
    refine m_says hL (by omega) (fun S' e1 e2 => ?_)
    show wX1_saysNumber_39 post (k + 2) (iI n) (iI (10 ^ (k + 1)) / iI 10) S'
    rw [iI_div (by omega) (by omega), show (10 : Int) ^ (k + 1) / 10 = 10 ^ k by rw [e10]; exact Int.mul_ediv_cancel _ (by omega)]
    refine m_sn_39 hn k _ S' (by omega) (hS.trans e1) e2 (by rw [len1]; omega) (fun S'' e3 e4 => h S'' e3 ?_)
    rw [List.append_assoc] at e4
    exact e4
theorem dgK_hi {n : Int} (hn : 0 ≤ n ∧ n ≤ 9999) : n / 10 ^ dgK n ≤ 9 := by
  unfold dgK
  split
  · show n / 1 ≤ 9; omega
  split
  · show n / 10 ≤ 9; omega
  split
  · show n / 100 ≤ 9; omega
  · show n / 1000 ≤ 9; omega
theorem dgK_lo {n : Int} {k : Nat} (hk : k < dgK n) : 10 ≤ n / 10 ^ k := by
  unfold dgK at hk
  split at hk
  · omega
  split at hk
  · have : k = 0 := by omega
    subst this; show 10 ≤ n / 1; omega
  split at hk
  · rcases (show k = 0 ∨ k = 1 by omega) with e | e <;> subst e
    · show 10 ≤ n / 1; omega
    · show 10 ≤ n / 10; omega
  · rcases (show k = 0 ∨ k = 1 ∨ k = 2 by omega) with e | e | e <;> subst e
    · show 10 ≤ n / 1; omega
    · show 10 ≤ n / 10; omega
    · show 10 ≤ n / 100; omega
theorem m_sn_23 {post : Unit → MS → Prop} {S : MS} {n : Int} (hn : 0 ≤ n ∧ n ≤ 9999) (h : ∃ k, wX1_saysNumber_39 post k (iI n) (iI (10 ^ dgK n)) S) : ∀ (m k : Nat), k + m = dgK n → wX1_saysNumber_23 post (m + 1) (iI n) (iI (10 ^ k)) S
  | 0, k, hk => by
    have hd := dgK_le n
    have hp := ten_in (show k ≤ 3 by omega)
    have hq : 0 ≤ n / 10 ^ k ∧ n / 10 ^ k ≤ n := ⟨Int.ediv_nonneg hn.1 (by omega), Int.ediv_le_self _ hn.1⟩
    unfold wX1_saysNumber_23
    have hh := dgK_hi hn
    rw [show dgK n = k by omega] at h hh
    refine ⟨?_, b_t ?_ h⟩
    · rw [show (0 : Int32) = iI 0 from rfl, iI_eq (by omega) (by omega) (by omega) (by omega)]; omega
    · rw [iI_div (by omega) (by omega), show (9 : Int32) = iI 9 from rfl, iI_le (by omega) (by omega) (by omega) (by omega)]; exact hh
  | m + 1, k, hk => by
    have hd := dgK_le n
    have hp := ten_in (show k ≤ 3 by omega)
    have hq : 0 ≤ n / 10 ^ k ∧ n / 10 ^ k ≤ n := ⟨Int.ediv_nonneg hn.1 (by omega), Int.ediv_le_self _ hn.1⟩
    have hh := dgK_lo (n := n) (k := k) (by omega)
    unfold wX1_saysNumber_23
    refine ⟨?_, b_f ?_ ?_⟩
    · rw [show (0 : Int32) = iI 0 from rfl, iI_eq (by omega) (by omega) (by omega) (by omega)]; omega
    · rw [iI_div (by omega) (by omega), show (9 : Int32) = iI 9 from rfl, iI_le (by omega) (by omega) (by omega) (by omega)]; omega
    · rw [show iI (10 ^ k) * (10 : Int32) = iI (10 ^ (k + 1)) from (iI_mul _ 10).trans (by rw [← Int.pow_succ])]
      exact m_sn_23 hn h m (k + 1) (by omega)
theorem m_sn_20 {post : Unit → MS → Prop} {S : MS} {n : Int} {L : List Int} (hn : 0 ≤ n ∧ n ≤ 9999) (hL : mShown S L) (hl : L.length + 4 ≤ 3000) (h : ∀ S', shEq S S' → mShown S' (L ++ dgR n (dgK n)) → post () S') : wX1_saysNumber_20 post (iI n) S := by
  have hd := dgK_le n
  exact ⟨dgK n + 1, m_sn_23 hn ⟨dgK n + 2, m_sn_39 hn (dgK n) L S hd (shEq.refl S) hL (by omega) h⟩ (dgK n) 0 (by omega)⟩
theorem m_saysNumber {post : Unit → MS → Prop} {S : MS} {v : Int} {L : List Int} (hv : -9999 ≤ v ∧ v ≤ 9999) (hL : mShown S L) (hl : L.length + 5 ≤ 3000) (h : ∀ S', shEq S S' → mShown S' (L ++ numS v) → post () S') : wX1_saysNumber post S (iI v) := by
  unfold numS at h
  unfold wX1_saysNumber
  rw [show (0 : Int32) = iI 0 from rfl, iI_le (by omega) (by omega) (by omega) (by omega)]
  refine ⟨fun e => ?_, fun e => ?_⟩
  · rw [if_neg (by omega)] at h
    unfold wX1_saysNumber_10
    rw [show (0 : Int32) = iI 0 from rfl, iI_le (by omega) (by omega) (by omega) (by omega)]
    exact b_t e (m_sn_20 (by omega) hL (by omega) h)
  · rw [if_pos (by omega)] at h
    refine m_says (c := 45) hL (by omega) (fun S' e1 e2 => ?_)
    unfold wX1_saysNumber_10
    rw [show (0 : Int32) = iI 0 from rfl, iI_le (by omega) (by omega) (by omega) (by omega), iI_neg]
    refine b_f e (m_sn_20 (by omega) e2 (by rw [len1]; omega) (fun S'' e3 e4 => h S'' (e1.trans e3) ?_))
    rw [List.append_assoc] at e4
    exact e4
theorem m_saysKind {post : Unit → MS → Prop} {S : MS} {k : Nat} {L : List Int} (hk : k ≤ 4) (hL : mShown S L) (hl : L.length + 6 ≤ 3000) (h : ∀ S', shEq S S' → mShown S' (L ++ wL k) → post () S') : wX1_saysKind post S (iI (k : Nat)) := by
  unfold wX1_saysKind
  rcases (show k = 0 ∨ k = 1 ∨ k = 2 ∨ k = 3 ∨ k = 4 by omega) with e | e | e | e | e <;> subst e
  · exact b_t rfl (m_saysWord (by omega) hL hl h)
  · exact b_f (by decide) (b_t rfl (m_saysWord (by omega) hL hl h))
  · exact b_f (by decide) (b_f (by decide) (b_t rfl (m_saysWord (by omega) hL hl h)))
  · exact b_f (by decide) (b_f (by decide) (b_f (by decide) (b_t rfl (m_saysWord (by omega) hL hl h))))
  · exact b_f (by decide) (b_f (by decide) (b_f (by decide) (b_f (by decide) (m_saysWord (by omega) hL hl h))))
/-! a form is spelled -/
def spB (t : tm) : List Int := if t.2.2.1 = 0 ∧ t.2.2.2 = gtS t.1 t.2.1 then [] else wL 6 ++ (numS t.2.2.1 ++ (wL 7 ++ numS t.2.2.2))
def spT (t : tm) : List Int := (if t.1 = 1 then [] else numS t.1) ++ (wL t.2.1.toNat ++ spB t)
def spA : List tm → Nat → List Int
  | [], _ => []
  | t :: ts, i => (if i = 0 then [] else [43]) ++ (spT t ++ spA ts (i + 1))
theorem spT_len {t : tm} (h : vT t) : (spT t).length ≤ 40 := by
  unfold spT spB
  have h1 := numS_len t.1
  have h2 := numS_len t.2.2.1
  have h3 := numS_len t.2.2.2
  have h4 := (wL_len t.2.1.toNat (by have := h.2.2.2.1; omega)).2
  have h6 := (wL_len 6 (by omega)).2
  have h7 := (wL_len 7 (by omega)).2
  rw [List.length_append, List.length_append]
  split
  · split
    · simp only [List.length_nil]; omega
    · simp only [List.length_append, List.length_nil]; omega
  · split
    · simp only [List.length_nil]; omega
    · simp only [List.length_append]; omega
theorem m_sp_100 {K17 : Int32 → Int32 → MS → Prop} {post : Int32 → MS → Prop} {S0 S : MS} {F : Nat → List tm} {s i : Nat} {t : tm} {L : List Int} (hF : mForms S0 F) (hs : s < 4) (hi : i < 5) (ht : (F s)[i]? = some t) (hS : shEq S0 S) (hL : mShown S L) (hl : L.length + 30 ≤ 3000) (h : ∀ S', shEq S0 S' → mShown S' (L ++ (wL 6 ++ (numS t.2.2.1 ++ (wL 7 ++ numS t.2.2.2)))) → K17 (iI s) (iI ((i + 1 : Nat) : Int)) S') : wX1_spell_100 K17 post (iI s) (iI i) S := by
  obtain ⟨f1, f2, f3, f4⟩ := (hF s hs).2.2 i t ht
  have hvt := (hF s hs).2.1.2 t (List.mem_of_getElem? ht)
  have hlo := hvt.lo
  have h6 := (wL_len 6 (by omega)).2
  have h7 := (wL_len 7 (by omega)).2
  have hn := numS_len t.2.2.1
  unfold wX1_spell_100
  refine m_saysWord (by omega) hL (by omega) (fun S1 e1 l1 => ?_)
  refine m_of (k := 2) (by omega) hi (by omega) ?_
  rw [(hS.trans e1).2.2.2 1 (by omega), f3]
  refine m_saysNumber (by omega) l1 (by rw [List.length_append]; omega) (fun S2 e2 l2 => ?_)
  refine m_saysWord (by omega) l2 (by rw [List.length_append, List.length_append]; omega) (fun S3 e3 l3 => ?_)
  refine m_of (k := 3) (by omega) hi (by omega) ?_
  rw [(((hS.trans e1).trans e2).trans e3).2.2.2 1 (by omega), f4]
  refine m_saysNumber (by omega) l3 (by rw [List.length_append, List.length_append, List.length_append]; omega) (fun S4 e4 l4 => ?_)
  unfold wX1_spell_136
  rw [show iI (i : Int) + 1 = iI ((i + 1 : Nat) : Int) from iI_add i 1]
  refine h S4 ((((hS.trans e1).trans e2).trans e3).trans e4) ?_
  simp only [List.append_assoc] at l4
  exact l4
theorem m_sp_55 {K17 : Int32 → Int32 → MS → Prop} {post : Int32 → MS → Prop} {S0 S : MS} {F : Nat → List tm} {s i : Nat} {t : tm} {L : List Int} (hF : mForms S0 F) (hs : s < 4) (hi : i < 5) (ht : (F s)[i]? = some t) (hS : shEq S0 S) (hL : mShown S L) (hl : L.length + 40 ≤ 3000) (h : ∀ S', shEq S0 S' → mShown S' (L ++ (wL t.2.1.toNat ++ spB t)) → K17 (iI s) (iI ((i + 1 : Nat) : Int)) S') : wX1_spell_55 K17 post (iI s) (iI i) (iI t.1) S := by
  obtain ⟨f1, f2, f3, f4⟩ := (hF s hs).2.2 i t ht
  have hvt := (hF s hs).2.1.2 t (List.mem_of_getElem? ht)
  have hlo := hvt.lo
  have b1 := hvt.1
  have b2 := hvt.2.1
  have b3 := hvt.2.2.1
  have b4 := hvt.2.2.2.1
  have hk6 := (wL_len t.2.1.toNat (by omega)).2
  unfold wX1_spell_55
  refine m_of (k := 1) (by omega) hi (by omega) ?_
  rw [hS.2.2.2 1 (by omega), f2, show iI t.2.1 = iI ((t.2.1.toNat : Nat) : Int) by congr 1; omega]
  refine m_saysKind (by omega) hL (by omega) (fun S1 e1 l1 => ?_)
  have hS1 := hS.trans e1
  have more : ∀ S', shEq S0 S' → mShown S' (L ++ wL t.2.1.toNat) → ¬ (t.2.2.1 = 0 ∧ t.2.2.2 = gtS t.1 t.2.1) → wX1_spell_100 K17 post (iI s) (iI i) S' := fun S' e l q => by
    refine m_sp_100 hF hs hi ht e l (by rw [List.length_append]; omega) (fun S2 e2 l2 => h S2 e2 ?_)
    unfold spB
    rw [if_neg q, ← List.append_assoc]
    exact l2
  refine m_of (k := 2) (by omega) hi (by omega) ?_
  rw [hS1.2.2.2 1 (by omega), f3, show (0 : Int32) = iI 0 from rfl, iI_eq (by omega) (by omega) (by omega) (by omega)]
  refine ⟨fun z => ?_, fun z => more S1 hS1 l1 (fun q => z q.1)⟩
  refine m_of (k := 3) (by omega) hi (by omega) (m_of (k := 1) (by omega) hi (by omega) ?_)
  rw [hS1.2.2.2 1 (by omega), f4, f2]
  refine m_greatest ⟨b1, b2⟩ ⟨b3, b4⟩ ?_
  have hg := gtR_in t.1 t.2.1 3001 0
  have hg2 : 0 ≤ gtS t.1 t.2.1 ∧ gtS t.1 t.2.1 ≤ 3001 := by unfold gtS; omega
  rw [iI_eq (by omega) (by omega) (by omega) (by omega)]
  refine ⟨fun q => ?_, fun q => more S1 hS1 l1 (fun q2 => q q2.2)⟩
  unfold wX1_spell_136
  rw [show iI (i : Int) + 1 = iI ((i + 1 : Nat) : Int) from iI_add i 1]
  refine h S1 hS1 ?_
  unfold spB
  rw [if_pos ⟨z, q⟩, List.append_nil]
  exact l1
theorem m_sp_17 {post : Int32 → MS → Prop} {S0 : MS} {F : Nat → List tm} {s : Nat} (hF : mForms S0 F) (hs : s < 4) : ∀ (m i : Nat) (L : List Int) (S : MS), i + m = (F s).length → shEq S0 S → mShown S L → L.length ≤ 50 * i → (∀ S', shEq S0 S' → mShown S' (L ++ spA ((F s).drop i) i) → post (iI ((L ++ spA ((F s).drop i) i).length : Nat)) S') → wX1_spell_17 post (m + 1) (iI s) (iI i) S := by
  obtain ⟨e0, hv, -⟩ := hF s hs
  have h5 := hv.1
  intro m
  induction m with
  | zero =>
    intro i L S hi hS hL hl h
    unfold wX1_spell_17
    refine ⟨iI_in (by omega) (by omega) (by omega), b_t ?_ ?_⟩
    · rw [nat_i (by omega), hS.2.2.2 0 (by omega), e0, iI_le (by omega) (by omega) (by omega) (by omega)]; omega
    · rw [List.drop_of_length_le (by omega)] at h
      unfold spA at h
      rw [List.append_nil] at h
      rw [hL.2.1]
      exact h S hS hL
  | succ m ih =>
    intro i L S hi hS hL hl h
    obtain ⟨t, ht⟩ : ∃ t, (F s)[i]? = some t := ⟨_, List.getElem?_eq_getElem (by omega)⟩
    have hd : (F s).drop i = t :: (F s).drop (i + 1) := by
      obtain ⟨h1, h2⟩ := List.getElem?_eq_some_iff.mp ht
      rw [← h2]; exact List.drop_eq_getElem_cons h1
    have hvt := hv.2 t (List.mem_of_getElem? ht)
    have hlen := spT_len hvt
    rw [hd] at h
    unfold spA at h
    have run : ∀ (L' : List Int) (S' : MS), L' = L ++ (if i = 0 then [] else [43]) → shEq S0 S' → mShown S' L' → wX1_spell_37 (fun x1 x2 S => wX1_spell_17 post (m + 1) x1 x2 S) post (iI s) (iI i) S' := fun L' S' eL eS' l' => by
      obtain ⟨f1, -, -, -⟩ := (hF s hs).2.2 i t ht
      have hL' : L'.length ≤ 50 * i + 1 := by
        rw [eL, List.length_append]
        split
        · simp only [List.length_nil]; omega
        · simp only [List.length_cons, List.length_nil]; omega
      have fin : ∀ (L2 : List Int) (S2 : MS), L2 = L' ++ (if t.1 = 1 then [] else numS t.1) → L2.length ≤ L'.length + 5 → shEq S0 S2 → mShown S2 L2 → wX1_spell_55 (fun x1 x2 S => wX1_spell_17 post (m + 1) x1 x2 S) post (iI s) (iI i) (iI t.1) S2 := fun L2 S2 eL2 hl2 eS2 l2 => by
        refine m_sp_55 hF hs (by omega) ht eS2 l2 (by omega) (fun S3 e3 l3 => ?_)
        have eq3 : L2 ++ (wL t.2.1.toNat ++ spB t) = L ++ ((if i = 0 then [] else [43]) ++ spT t) := by
          rw [eL2, eL]
          unfold spT
          simp only [List.append_assoc]
        rw [eq3] at l3
        refine ih (i + 1) _ S3 (by omega) e3 l3 ?_ (fun S4 e4 l4 => ?_)
        · rw [List.length_append, List.length_append]
          split
          · simp only [List.length_nil]; omega
          · simp only [List.length_cons, List.length_nil]; omega
        · have h' := h S4 e4
          simp only [List.append_assoc] at l4 h' ⊢
          exact h' l4
      unfold wX1_spell_37
      refine m_of (k := 0) (by omega) (by omega) (by omega) ?_
      rw [show 4 * (5 * s + i) + 0 = 4 * (5 * s + i) from rfl, eS'.2.2.2 1 (by omega), f1, show (1 : Int32) = iI 1 from rfl, iI_eq (by have := hvt.1; omega) (by have := hvt.2.1; omega) (by omega) (by omega)]
      refine ⟨fun q => fin L' S' (by rw [if_pos q, List.append_nil]) (by omega) eS' l', fun q => ?_⟩
      have hn := numS_len t.1
      refine m_saysNumber (by have := hvt.1; have := hvt.2.1; omega) l' (by omega) (fun S2 e2 l2 => fin _ S2 (by rw [if_neg q]) (by rw [List.length_append]; omega) (eS'.trans e2) l2)
    unfold wX1_spell_17
    refine ⟨iI_in (by omega) (by omega) (by omega), b_f ?_ ?_⟩
    · rw [nat_i (by omega), hS.2.2.2 0 (by omega), e0, iI_le (by omega) (by omega) (by omega) (by omega)]; omega
    · rw [show (0 : Int32) = iI 0 from rfl, iI_le (by omega) (by omega) (by omega) (by omega)]
      refine ⟨fun q => run L S (by rw [if_pos (by omega), List.append_nil]) hS hL, fun q => ?_⟩
      exact m_says (c := 43) hL (by omega) (fun S1 e1 l1 => run _ S1 (by rw [if_neg (by omega)]) (hS.trans e1) l1)
theorem m_spell {post : Int32 → MS → Prop} {S : MS} {F : Nat → List tm} {a : Int} (hF : mForms S F) (ha : i32 a) (h0 : ¬ (0 ≤ a ∧ a ≤ 3 ∧ F a.toNat ≠ []) → post (iI (-1)) S) (h1 : ∀ (s : Nat) (S' : MS), s < 4 → a = s → F s ≠ [] → shEq S S' → mShown S' (spA (F s) 0) → post (iI ((spA (F s) 0).length : Nat)) S') : wX1_spell post S (iI a) := by
  unfold wX1_spell
  refine m_isForm hF ha (fun s hs e hne => b_f (by decide) ⟨(F s).length + 1, ?_⟩) (fun hc => b_t rfl (h0 hc))
  subst e
  have e1 : shEq S (mI S 49 (0 : Int32)) := ⟨rfl, rfl, fun k a => up_ne _ _ _ a, fun _ _ => rfl⟩
  exact m_sp_17 hF hs (F s).length 0 [] (mI S 49 (0 : Int32)) (by omega) e1 ⟨by simp, mI_at _ _ _, fun k c hk => by simp at hk⟩ (by simp) (fun S' e2 l2 => h1 s S' hs rfl hne e2 l2)
