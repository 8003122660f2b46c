set_option maxRecDepth 100000
set_option maxHeartbeats 4000000
/-! the model's looks that rest on ways -/
abbrev i32 (z : Int) : Prop := -2147483648 ≤ z ∧ z < 2147483648
abbrev i64 (z : Int) : Prop := -9223372036854775808 ≤ z ∧ z < 9223372036854775808
abbrev mLS (S : MS) (s : Nat) (g : Nat → Int64) : MS := mI (mB S 22 g) 21 (iI s)
/-- the rows of a form's ways -/
def rowsW (g : Nat → Int64) (ts : List tm) : Prop := ∀ i, i ≤ ts.length → rowW g i (wR (ts.drop i))
theorem rowsW.zero {g : Nat → Int64} {ts : List tm} (h : rowsW g ts) : rowW g 0 (wR ts) := by
  have := h 0 (Nat.zero_le _)
  rw [List.drop_zero] at this
  exact this
theorem mLS_row {S : MS} {s : Nat} {g : Nat → Int64} {i : Nat} {w : Int → Int} (h : rowW g i w) : rowW ((mLS S s g).2.2.2 22) i w := by
  show rowW ((mB S 22 g).2.2.2 22) i w
  rw [mB_at]; exact h
theorem mLS_laid {S : MS} {F : Nat → List tm} {s : Nat} {g : Nat → Int64} (hs : s < 4) (hne : F s ≠ []) (hg : rowsW g (F s)) : mLaid (mLS S s g) F := Or.inr ⟨s, hs, up_eq (mB S 22 g).1 21 (iI s), hne, fun i hi => mLS_row (hg i hi)⟩
theorem m_isTerm {post : Int32 → MS → Prop} {S : MS} {F : Nat → List tm} {a i : Int} (hF : mForms S F) (ha : i32 a) (hi : i32 i) (h1 : ∀ (s j : Nat) (t : tm), s < 4 → a = s → i = j → (F s)[j]? = some t → j < 5 → post 1 S) (h0 : ¬ (0 ≤ a ∧ a ≤ 3 ∧ 0 ≤ i ∧ i < (F a.toNat).length) → post 0 S) : wX1_isTerm post S (iI a) (iI i) := by
  unfold wX1_isTerm
  refine m_isSlot ha (fun a0 a3 => b_f (by decide) ?_) (fun a3 => b_t rfl (h0 (fun z => a3 ⟨z.1, z.2.1⟩)))
  obtain ⟨e, hv, -⟩ := hF a.toNat (by omega)
  refine ⟨iI_in (by omega) (by omega) (by omega), ?_⟩
  have := hv.1
  rw [iI_nat (by omega) (by omega), e]
  simp (disch := omega) only [iLit, lLit, iI_add, iI_sub, iI_mul, iI_neg, lI_add, lI_sub, lI_mul, lI_neg, nI_i, lI_i, iI_l]
  refine m_isIn (by omega) (by omega) (by omega) (fun c1 c2 => b_f (by decide) ?_) (fun c => b_t rfl (h0 (fun z => c ⟨z.2.2.1, by omega⟩)))
  exact h1 a.toNat i.toNat _ (by omega) (by omega) (by omega) (List.getElem?_eq_getElem (by omega)) (by omega)
theorem m_isSpan {post : Int32 → Prop} {a b : Int} (ha : i32 a) (hb : i32 b) (h1 : -3000 ≤ a → a ≤ b → b ≤ 3000 → post 1) (h0 : ¬ (-3000 ≤ a ∧ a ≤ b ∧ b ≤ 3000) → post 0) : wX1_isSpan post (iI a) (iI b) := by
  unfold wX1_isSpan
  refine m_isN ha (fun a0 a3 => b_f (by decide) ?_) (fun c => b_t rfl (h0 (by omega)))
  refine m_isN hb (fun b0 b3 => b_f (by decide) ?_) (fun c => b_t rfl (h0 (by omega)))
  rw [iI_lt (by omega) (by omega) (by omega) (by omega)]
  exact ⟨fun c => h0 (by omega), fun c => h1 (by omega) (by omega) (by omega)⟩
/-- ways, as a test -/
theorem m_ways_t {post : Int64 → MS → Prop} {S : MS} {ts : List tm} {n : Int} (hv : vF ts) (hr : rowW (S.2.2.2 22) 0 (wR ts)) (hn : -100000 ≤ n ∧ n ≤ 100000) (h : ∀ r : Int, r = Wy ts n → 0 ≤ r → r < 9223372036854775808 → post (lI r) S) : wX1_waysOf post S (iI n) := m_waysOf hv hr hn (h _ rfl (Wy_nn _ _) (Wy_lt hv _))
def missR (w : Int → Int) (i : Int) : Nat → Int → Int → Int
  | 0, c, _ => if i = -1 then c else -100000
  | m + 1, c, k => if w k ≤ 0 then (if c = i then k else missR w i m (c + 1) (k + 1)) else missR w i m c (k + 1)
theorem m_missed_31 {post : Int32 → MS → Prop} {S : MS} {ts : List tm} {i b : Int} (hv : vF ts) (hr : rowW (S.2.2.2 22) 0 (wR ts)) (hi : i32 i) (hb : -3000 ≤ b ∧ b ≤ 3000) : ∀ (m : Nat) (c k : Int), k + m = b + 1 → -3000 ≤ k → 0 ≤ c → c + m ≤ 100000 → post (iI (missR (Wy ts) i m c k)) S → wX1_missed_31 post (m + 1) (iI b) (iI i) (iI c) (iI k) S := by
  intro m
  induction m with
  | zero =>
    intro c k hk hk0 hc hm h
    unfold wX1_missed_31
    refine b_t (by simp (disch := omega) only [iLit, lLit, iI_add, iI_sub, iI_mul, iI_neg, lI_add, lI_sub, lI_mul, lI_neg, nI_i, lI_i, iI_l, iI_nat, iI_lt, iI_le, iI_eq, lI_lt, lI_le, lI_eq] <;> omega) ?_
    simp (disch := omega) only [iLit, lLit, iI_add, iI_sub, iI_mul, iI_neg, lI_add, lI_sub, lI_mul, lI_neg, nI_i, lI_i, iI_eq]
    unfold missR at h
    exact ⟨fun e => by rw [if_pos e] at h; exact h, fun e => by rw [if_neg e] at h; exact h⟩
  | succ m ih =>
    intro c k hk hk0 hc hm h
    unfold wX1_missed_31
    refine b_f (by simp (disch := omega) only [iLit, lLit, iI_add, iI_sub, iI_mul, iI_neg, lI_add, lI_sub, lI_mul, lI_neg, nI_i, lI_i, iI_l, iI_nat, iI_lt, iI_le, iI_eq, lI_lt, lI_le, lI_eq] <;> omega) ?_
    refine m_ways_t hv hr (by omega) (fun r er r0 r1 => ?_)
    unfold missR at h
    rw [← er] at h
    unfold wX1_missed_64
    simp (disch := omega) only [iLit, lLit, iI_add, iI_sub, iI_mul, iI_neg, lI_add, lI_sub, lI_mul, lI_neg, nI_i, lI_i, iI_eq, lI_le]
    refine ⟨fun e => ?_, fun e => ?_⟩
    · rw [if_pos e] at h
      refine ⟨fun e2 => ?_, fun e2 => ?_⟩
      · rw [if_pos e2] at h; exact h
      · rw [if_neg e2] at h
        exact ih (c + 1) (k + 1) (by omega) (by omega) (by omega) (by omega) h
    · rw [if_neg e] at h
      exact ih c (k + 1) (by omega) (by omega) (by omega) (by omega) h
/-- what a look over a span says: none, or by the form's ways -/
theorem m_missed {post : Int32 → MS → Prop} {S : MS} {F : Nat → List tm} {a x y i : Int} (hF : mForms S F) (hL : mLaid S F) (ha : i32 a) (hx : i32 x) (hy : i32 y) (hi : i32 i)
    (h0 : ¬ (0 ≤ a ∧ a ≤ 3 ∧ F a.toNat ≠ [] ∧ -3000 ≤ x ∧ x ≤ y ∧ y ≤ 3000) → post (iI (-100000)) S) (h1 : ∀ (s : Nat) (g : Nat → Int64), s < 4 → a = s → F s ≠ [] → -3000 ≤ x → x ≤ y → y ≤ 3000 → rowsW g (F s) → post (iI (missR (Wy (F s)) i (y - x + 1).toNat 0 x)) (mLS S s g)) : wX1_missed post S (iI a) (iI x) (iI y) (iI i) := by
  unfold wX1_missed
  refine m_isForm hF ha (fun s hs e hne => b_f (by decide) ?_) (fun hc => b_t rfl (h0 (fun z => hc ⟨z.1, z.2.1, z.2.2.1⟩)))
  refine m_isSpan hx hy (fun n1 n2 n3 => b_f (by decide) ?_) (fun hc => b_t rfl (h0 (fun z => hc z.2.2.2)))
  subst e
  refine m_lays hF hL hs hne (fun g hg => ⟨(y - x + 1).toNat + 1, ?_⟩)
  exact m_missed_31 (hF s hs).2.1 (mLS_row (rowsW.zero hg)) hi (by omega) _ 0 x (by omega) (by omega) (by omega) (by omega) (h1 s g hs rfl hne n1 n2 n3 hg)
def fullR (w : Int → Int) : Nat → Int
  | 0 => 0
  | m + 1 => if w m ≤ 0 then m + 1 else fullR w m
theorem m_full_33 {post : Int32 → MS → Prop} {S : MS} {ts : List tm} (hv : vF ts) (hr : rowW (S.2.2.2 22) 0 (wR ts)) : ∀ (m : Nat), m ≤ 3000 → post (iI (fullR (Wy ts) m)) S → wX1_full_33 post (m + 1) (iI m) S := by
  intro m
  induction m with
  | zero =>
    intro hm h
    unfold wX1_full_33
    exact b_t (by simp (disch := omega) only [iLit, lLit, iI_add, iI_sub, iI_mul, iI_neg, lI_add, lI_sub, lI_mul, lI_neg, nI_i, lI_i, iI_l, iI_nat, iI_lt, iI_le, iI_eq, lI_lt, lI_le, lI_eq] <;> omega) h
  | succ m ih =>
    intro hm h
    unfold wX1_full_33
    refine b_f (by simp (disch := omega) only [iLit, lLit, iI_add, iI_sub, iI_mul, iI_neg, lI_add, lI_sub, lI_mul, lI_neg, nI_i, lI_i, iI_l, iI_nat, iI_lt, iI_le, iI_eq, lI_lt, lI_le, lI_eq] <;> omega) ?_
    simp (disch := omega) only [iLit, lLit, iI_add, iI_sub, iI_mul, iI_neg, lI_add, lI_sub, lI_mul, lI_neg, nI_i, lI_i]
    rw [show ((m + 1 : Nat) : Int) - 1 = (m : Int) by omega, show ((m + 1 : Nat) : Int) + -1 = (m : Int) by omega]
    refine m_ways_t hv hr (by omega) (fun r er r0 r1 => ?_)
    unfold fullR at h
    rw [← er] at h
    simp (disch := omega) only [iLit, lLit, iI_add, iI_sub, iI_mul, iI_neg, lI_add, lI_sub, lI_mul, lI_neg, nI_i, lI_i, lI_le]
    exact ⟨fun e => by rw [if_pos e] at h; exact h, fun e => by rw [if_neg e] at h; exact ih (by omega) h⟩
def fullS (w : Int → Int) : Int := if w 3000 = 0 then -1 else fullR w 3000
theorem m_full {post : Int32 → MS → Prop} {S : MS} {F : Nat → List tm} {a : Int} (hF : mForms S F) (hL : mLaid S F) (ha : i32 a)
    (h0 : ¬ (0 ≤ a ∧ a ≤ 3 ∧ F a.toNat ≠ []) → post (iI (-1)) S) (h1 : ∀ (s : Nat) (g : Nat → Int64), s < 4 → a = s → F s ≠ [] → rowsW g (F s) → post (iI (fullS (Wy (F s)))) (mLS S s g)) : wX1_full post S (iI a) := by
  unfold wX1_full
  refine m_isForm hF ha (fun s hs e hne => b_f (by decide) ?_) (fun hc => b_t rfl (h0 hc))
  subst e
  refine m_lays hF hL hs hne (fun g hg => ?_)
  have hr := mLS_row (S := S) (s := s) (rowsW.zero hg)
  refine m_ways_t (n := 3000) (hF s hs).2.1 hr (by omega) (fun r er r0 r1 => ?_)
  have h := h1 s g hs rfl hne hg
  unfold fullS at h
  rw [← er] at h
  simp (disch := omega) only [iLit, lLit, iI_add, iI_sub, iI_mul, iI_neg, lI_add, lI_sub, lI_mul, lI_neg, nI_i, lI_i, lI_eq]
  exact ⟨fun e => by rw [if_pos e] at h; exact h, fun e => by rw [if_neg e] at h; exact ⟨3001, m_full_33 (hF s hs).2.1 hr 3000 (by omega) h⟩⟩
def gapR (w : Int → Int) : Nat → Int → Int → Int → Int → Int × Int
  | 0, best, begin, _, _ => (best, begin)
  | m + 1, best, begin, row, k => if best < (if w k ≤ 0 then row + 1 else 0) then gapR w m (if w k ≤ 0 then row + 1 else 0) (k - (if w k ≤ 0 then row + 1 else 0) + 1) (if w k ≤ 0 then row + 1 else 0) (k + 1) else gapR w m best begin (if w k ≤ 0 then row + 1 else 0) (k + 1)
theorem m_gap_75 {K50 : Int32 → Int32 → Int32 → Int32 → Int32 → Int32 → MS → Prop} {post : Int32 → MS → Prop} {S : MS} {x3 x4 : Int32} {best begin row k : Int} (hb : -100000 ≤ best ∧ best ≤ 100000) (hr : -100000 ≤ row ∧ row ≤ 100000) (h : if best < row then K50 x3 x4 (iI row) (iI (k - row + 1)) (iI row) (iI (k + 1)) S else K50 x3 x4 (iI best) (iI begin) (iI row) (iI (k + 1)) S) : wX1_gap_75 K50 post x3 x4 (iI best) (iI begin) (iI k) (iI row) S := by
  unfold wX1_gap_75 wX1_gap_100
  simp (disch := omega) only [iLit, lLit, iI_add, iI_sub, iI_mul, iI_neg, lI_add, lI_sub, lI_mul, lI_neg, nI_i, lI_i, iI_lt]
  exact ⟨fun e => by rw [if_pos e] at h; exact h, fun e => by rw [if_neg e] at h; exact h⟩
theorem m_gap_50 {post : Int32 → MS → Prop} {S : MS} {ts : List tm} {b q : Int} (hv : vF ts) (hr : rowW (S.2.2.2 22) 0 (wR ts)) (hq : i32 q) (hb : -3000 ≤ b ∧ b ≤ 3000) : ∀ (m : Nat) (best begin row k : Int), k + m = b + 1 → -3000 ≤ k → 0 ≤ best → 0 ≤ row → best + m ≤ 90000 → row + m ≤ 90000 → post (iI (if q = 0 then (gapR (Wy ts) m best begin row k).1 else (gapR (Wy ts) m best begin row k).2)) S → wX1_gap_50 post (m + 1) (iI b) (iI q) (iI best) (iI begin) (iI row) (iI k) S := by
  intro m
  induction m with
  | zero =>
    intro best begin row k hk hk0 h1 h2 h3 h4 h
    unfold wX1_gap_50
    refine b_t (by simp (disch := omega) only [iLit, lLit, iI_add, iI_sub, iI_mul, iI_neg, lI_add, lI_sub, lI_mul, lI_neg, nI_i, lI_i, iI_l, iI_nat, iI_lt, iI_le, iI_eq, lI_lt, lI_le, lI_eq] <;> omega) ?_
    simp (disch := omega) only [iLit, lLit, iI_add, iI_sub, iI_mul, iI_neg, lI_add, lI_sub, lI_mul, lI_neg, nI_i, lI_i, iI_eq]
    exact ⟨fun e => by rw [if_pos e] at h; exact h, fun e => by rw [if_neg e] at h; exact h⟩
  | succ m ih =>
    intro best begin row k hk hk0 h1 h2 h3 h4 h
    unfold wX1_gap_50
    refine b_f (by simp (disch := omega) only [iLit, lLit, iI_add, iI_sub, iI_mul, iI_neg, lI_add, lI_sub, lI_mul, lI_neg, nI_i, lI_i, iI_l, iI_nat, iI_lt, iI_le, iI_eq, lI_lt, lI_le, lI_eq] <;> omega) ?_
    refine m_ways_t hv hr (by omega) (fun r er r0 r1 => ?_)
    unfold gapR at h
    rw [← er] at h
    simp (disch := omega) only [iLit, lLit, iI_add, iI_sub, iI_mul, iI_neg, lI_add, lI_sub, lI_mul, lI_neg, nI_i, lI_i, lI_le]
    refine ⟨fun e => ?_, fun e => ?_⟩
    · refine m_gap_75 (by omega) (by omega) ?_
      simp only [if_pos e] at h
      split
      · rename_i e2
        simp only [if_pos e2] at h
        exact ih _ _ _ _ (by omega) (by omega) (by omega) (by omega) (by omega) (by omega) h
      · rename_i e2
        simp only [if_neg e2] at h
        exact ih _ _ _ _ (by omega) (by omega) (by omega) (by omega) (by omega) (by omega) h
    · refine m_gap_75 (row := 0) (by omega) (by omega) ?_
      simp only [if_neg e] at h
      split
      · rename_i e2
        simp only [if_pos e2] at h
        exact ih _ _ _ _ (by omega) (by omega) (by omega) (by omega) (by omega) (by omega) h
      · rename_i e2
        simp only [if_neg e2] at h
        exact ih _ _ _ _ (by omega) (by omega) (by omega) (by omega) (by omega) (by omega) h
def gapS (w : Int → Int) (x y q : Int) : Int := if q = 0 then (gapR w (y - x + 1).toNat 0 (-100000) 0 x).1 else (gapR w (y - x + 1).toNat 0 (-100000) 0 x).2
theorem m_gap {post : Int32 → MS → Prop} {S : MS} {F : Nat → List tm} {a x y q : Int} (hF : mForms S F) (hL : mLaid S F) (ha : i32 a) (hx : i32 x) (hy : i32 y) (hq : i32 q)
    (h0 : ¬ (0 ≤ a ∧ a ≤ 3 ∧ F a.toNat ≠ [] ∧ -3000 ≤ x ∧ x ≤ y ∧ y ≤ 3000 ∧ 0 ≤ q ∧ q ≤ 1) → post (iI (-100000)) S) (h1 : ∀ (s : Nat) (g : Nat → Int64), s < 4 → a = s → F s ≠ [] → -3000 ≤ x → x ≤ y → y ≤ 3000 → 0 ≤ q → q ≤ 1 → rowsW g (F s) → post (iI (gapS (Wy (F s)) x y q)) (mLS S s g)) : wX1_gap post S (iI a) (iI x) (iI y) (iI q) := by
  unfold wX1_gap
  refine m_isForm hF ha (fun s hs e hne => b_f (by decide) ?_) (fun hc => b_t rfl (h0 (fun z => hc ⟨z.1, z.2.1, z.2.2.1⟩)))
  refine m_isSpan hx hy (fun n1 n2 n3 => b_f (by decide) ?_) (fun hc => b_t rfl (h0 (fun z => hc (by omega))))
  rw [iI_l hq.1 hq.2]
  refine m_isIn (b := 0) (c := 1) (by omega) (by omega) (by omega) (fun q1 q2 => b_f (by decide) ?_) (fun hc => b_t rfl (h0 (fun z => hc (by omega))))
  subst e
  refine m_lays hF hL hs hne (fun g hg => ⟨(y - x + 1).toNat + 1, ?_⟩)
  exact m_gap_50 (hF s hs).2.1 (mLS_row (rowsW.zero hg)) hq (by omega) _ 0 (-100000) 0 x (by omega) (by omega) (by omega) (by omega) (by omega) (by omega) (h1 s g hs rfl hne n1 n2 n3 q1 q2 hg)
