set_option maxRecDepth 100000
set_option maxHeartbeats 4000000
/-! the model: met, never, bars, meets, explained -/
def rowsC (g : Nat → Int64) (m : Int) (ts : List tm) : Prop := ∀ i, i ≤ ts.length → rowC g m i (Cl m (ts.drop i))
theorem rowsC.zero {g : Nat → Int64} {m : Int} {ts : List tm} (h : rowsC g m ts) {r : Int} (h1 : 0 ≤ r) (h2 : r < m) : g r.toNat = lI (Cl m ts r) := by
  have := h 0 (Nat.zero_le _) r h1 h2
  rw [List.drop_zero, show 60 * 0 + r.toNat = r.toNat by omega] at this
  exact this
theorem m_isClass {post : Int32 → MS → Prop} {S : MS} {F : Nat → List tm} {a m r : Int} (hF : mForms S F) (ha : i32 a) (hm : i32 m) (hr : i32 r) (h1 : ∀ s : Nat, s < 4 → a = s → F s ≠ [] → 1 ≤ m → m ≤ 60 → 0 ≤ r → r < m → post 1 S) (h0 : ¬ (0 ≤ a ∧ a ≤ 3 ∧ F a.toNat ≠ [] ∧ 1 ≤ m ∧ m ≤ 60 ∧ 0 ≤ r ∧ r < m) → post 0 S) : wX1_isClass post S (iI a) (iI m) (iI r) := by
  unfold wX1_isClass
  refine m_isForm hF ha (fun s hs e hne => b_f (by decide) ?_) (fun hc => b_t rfl (h0 (fun z => hc ⟨z.1, z.2.1, z.2.2.1⟩)))
  rw [iI_l hm.1 hm.2]
  refine m_isIn (b := 1) (c := 60) (by omega) (by omega) (by omega) (fun c1 c2 => b_f (by decide) ?_) (fun hc => b_t rfl (h0 (fun z => hc (by omega))))
  simp (disch := omega) only [iLit, lLit, iI_add, iI_sub, iI_mul, iI_neg, lI_add, lI_sub, lI_mul, lI_neg, nI_i, lI_i, iI_l]
  exact m_isIn (b := 0) (by omega) (by omega) (by omega) (fun c3 c4 => b_f (by decide) (h1 s hs e hne c1 c2 c3 (by omega))) (fun hc => b_t rfl (h0 (fun z => hc (by omega))))
theorem m_met {post : Int64 → MS → Prop} {S : MS} {F : Nat → List tm} {a m r : Int} (hF : mForms S F) (ha : i32 a) (hm : i32 m) (hr : i32 r) (h0 : ¬ (0 ≤ a ∧ a ≤ 3 ∧ F a.toNat ≠ [] ∧ 1 ≤ m ∧ m ≤ 60 ∧ 0 ≤ r ∧ r < m) → post (lI (-1)) S) (h1 : ∀ (s : Nat) (g : Nat → Int64), s < 4 → a = s → F s ≠ [] → 1 ≤ m → m ≤ 60 → 0 ≤ r → r < m → post (lI (Cl m (F s) r)) (mB S 46 g)) : wX1_met post S (iI a) (iI m) (iI r) := by
  unfold wX1_met
  refine m_isClass hF ha hm hr (fun s hs e hne m1 m2 r1 r2 => b_f (by decide) ?_) (fun hc => b_t rfl (h0 hc))
  subst e
  refine m_cls hF hs ⟨m1, m2⟩ (fun g hg => ⟨iI_in (by omega) (by omega) (by omega), ?_⟩)
  rw [iI_nat (by omega) (by omega), mB_at, rowsC.zero hg r1 r2]
  exact h1 s g hs rfl hne m1 m2 r1 r2
def nevR (w : Int → Int) (i : Int) : Nat → Int → Int → Int
  | 0, c, _ => if i = -1 then c else -1
  | q + 1, c, r => if w r ≤ 0 then (if c = i then r else nevR w i q (c + 1) (r + 1)) else nevR w i q c (r + 1)
theorem nevR_in (w : Int → Int) (i : Int) : ∀ (q : Nat) (c r : Int), 0 ≤ c → 0 ≤ r → -1 ≤ nevR w i q c r ∧ nevR w i q c r ≤ c + r + 2 * q
  | 0, c, r, h1, h3 => by unfold nevR; split <;> omega
  | q + 1, c, r, h1, h3 => by
    unfold nevR
    split
    · split
      · omega
      · have := nevR_in w i q (c + 1) (r + 1) (by omega) (by omega); omega
    · have := nevR_in w i q c (r + 1) (by omega) (by omega); omega
theorem m_never_24 {post : Int32 → MS → Prop} {S : MS} {ts : List tm} {i m : Int} (hm : 1 ≤ m ∧ m ≤ 60) (hl : ts.length ≤ 5) (hr : rowsC (S.2.2.2 46) m ts) (hi : i32 i) : ∀ (q : Nat) (c r : Int), r + q = m → 0 ≤ r → 0 ≤ c → c + q ≤ 1000 → post (iI (nevR (Cl m ts) i q c r)) S → wX1_never_24 post (q + 1) (iI m) (iI i) (iI c) (iI r) S := by
  intro q
  induction q with
  | zero =>
    intro c r hq hr0 hc hc2 h
    unfold wX1_never_24
    refine b_t (by simp (disch := omega) only [iLit, lLit, iI_add, iI_sub, iI_mul, iI_neg, lI_add, lI_sub, lI_mul, lI_neg, nI_i, lI_i, iI_l, iI_nat, iI_lt, iI_le, iI_eq, lI_lt, lI_le, lI_eq] <;> omega) ?_
    simp (disch := omega) only [iLit, lLit, iI_add, iI_sub, iI_mul, iI_neg, lI_add, lI_sub, lI_mul, lI_neg, nI_i, lI_i, iI_eq]
    unfold nevR at h
    exact ⟨fun e => by rw [if_pos e] at h; exact h, fun e => by rw [if_neg e] at h; exact h⟩
  | succ q ih =>
    intro c r hq hr0 hc hc2 h
    unfold wX1_never_24 wX1_never_57
    refine b_f (by simp (disch := omega) only [iLit, lLit, iI_add, iI_sub, iI_mul, iI_neg, lI_add, lI_sub, lI_mul, lI_neg, nI_i, lI_i, iI_l, iI_nat, iI_lt, iI_le, iI_eq, lI_lt, lI_le, lI_eq] <;> omega) ⟨iI_in (by omega) (by omega) (by omega), ?_⟩
    rw [iI_nat (by omega) (by omega), hr.zero hr0 (by omega)]
    have b1 := Cl_nn m ts r
    have b2 := Cl_lt hm hl r
    unfold nevR at h
    simp (disch := omega) only [iLit, lLit, iI_add, iI_sub, iI_mul, iI_neg, lI_add, lI_sub, lI_mul, lI_neg, nI_i, lI_i, iI_eq, lI_le]
    refine ⟨fun e => ?_, fun e => ?_⟩
    · rw [if_pos e] at h
      refine ⟨fun e2 => ?_, fun e2 => ?_⟩
      · rw [if_pos e2] at h; exact h
      · rw [if_neg e2] at h
        exact ih (c + 1) (r + 1) (by omega) (by omega) (by omega) (by omega) h
    · rw [if_neg e] at h
      exact ih c (r + 1) (by omega) (by omega) (by omega) (by omega) h
def nevS (ts : List tm) (m i : Int) : Int := nevR (Cl m ts) i m.toNat 0 0
theorem m_never {post : Int32 → MS → Prop} {S : MS} {F : Nat → List tm} {a m i : Int} (hF : mForms S F) (ha : i32 a) (hm : i32 m) (hi : i32 i) (h0 : ¬ (0 ≤ a ∧ a ≤ 3 ∧ F a.toNat ≠ [] ∧ 1 ≤ m ∧ m ≤ 60) → post (iI (-1)) S) (h1 : ∀ (s : Nat) (g : Nat → Int64), s < 4 → a = s → F s ≠ [] → 1 ≤ m → m ≤ 60 → post (iI (nevS (F s) m i)) (mB S 46 g)) : wX1_never post S (iI a) (iI m) (iI i) := by
  unfold wX1_never
  refine m_isClass (r := 0) hF ha hm (by omega) (fun s hs e hne m1 m2 r1 r2 => b_f (by decide) ?_) (fun hc => b_t rfl (h0 (fun z => hc ⟨z.1, z.2.1, z.2.2.1, z.2.2.2.1, z.2.2.2.2, by omega, by omega⟩)))
  subst e
  refine m_cls hF hs ⟨m1, m2⟩ (fun g hg => ⟨m.toNat + 1, ?_⟩)
  exact m_never_24 ⟨m1, m2⟩ (hF s hs).2.1.1 (by rw [mB_at]; exact hg) hi m.toNat 0 0 (by omega) (by omega) (by omega) (by omega) (h1 s g hs rfl hne m1 m2)
def barR (ts : List tm) : Nat → Int → Int
  | 0, _ => -1
  | q + 1, m => if nevS ts m (-1) ≤ 0 then barR ts q (m + 1) else m
theorem nevS_in (ts : List tm) {m : Int} (h : 1 ≤ m ∧ m ≤ 60) (i : Int) : i32 (nevS ts m i) := by
  have := nevR_in (Cl m ts) i m.toNat 0 0 (by omega) (by omega)
  unfold nevS
  omega
theorem m_bars_12 {post : Int32 → MS → Prop} {F : Nat → List tm} {s : Nat} (hs : s < 4) (hne : F s ≠ []) : ∀ (q : Nat) (m : Int) (S : MS), mForms S F → m + q = 61 → 1 ≤ m → (∀ g, post (iI (barR (F s) q m)) (mB S 46 g)) → wX1_bars_12 post (q + 1) (iI s) (iI m) S := by
  intro q
  induction q with
  | zero =>
    intro m S hF hq hm h
    unfold wX1_bars_12
    have := h (S.2.2.2 46)
    rw [mB_id] at this
    exact b_t (by simp (disch := omega) only [iLit, lLit, iI_add, iI_sub, iI_mul, iI_neg, lI_add, lI_sub, lI_mul, lI_neg, nI_i, lI_i, iI_l, iI_nat, iI_lt, iI_le, iI_eq, lI_lt, lI_le, lI_eq] <;> omega) this
  | succ q ih =>
    intro m S hF hq hm h
    unfold wX1_bars_12
    refine b_f (by simp (disch := omega) only [iLit, lLit, iI_add, iI_sub, iI_mul, iI_neg, lI_add, lI_sub, lI_mul, lI_neg, nI_i, lI_i, iI_l, iI_nat, iI_lt, iI_le, iI_eq, lI_lt, lI_le, lI_eq] <;> omega) ?_
    refine m_never (a := (s : Int)) (m := m) (i := -1) hF (by omega) (by omega) (by omega) (fun hc => absurd ⟨by omega, by omega, by rw [show ((s : Int)).toNat = s by omega]; exact hne, by omega, by omega⟩ hc) (fun s' g hs' e hne' m1 m2 => ?_)
    have : s' = s := by omega
    subst this
    have hb := nevS_in (F s') (m := m) (by omega) (-1)
    unfold barR at h
    simp (disch := omega) only [iLit, lLit, iI_add, iI_sub, iI_mul, iI_neg, lI_add, lI_sub, lI_mul, lI_neg, nI_i, lI_i, iI_le]
    refine ⟨fun e2 => ?_, fun e2 => ?_⟩
    · simp only [if_pos e2] at h
      exact ih (m + 1) (mB S 46 g) hF (by omega) (by omega) (fun g2 => by rw [mB_mB]; exact h g2)
    · simp only [if_neg e2] at h
      exact h g
theorem m_bars {post : Int32 → MS → Prop} {S : MS} {F : Nat → List tm} {a : Int} (hF : mForms S F) (ha : i32 a) (h0 : ¬ (0 ≤ a ∧ a ≤ 3 ∧ F a.toNat ≠ []) → post (iI (-1)) S) (h1 : ∀ (s : Nat) (g : Nat → Int64), s < 4 → a = s → F s ≠ [] → post (iI (barR (F s) 60 1)) (mB S 46 g)) : wX1_bars post S (iI a) := by
  unfold wX1_bars
  refine m_isForm hF ha (fun s hs e hne => b_f (by decide) ?_) (fun hc => b_t rfl (h0 hc))
  subst e
  exact ⟨61, m_bars_12 hs hne 60 1 S hF (by omega) (by omega) (fun g => h1 s g hs rfl hne)⟩
/-- the first x that goes on -/
def meeX (w : Int → Int) : Nat → Int → Int
  | 0, x => x
  | q + 1, x => if w x = 0 then meeX w q (x + 1) else x
theorem meeX_ok (w : Int → Int) (hi : Int) : ∀ (q : Nat) (x : Int), x + q = hi + 1 → uI x hi w ≠ 0 → x ≤ meeX w q x ∧ meeX w q x ≤ hi ∧ w (meeX w q x) ≠ 0
  | 0, x, h1, h2 => absurd (uI_none w (by omega)) h2
  | q + 1, x, h1, h2 => by
    unfold meeX
    by_cases e : w x = 0
    · rw [if_pos e]
      rw [uI_first w (by omega), e, Int.zero_add] at h2
      have := meeX_ok w hi q (x + 1) (by omega) h2
      omega
    · rw [if_neg e]
      exact ⟨Int.le_refl _, by omega, e⟩
def meeR (m : Int) : List tm → Int → Nat → Int
  | [], _, _ => 0
  | t :: ts, r, 0 => meeX (fun x => Cl m ts ((r - tv t x % m) % m)) (xsR t m).toNat 0
  | t :: ts, r, j + 1 => meeR m ts ((r - tv t (meeX (fun x => Cl m ts ((r - tv t x % m) % m)) (xsR t m).toNat 0) % m) % m) j
theorem m_meets_60 {K50 : Int32 → Int32 → Int32 → Int32 → Int32 → Int32 → MS → Prop} {post : Int32 → MS → Prop} {S : MS} {F : Nat → List tm} {s k : Nat} {t : tm} {ts : List tm} {m r : Int} {x4 : Int32} (hF : mForms S F) (hs : s < 4) (hk : k < 5) (ht : (F s)[k]? = some t) (hl : ts.length ≤ 5) (hm : 1 ≤ m ∧ m ≤ 60) (hr : 0 ≤ r ∧ r < m) (hw : rowC (S.2.2.2 46) m (k + 1) (Cl m ts)) : ∀ (q : Nat) (x : Int), x + q = xsR t m → 0 ≤ x → uI x (xsR t m - 1) (fun x => Cl m ts ((r - tv t x % m) % m)) ≠ 0 → K50 (iI s) (iI m) x4 (iI ((r - tv t (meeX (fun x => Cl m ts ((r - tv t x % m) % m)) q x) % m) % m)) (iI (meeX (fun x => Cl m ts ((r - tv t x % m) % m)) q x)) (iI ((k + 1 : Nat) : Int)) S → wX1_meets_60 K50 post q (iI s) (iI m) x4 (iI r) (iI x) (iI k) S := by
  have hvt := (hF s hs).2.1.2 t (List.mem_of_getElem? ht)
  have hxs : xsR t m ≤ 120 ∧ 1 ≤ xsR t m := by unfold xsR; split <;> omega
  intro q
  induction q with
  | zero => intro x hq hx h1 h; exact absurd (uI_none _ (by omega)) h1
  | succ q ih =>
    intro x hq hx h1 h
    unfold wX1_meets_60
    refine m_classOf hF hs hk ht (by omega) hm ?_
    have hc1 := Int.emod_nonneg (tv t x) (show m ≠ 0 by omega)
    have hc2 := Int.emod_lt_of_pos (tv t x) (show 0 < m by omega)
    have hd1 := Int.emod_nonneg (r - tv t x % m) (show m ≠ 0 by omega)
    have hd2 := Int.emod_lt_of_pos (r - tv t x % m) (show 0 < m by omega)
    have b1 := Cl_nn m ts ((r - tv t x % m) % m)
    have b2 := Cl_lt hm hl ((r - tv t x % m) % m)
    simp only [iLit, lLit, iI_add, iI_sub, iI_mul, iI_neg, lI_add, lI_sub, lI_mul, lI_neg, nI_i, lI_i]
    rw [rem_m hr ⟨hc1, hc2⟩ hm]
    simp (disch := omega) only [iLit, lLit, iI_add, iI_sub, iI_mul, iI_neg, lI_add, lI_sub, lI_mul, lI_neg, nI_i, lI_i, iI_nat]
    refine ⟨by simp (disch := omega) only [iI_eq]; omega, iI_in (by omega) (by omega) (by omega), ?_⟩
    rw [show (60 * ((k : Int) + 1) + (r - tv t x % m) % m).toNat = 60 * (k + 1) + ((r - tv t x % m) % m).toNat by omega, hw _ hd1 hd2, lI_eq (by omega) (by omega) (by omega) (by omega)]
    unfold meeX at h
    refine ⟨fun e => ?_, fun e => ?_⟩
    · rw [if_pos e] at h
      rw [uI_first _ (by omega), e, Int.zero_add] at h1
      exact ih (x + 1) (by omega) (by omega) h1 h
    · rw [if_neg e] at h
      refine m_classOf hF hs hk ht (by omega) hm ?_
      simp only [iLit, lLit, iI_add, iI_sub, iI_mul, iI_neg, lI_add, lI_sub, lI_mul, lI_neg, nI_i, lI_i]
      rw [rem_m hr ⟨hc1, hc2⟩ hm]
      exact ⟨by simp (disch := omega) only [iI_eq]; omega, h⟩
theorem m_meets_50 {post : Int32 → MS → Prop} {S : MS} {F : Nat → List tm} {s j : Nat} {m : Int} (hF : mForms S F) (hs : s < 4) (hj : j < (F s).length) (hm : 1 ≤ m ∧ m ≤ 60) (hw : rowsC (S.2.2.2 46) m (F s)) : ∀ (q k : Nat) (r x : Int), k + q = j → 0 ≤ r → r < m → Cl m ((F s).drop k) r ≠ 0 → post (iI (meeR m ((F s).drop k) r q)) S → wX1_meets_50 post (q + 2) (iI s) (iI m) (iI j) (iI r) (iI x) (iI k) S := by
  have hv := (hF s hs).2.1
  have hl5 := hv.1
  intro q
  induction q with
  | zero =>
    intro k r x hq r1 r2 h1 h
    unfold wX1_meets_50
    refine b_f (by simp (disch := omega) only [iLit, lLit, iI_add, iI_sub, iI_mul, iI_neg, lI_add, lI_sub, lI_mul, lI_neg, nI_i, lI_i, iI_l, iI_nat, iI_lt, iI_le, iI_eq, lI_lt, lI_le, lI_eq] <;> omega) ?_
    obtain ⟨t, ht⟩ : ∃ t, (F s)[k]? = some t := ⟨_, List.getElem?_eq_getElem (by omega)⟩
    have hd : (F s).drop k = t :: (F s).drop (k + 1) := by
      obtain ⟨h1, h2⟩ := List.getElem?_eq_some_iff.mp ht
      rw [← h2]; exact List.drop_eq_getElem_cons h1
    have hxs : xsR t m ≤ 120 ∧ 1 ≤ xsR t m := by unfold xsR; split <;> omega
    rw [hd] at h
    rw [hd, Cl_cons] at h1
    refine ⟨(xsR t m).toNat, m_meets_60 (ts := (F s).drop (k + 1)) hF hs (by omega) ht (by rw [List.length_drop]; omega) hm ⟨r1, r2⟩ (hw (k + 1) (by omega)) (xsR t m).toNat 0 (by omega) (by omega) h1 ?_⟩
    unfold wX1_meets_50
    refine b_t (by simp (disch := omega) only [iLit, lLit, iI_add, iI_sub, iI_mul, iI_neg, lI_add, lI_sub, lI_mul, lI_neg, nI_i, lI_i, iI_l, iI_nat, iI_lt, iI_le, iI_eq, lI_lt, lI_le, lI_eq] <;> omega) ?_
    unfold meeR at h
    exact h
  | succ q ih =>
    intro k r x hq r1 r2 h1 h
    unfold wX1_meets_50
    refine b_f (by simp (disch := omega) only [iLit, lLit, iI_add, iI_sub, iI_mul, iI_neg, lI_add, lI_sub, lI_mul, lI_neg, nI_i, lI_i, iI_l, iI_nat, iI_lt, iI_le, iI_eq, lI_lt, lI_le, lI_eq] <;> omega) ?_
    obtain ⟨t, ht⟩ : ∃ t, (F s)[k]? = some t := ⟨_, List.getElem?_eq_getElem (by omega)⟩
    have hd : (F s).drop k = t :: (F s).drop (k + 1) := by
      obtain ⟨h1, h2⟩ := List.getElem?_eq_some_iff.mp ht
      rw [← h2]; exact List.drop_eq_getElem_cons h1
    have hxs : xsR t m ≤ 120 ∧ 1 ≤ xsR t m := by unfold xsR; split <;> omega
    rw [hd] at h
    rw [hd, Cl_cons] at h1
    have hx := meeX_ok _ (xsR t m - 1) (xsR t m).toNat 0 (by omega) h1
    refine ⟨(xsR t m).toNat, m_meets_60 (ts := (F s).drop (k + 1)) hF hs (by omega) ht (by rw [List.length_drop]; omega) hm ⟨r1, r2⟩ (hw (k + 1) (by omega)) (xsR t m).toNat 0 (by omega) (by omega) h1 ?_⟩
    unfold meeR at h
    exact ih (k + 1) _ _ (by omega) (Int.emod_nonneg _ (by omega)) (Int.emod_lt_of_pos _ (by omega)) hx.2.2 h
theorem m_meets {post : Int32 → MS → Prop} {S : MS} {F : Nat → List tm} {a m r i : Int} (hF : mForms S F) (ha : i32 a) (hm : i32 m) (hr : i32 r) (hi : i32 i) (h0 : ¬ (0 ≤ a ∧ a ≤ 3 ∧ F a.toNat ≠ [] ∧ 1 ≤ m ∧ m ≤ 60 ∧ 0 ≤ r ∧ r < m ∧ 0 ≤ i ∧ i < (F a.toNat).length) → post (iI (-1)) S) (h1 : ∀ (s j : Nat) (g : Nat → Int64), s < 4 → a = s → F s ≠ [] → 1 ≤ m → m ≤ 60 → 0 ≤ r → r < m → i = j → j < (F s).length → post (iI (if Cl m (F s) r = 0 then -1 else meeR m (F s) r j)) (mB S 46 g)) : wX1_meets post S (iI a) (iI m) (iI r) (iI i) := by
  unfold wX1_meets
  refine m_isClass hF ha hm hr (fun s hs e hne m1 m2 r1 r2 => b_f (by decide) ?_) (fun hc => b_t rfl (h0 (fun z => hc ⟨z.1, z.2.1, z.2.2.1, z.2.2.2.1, z.2.2.2.2.1, z.2.2.2.2.2.1, z.2.2.2.2.2.2.1⟩)))
  subst e
  refine m_isTerm hF ha hi (fun s' j t hs' e1 e2 ht hj => b_f (by decide) ?_) (fun hc => b_t rfl (h0 (fun z => hc ⟨z.1, z.2.1, z.2.2.2.2.2.2.2⟩)))
  have : s' = s := by omega
  subst this
  have hjl := (List.getElem?_eq_some_iff.mp ht).1
  refine m_cls hF hs ⟨m1, m2⟩ (fun g hg => ⟨iI_in (by omega) (by omega) (by omega), ?_⟩)
  rw [iI_nat (by omega) (by omega), mB_at, rowsC.zero hg r1 r2]
  have b1 := Cl_nn m (F s') r
  have b2 := Cl_lt ⟨m1, m2⟩ (hF s' hs).2.1.1 r
  have h := h1 s' j g hs rfl hne m1 m2 r1 r2 e2 hjl
  simp (disch := omega) only [iLit, lLit, iI_add, iI_sub, iI_mul, iI_neg, lI_add, lI_sub, lI_mul, lI_neg, nI_i, lI_i, lI_eq]
  refine ⟨fun e => by rw [if_pos e] at h; exact h, fun e => ?_⟩
  rw [if_neg e] at h
  subst e2
  refine ⟨j + 2, m_meets_50 (S := mB S 46 g) (F := F) hF hs hjl ⟨m1, m2⟩ (by rw [mB_at]; exact hg) j 0 r 0 (by omega) r1 r2 (by rw [List.drop_zero]; exact e) (by rw [List.drop_zero]; exact h)⟩
def expR (w c : Int → Int) (m : Int) : Nat → Int → Int → Int
  | 0, n, _ => n
  | q + 1, n, k => expR w c m q (n + (if w k = 0 ∧ c (k % m) = 0 then 1 else 0)) (k + 1)
theorem rem_k {k m : Int} (hk : -3000 ≤ k ∧ k ≤ 3000) (hm : 1 ≤ m ∧ m ≤ 60) : iI k - iI k / iI m * iI m + iI m - (iI k - iI k / iI m * iI m + iI m) / iI m * iI m = iI (k % m) := by
  have h1 : k.tmod m = k - m * k.tdiv m := Int.tmod_def k m
  have h2 : k.tmod m < m := Int.tmod_lt_of_pos k (by omega)
  have h3 : -m < k.tmod m := Int.lt_tmod_of_pos k (by omega)
  rw [iI_rem (by omega) (by omega), iI_add, iI_rem (by omega) (by omega), Int.tmod_eq_emod_of_nonneg (by omega), Int.add_emod_right, h1, Int.sub_mul_emod_self_left]
theorem m_expl_49 {post : Int32 → MS → Prop} {S : MS} {ts : List tm} {y m : Int} (hv : vF ts) (hr : rowW (S.2.2.2 22) 0 (wR ts)) (hm : 1 ≤ m ∧ m ≤ 60) (hc : rowsC (S.2.2.2 46) m ts) (hy : y ≤ 3000) : ∀ (q : Nat) (n k : Int), k + q = y + 1 → -3000 ≤ k → 0 ≤ n → n + q ≤ 10000 → post (iI (expR (Wy ts) (Cl m ts) m q n k)) S → wX1_explained_49 post (q + 1) (iI y) (iI m) (iI n) (iI k) S := by
  intro q
  induction q with
  | zero =>
    intro n k hq hk hn hn2 h
    unfold wX1_explained_49
    exact b_t (by simp (disch := omega) only [iLit, lLit, iI_add, iI_sub, iI_mul, iI_neg, lI_add, lI_sub, lI_mul, lI_neg, nI_i, lI_i, iI_l, iI_nat, iI_lt, iI_le, iI_eq, lI_lt, lI_le, lI_eq] <;> omega) h
  | succ q ih =>
    intro n k hq hk hn hn2 h
    unfold wX1_explained_49 wX1_explained_93 wX1_explained_94 wX1_one
    refine b_f (by simp (disch := omega) only [iLit, lLit, iI_add, iI_sub, iI_mul, iI_neg, lI_add, lI_sub, lI_mul, lI_neg, nI_i, lI_i, iI_l, iI_nat, iI_lt, iI_le, iI_eq, lI_lt, lI_le, lI_eq] <;> omega) ?_
    have hd1 := Int.emod_nonneg k (show m ≠ 0 by omega)
    have hd2 := Int.emod_lt_of_pos k (show 0 < m by omega)
    have b1 := Cl_nn m ts (k % m)
    have b2 := Cl_lt hm hv.1 (k % m)
    rw [rem_k (by omega) hm]
    refine m_ways_t hv hr (by omega) (fun r er r0 r1 => ?_)
    unfold expR at h
    rw [← er] at h
    rw [iI_nat (by omega) (by omega), hc.zero hd1 hd2]
    simp (disch := omega) only [iLit, lLit, iI_add, iI_sub, iI_mul, iI_neg, lI_add, lI_sub, lI_mul, lI_neg, nI_i, lI_i, lI_eq]
    have hm0 : ¬ iI m = iI 0 := by simp (disch := omega) only [iI_eq]; omega
    refine ⟨fun e => ⟨hm0, hm0, iI_in (by omega) (by omega) (by omega), fun e2 => b_f (by decide) ?_, fun e2 => b_t trivial ?_⟩, fun e => b_t trivial ?_⟩
    · rw [if_pos ⟨e, e2⟩] at h
      exact ih (n + 1) (k + 1) (by omega) (by omega) (by omega) (by omega) h
    · rw [if_neg (fun z => e2 z.2)] at h
      exact ih (n + 0) (k + 1) (by omega) (by omega) (by omega) (by omega) h
    · rw [if_neg (fun z => e z.1)] at h
      exact ih (n + 0) (k + 1) (by omega) (by omega) (by omega) (by omega) h
theorem m_explained {post : Int32 → MS → Prop} {S : MS} {F : Nat → List tm} {a x y m : Int} (hF : mForms S F) (hL : mLaid S F) (ha : i32 a) (hx : i32 x) (hy : i32 y) (hm : i32 m) (h0 : ¬ (0 ≤ a ∧ a ≤ 3 ∧ F a.toNat ≠ [] ∧ -3000 ≤ x ∧ x ≤ y ∧ y ≤ 3000 ∧ 1 ≤ m ∧ m ≤ 60) → post (iI (-1)) S) (h1 : ∀ (s : Nat) (g g2 : Nat → Int64), s < 4 → a = s → F s ≠ [] → -3000 ≤ x → x ≤ y → y ≤ 3000 → 1 ≤ m → m ≤ 60 → rowsW g (F s) → post (iI (expR (Wy (F s)) (Cl m (F s)) m (y - x + 1).toNat 0 x)) (mB (mLS S s g) 46 g2)) : wX1_explained post S (iI a) (iI x) (iI y) (iI m) := by
  unfold wX1_explained
  refine m_isForm hF ha (fun s hs e hne => b_f (by decide) ?_) (fun hc => b_t rfl (h0 (fun z => hc ⟨z.1, z.2.1, z.2.2.1⟩)))
  refine m_isSpan hx hy (fun n1 n2 n3 => b_f (by decide) ?_) (fun hc => b_t rfl (h0 (fun z => hc (by omega))))
  rw [iI_l hm.1 hm.2]
  refine m_isIn (b := 1) (c := 60) (by omega) (by omega) (by omega) (fun c1 c2 => b_f (by decide) ?_) (fun hc => b_t rfl (h0 (fun z => hc (by omega))))
  subst e
  refine m_lays hF hL hs hne (fun g hg => ?_)
  refine m_cls (S := mLS S s g) (F := F) hF hs ⟨c1, c2⟩ (fun g2 hg2 => ⟨(y - x + 1).toNat + 1, ?_⟩)
  exact m_expl_49 (S := mB (mLS S s g) 46 g2) (hF s hs).2.1 (mLS_row (S := S) (s := s) (rowsW.zero hg)) ⟨c1, c2⟩ (by rw [mB_at]; exact hg2) n3 _ 0 x (by omega) (by omega) (by omega) (by omega) (h1 s g g2 hs rfl hne n1 n2 n3 c1 c2 hg)
