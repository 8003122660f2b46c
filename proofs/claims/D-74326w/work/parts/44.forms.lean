set_option maxRecDepth 100000
set_option maxHeartbeats 4000000
/-! forms: what is right, ways of them; the model's forms -/
def vT (t : tm) : Prop := 1 ≤ t.1 ∧ t.1 ≤ 99 ∧ 0 ≤ t.2.1 ∧ t.2.1 ≤ 4 ∧ t.2.2.1 ≤ t.2.2.2 ∧ -3001 ≤ t.2.2.1 ∧ t.2.2.2 ≤ 3001 ∧ ∀ x, t.2.2.1 ≤ x → x ≤ t.2.2.2 → -3000 ≤ tv t x ∧ tv t x ≤ 3000
def vF (ts : List tm) : Prop := ts.length ≤ 5 ∧ ∀ t ∈ ts, vT t
theorem vF.drop {ts : List tm} (h : vF ts) (i : Nat) : vF (ts.drop i) := ⟨by rw [List.length_drop]; have := h.1; omega, fun t ht => h.2 t (List.mem_of_mem_drop ht)⟩
theorem vF.tail {t : tm} {ts : List tm} (h : vF (t :: ts)) : vF ts := ⟨by have := h.1; rw [List.length_cons] at this; omega, fun x hx => h.2 x (List.mem_cons_of_mem _ hx)⟩
theorem vF.head {t : tm} {ts : List tm} (h : vF (t :: ts)) : vT t := h.2 t List.mem_cons_self
theorem Wy_cons (t : tm) (ts : List tm) (s : Int) : Wy (t :: ts) s = uI t.2.2.1 t.2.2.2 (fun x => Wy ts (s - t.1 * kV t.2.1 x)) := by rw [Wy]; rfl
theorem Wy_sup : ∀ ts : List tm, (∀ t ∈ ts, vT t) → ∀ s, Wy ts s ≠ 0 → -(3000 * (ts.length : Int)) ≤ s ∧ s ≤ 3000 * (ts.length : Int)
  | [], _, s, h => by
    have : s = 0 := Classical.byContradiction fun e => h (if_neg e)
    simp [this]
  | t :: ts, hv, s, h => by
    rw [Wy_cons] at h
    obtain ⟨x, h1, h2, h3⟩ := uI_ex h
    have h4 := Wy_sup ts (fun t ht => hv t (List.mem_cons_of_mem _ ht)) _ h3
    have h5 := (hv t List.mem_cons_self).2.2.2.2.2.2.2 x h1 h2
    unfold tv at h5
    rw [List.length_cons, Int.natCast_add, Int.mul_add]
    simp only [Int.natCast_one, Int.mul_one]
    omega
theorem Wy_nn : ∀ (ts : List tm) (s : Int), 0 ≤ Wy ts s
  | [], s => by unfold Wy; split <;> omega
  | t :: ts, s => by rw [Wy_cons]; exact uI_nn (fun x _ _ => Wy_nn ts _)
theorem Wy_le : ∀ ts : List tm, (∀ t ∈ ts, vT t) → ∀ s : Int, Wy ts s ≤ 6003 ^ ts.length
  | [], _, s => by show Wy [] s ≤ 1; unfold Wy; split <;> omega
  | t :: ts, hv, s => by
    have hp : (0 : Int) ≤ 6003 ^ ts.length := Int.pow_nonneg (by omega)
    have h1 := uI_le (lo := t.2.2.1) (hi := t.2.2.2) (f := fun x => Wy ts (s - t.1 * kV t.2.1 x)) (B := 6003 ^ ts.length) (fun x _ _ => Wy_le ts (fun t ht => hv t (List.mem_cons_of_mem _ ht)) _)
    have ht := hv t List.mem_cons_self
    have h2 : (((t.2.2.2 - t.2.2.1 + 1).toNat : Nat) : Int) ≤ 6003 := by have := ht.2.2.2.2; omega
    have h3 := Int.mul_le_mul_of_nonneg_right h2 hp
    rw [Wy_cons, List.length_cons, Int.pow_succ, Int.mul_comm (6003 ^ ts.length)]
    exact Int.le_trans h1 h3
theorem Wy_lt {ts : List tm} (h : vF ts) (s : Int) : Wy ts s < 9223372036854775808 := by
  have h1 := Wy_le ts h.2 s
  have h2 : (6003 : Int) ^ ts.length ≤ 7795470246225270243 := by
    rcases (show ts.length = 0 ∨ ts.length = 1 ∨ ts.length = 2 ∨ ts.length = 3 ∨ ts.length = 4 ∨ ts.length = 5 by have := h.1; omega) with e | e | e | e | e | e <;> rw [e] <;> decide
  omega
theorem Wy_sup5 {ts : List tm} (h : vF ts) {s : Int} (hs : ¬ (-15000 ≤ s ∧ s ≤ 15000)) : Wy ts s = 0 := Classical.byContradiction fun e => by
  have h1 := Wy_sup ts h.2 s e
  have := h.1
  omega
/-- the row of a form's ways, moved -/
def wR (ts : List tm) (s : Int) : Int := Wy ts (s - 15000)
theorem wR_sup {ts : List tm} (h : vF ts) : sup (wR ts) := fun s hs => Wy_sup5 h (by omega)
theorem wR_cons (t : tm) (ts : List tm) : wR (t :: ts) = Ly t.1 t.2.1 t.2.2.1 t.2.2.2 (wR ts) := by
  funext s
  unfold wR Ly
  rw [Wy_cons]
  exact uI_congr (fun x _ _ => by show Wy ts _ = Wy ts _; congr 1; omega)
theorem wR_nil : wR [] = fun s => if s = 15000 then 1 else 0 := by
  funext s
  unfold wR Wy
  by_cases e : s = 15000
  · rw [if_pos e, if_pos (by omega)]
  · rw [if_neg e, if_neg (by omega)]
/-- the model's forms -/
def mForms (S : MS) (F : Nat → List tm) : Prop := ∀ s, s < 4 → S.2.2.1 0 s = iI ((F s).length : Nat) ∧ vF (F s) ∧ ∀ (i : Nat) (t : tm), (F s)[i]? = some t → S.2.2.1 1 (4 * (5 * s + i)) = iI t.1 ∧ S.2.2.1 1 (4 * (5 * s + i) + 1) = iI t.2.1 ∧ S.2.2.1 1 (4 * (5 * s + i) + 2) = iI t.2.2.1 ∧ S.2.2.1 1 (4 * (5 * s + i) + 3) = iI t.2.2.2
theorem m_of {post : Int32 → MS → Prop} {S : MS} {s i k : Nat} (hs : s ≤ 4) (hi : i < 5) (hk : k < 4) (h : post (S.2.2.1 1 (4 * (5 * s + i) + k)) S) : wX1_of post S (iI s) (iI i) (iI k) := by
  unfold wX1_of
  simp (disch := omega) only [iLit, lLit, iI_add, iI_sub, iI_mul, iI_neg, lI_add, lI_sub, lI_mul, lI_neg, nI_i, lI_i, iI_nat]
  refine ⟨iI_in (by omega) (by omega) (by omega), ?_⟩
  rw [show (4 * (5 * (s : Int) + (i : Int)) + (k : Int)).toNat = 4 * (5 * s + i) + k by omega]
  exact h
theorem m_valueOf {post : Int64 → MS → Prop} {S : MS} {F : Nat → List tm} {s i : Nat} {t : tm} {x : Int} (hF : mForms S F) (hs : s < 4) (hi : i < 5) (ht : (F s)[i]? = some t) (h1 : -20000 ≤ x) (h2 : x ≤ 20000) (h : post (lI (tv t x)) S) : wX1_valueOf post S (iI s) (iI i) (lI x) := by
  obtain ⟨-, hv, hf⟩ := hF s hs
  obtain ⟨e1, e2, -, -⟩ := hf i t ht
  have hvt := hv.2 t (List.mem_of_getElem? ht)
  unfold wX1_valueOf
  refine m_of (k := 0) (by omega) hi (by omega) (m_of (k := 1) (by omega) hi (by omega) ?_)
  rw [e2]
  refine m_plain hvt.2.2.1 hvt.2.2.2.1 h1 h2 ?_
  rw [show 4 * (5 * s + i) + 0 = 4 * (5 * s + i) from rfl, e1, iI_l (by have := hvt.1; omega) (by have := hvt.2.1; omega), lI_mul]
  exact h
theorem m_isForm {post : Int32 → MS → Prop} {S : MS} {F : Nat → List tm} {a : Int} (hF : mForms S F) (ha : -2147483648 ≤ a ∧ a < 2147483648) (h1 : ∀ s : Nat, s < 4 → a = s → F s ≠ [] → post 1 S) (h0 : ¬ (0 ≤ a ∧ a ≤ 3 ∧ F a.toNat ≠ []) → post 0 S) : wX1_isForm post S (iI a) := by
  unfold wX1_isForm
  refine m_isSlot ha (fun a0 a3 => b_f (by decide) ?_) (fun a3 => b_t rfl (h0 (fun z => a3 ⟨z.1, z.2.1⟩)))
  obtain ⟨e, hv, -⟩ := hF a.toNat (by omega)
  refine ⟨iI_in (by omega) (by omega) (by omega), ?_⟩
  rw [iI_nat (by omega) (by omega), e]
  have := hv.1
  by_cases hn : F a.toNat = []
  · refine b_t ?_ (h0 (fun z => z.2.2 hn))
    rw [hn]; decide
  · have : 0 < (F a.toNat).length := List.length_pos_iff.mpr hn
    exact b_f (by simp (disch := omega) only [iLit, lLit, iI_add, iI_sub, iI_mul, iI_neg, lI_add, lI_sub, lI_mul, lI_neg, nI_i, lI_i, iI_l, iI_nat, iI_lt, iI_le, iI_eq, lI_lt, lI_le, lI_eq] <;> omega) (h1 a.toNat (by omega) (by omega) hn)
theorem m_lays_30 {post : Unit → MS → Prop} {S : MS} {F : Nat → List tm} {s : Nat} (hF : mForms S F) (hs : s < 4)
    (h : ∀ g : Nat → Int64, (∀ i, i ≤ (F s).length → rowW g i (wR ((F s).drop i))) → post () (mB S 22 g)) :
    ∀ (j : Nat) (g : Nat → Int64), j ≤ (F s).length → (∀ i, j ≤ i → i ≤ (F s).length → rowW g i (wR ((F s).drop i))) → wX1_lays_30 post (j + 1) (iI s) (iI ((j : Int) - 1)) (mB S 22 g) := by
  obtain ⟨e0, hv, hf⟩ := hF s hs
  have hl5 := hv.1
  intro j
  induction j with
  | zero =>
    intro g hj h1
    unfold wX1_lays_30
    exact b_t (by simp (disch := omega) only [iLit, lLit, iI_add, iI_sub, iI_mul, iI_neg, lI_add, lI_sub, lI_mul, lI_neg, nI_i, lI_i, iI_l, iI_nat, iI_lt, iI_le, iI_eq, lI_lt, lI_le, lI_eq] <;> omega) (h g (fun i hi => h1 i (by omega) hi))
  | succ j ih =>
    intro g hj h1
    obtain ⟨t, ht⟩ : ∃ t, (F s)[j]? = some t := ⟨_, List.getElem?_eq_getElem (by omega)⟩
    have hd : (F s).drop j = t :: (F s).drop (j + 1) := by
      rw [List.getElem?_eq_some_iff] at ht
      obtain ⟨h1, h2⟩ := ht
      rw [← h2]; exact List.drop_eq_getElem_cons h1
    obtain ⟨e1, e2, e3, e4⟩ := hf j t ht
    have hvt := hv.2 t (List.mem_of_getElem? ht)
    unfold wX1_lays_30
    refine b_f (by simp (disch := omega) only [iLit, lLit, iI_add, iI_sub, iI_mul, iI_neg, lI_add, lI_sub, lI_mul, lI_neg, nI_i, lI_i, iI_l, iI_nat, iI_lt, iI_le, iI_eq, lI_lt, lI_le, lI_eq] <;> omega) ?_
    have ee : ((j + 1 : Nat) : Int) - 1 = (j : Nat) := by omega
    rw [ee]
    have hF' : mForms (mB S 22 g) F := hF
    refine m_of (k := 0) (by omega) (by omega) (by omega) (m_of (k := 1) (by omega) (by omega) (by omega) (m_of (k := 2) (by omega) (by omega) (by omega) (m_of (k := 3) (by omega) (by omega) (by omega) ?_)))
    show wX1_laysLayer _ (mB S 22 g) (iI j) (iI j + 1) (S.2.2.1 1 (4 * (5 * s + j))) (S.2.2.1 1 (4 * (5 * s + j) + 1)) (S.2.2.1 1 (4 * (5 * s + j) + 2)) (S.2.2.1 1 (4 * (5 * s + j) + 3))
    rw [e1, e2, e3, e4]
    simp only [iLit, lLit, iI_add, iI_sub, iI_mul, iI_neg, lI_add, lI_sub, lI_mul, lI_neg, nI_i, lI_i]
    have hb := hvt.2.2.2.2
    have hd2 := hv.drop (j + 1)
    have hrow : Ly t.1 t.2.1 t.2.2.1 t.2.2.2 (wR ((F s).drop (j + 1))) = wR ((F s).drop j) := by rw [hd, wR_cons]
    refine m_layer (i := j) (j := j + 1) (by omega) (by omega) (by omega) ⟨hvt.1, by have := hvt.2.1; omega⟩ ⟨hvt.2.2.1, hvt.2.2.2.1⟩ (by omega) (by omega) (by omega) (by rw [mB_at]; exact h1 (j + 1) (by omega) (by omega)) (wR_sup hd2) (fun z hz => ?_) (fun g' a b => ?_)
    · rw [hrow]
      exact wR_sup (hv.drop j) z (by omega)
    · rw [hrow] at a
      rw [mB_mB, show (j : Int) + -1 = (j : Int) - 1 by omega]
      refine ih g' (by omega) (fun i hi1 hi2 => ?_)
      by_cases e : i = j
      · subst e; exact a
      · intro z hz1 hz2
        rw [b _ (by omega), mB_at]
        exact h1 i (by omega) hi2 z hz1 hz2
theorem mI_id (S : MS) (k : Nat) : mI S k (S.1 k) = S := by
  unfold mI
  show (va_up S.1 k (S.1 k), S.2) = (S.1, S.2)
  congr 1
  funext j
  unfold va_up
  split
  · rename_i e; rw [e]
  · rfl
/-- what is laid of ways: none, or those of a slot's form -/
def laidAt (S : MS) (F : Nat → List tm) (s : Nat) : Prop := F s ≠ [] ∧ ∀ i, i ≤ (F s).length → rowW (S.2.2.2 22) i (wR ((F s).drop i))
def mLaid (S : MS) (F : Nat → List tm) : Prop := S.1 21 = iI (-1) ∨ ∃ s : Nat, s < 4 ∧ S.1 21 = iI s ∧ laidAt S F s
theorem m_lays {post : Unit → MS → Prop} {S : MS} {F : Nat → List tm} {s : Nat} (hF : mForms S F) (hL : mLaid S F) (hs : s < 4) (hn : F s ≠ [])
    (h : ∀ g : Nat → Int64, (∀ i, i ≤ (F s).length → rowW g i (wR ((F s).drop i))) → post () (mI (mB S 22 g) 21 (iI s))) : wX1_lays post S (iI s) := by
  obtain ⟨e0, hv, hf⟩ := hF s hs
  have hl5 := hv.1
  unfold wX1_lays
  by_cases hl : S.1 21 = iI s
  · refine b_t hl ?_
    rcases hL with hL | ⟨s', hs', e', -, hr⟩
    · rw [hL] at hl
      simp (disch := omega) only [iI_eq] at hl
      omega
    · rw [e'] at hl
      simp (disch := omega) only [iI_eq] at hl
      have : s' = s := by omega
      subst this
      have h2 := h (S.2.2.2 22) hr
      rw [mB_id, ← e', mI_id] at h2
      exact h2
  · refine b_f hl ⟨iI_in (by omega) (by omega) (by omega), ?_⟩
    rw [iI_nat (by omega) (by omega), show ((s : Int)).toNat = s by omega, e0]
    simp only [iLit, lLit, iI_add, iI_sub, iI_mul, iI_neg, lI_add, lI_sub, lI_mul, lI_neg, nI_i, lI_i]
    refine m_nought (by omega) (fun g a b => ⟨(F s).length + 1, ?_⟩)
    refine m_lays_30 (S := mI S 21 (iI s)) (F := F) hF hs (fun g hg => h g hg) (F s).length g (Nat.le_refl _) (fun i h1 h2 => ?_)
    rw [show i = (F s).length by omega, List.drop_length, wR_nil]
    exact a
theorem m_waysOf {post : Int64 → MS → Prop} {S : MS} {ts : List tm} {n : Int} (hv : vF ts) (hr : rowW (S.2.2.2 22) 0 (wR ts)) (hn : -100000 ≤ n ∧ n ≤ 100000) (h : post (lI (Wy ts n)) S) : wX1_waysOf post S (iI n) := by
  unfold wX1_waysOf
  simp (disch := omega) only [iLit, lLit, iI_add, iI_sub, iI_mul, iI_neg, lI_add, lI_sub, lI_mul, lI_neg, nI_i, lI_i, iI_l]
  refine m_at (i := 0) (by omega) (by omega) hr (wR_sup hv) ?_
  unfold wR
  rw [show n + 15000 - 15000 = n by omega]
  exact h
theorem m_ways {post : Int64 → MS → Prop} {S : MS} {F : Nat → List tm} {a n : Int} (hF : mForms S F) (hL : mLaid S F) (ha : -2147483648 ≤ a ∧ a < 2147483648) (hn : -2147483648 ≤ n ∧ n < 2147483648)
    (h0 : ¬ (0 ≤ a ∧ a ≤ 3 ∧ F a.toNat ≠ [] ∧ -3000 ≤ n ∧ n ≤ 3000) → post (lI (-1)) S) (h1 : ∀ (s : Nat) (g : Nat → Int64), s < 4 → a = s → F s ≠ [] → -3000 ≤ n → n ≤ 3000 → (∀ i, i ≤ (F s).length → rowW g i (wR ((F s).drop i))) → post (lI (Wy (F s) n)) (mI (mB S 22 g) 21 (iI s))) : wX1_ways post S (iI a) (iI n) := by
  unfold wX1_ways
  refine m_isForm hF ha (fun s hs e hne => b_f (by decide) ?_) (fun hc => b_t rfl (h0 (fun z => hc ⟨z.1, z.2.1, z.2.2.1⟩)))
  refine m_isN hn (fun n1 n2 => b_f (by decide) ?_) (fun hc => b_t rfl (h0 (fun z => hc z.2.2.2)))
  subst e
  refine m_lays hF hL hs hne (fun g hg => ?_)
  have h0' := hg 0 (Nat.zero_le _)
  rw [List.drop_zero] at h0'
  exact m_waysOf (hF s hs).2.1 (show rowW ((mI (mB S 22 g) 21 (iI s)).2.2.2 22) 0 (wR (F s)) from by show rowW ((mB S 22 g).2.2.2 22) 0 _; rw [mB_at]; exact h0') (by omega) (h1 s g hs rfl hne n1 n2 hg)
