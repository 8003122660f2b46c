set_option maxRecDepth 100000
set_option maxHeartbeats 4000000
/-! the model: ways by numbers, greed, enough -/
theorem uI_first {lo hi : Int} (f : Int → Int) (h : lo ≤ hi) : uI lo hi f = f lo + uI (lo + 1) hi f := by
  unfold uI
  have e := uN_shift (fun j : Nat => f (lo + j)) (hi - lo).toNat
  rw [show (hi - lo + 1).toNat = (hi - lo).toNat + 1 by omega, show (hi - (lo + 1) + 1).toNat = (hi - lo).toNat by omega]
  have e2 : uN (fun j : Nat => f (lo + 1 + j)) (hi - lo).toNat = uN (fun j : Nat => (fun j : Nat => f (lo + j)) (j + 1)) (hi - lo).toNat := uN_congr _ (fun j _ => by
    show f (lo + 1 + j) = f (lo + ((j + 1 : Nat) : Int))
    congr 1; omega)
  rw [e2, e]
  show uN (fun j : Nat => f (lo + j)) (hi - lo).toNat + f (lo + (((hi - lo).toNat : Nat) : Int)) = _
  rw [show lo + ((0 : Nat) : Int) = lo by omega]
  omega
theorem uI_none {lo hi : Int} (f : Int → Int) (h : hi < lo) : uI lo hi f = 0 := by
  unfold uI
  rw [show (hi - lo + 1).toNat = 0 by omega]; rfl
/-- the x with which the k-th way goes on; what is left of k -/
def srch (w : Int → Int) : Nat → Int → Int → Int × Int
  | 0, x, k => (x, k)
  | m + 1, x, k => if k < w x then (x, k) else srch w m (x + 1) (k - w x)
theorem srch_ok (w : Int → Int) (hi : Int) : ∀ (m : Nat) (x k : Int), x + m = hi + 1 → 0 ≤ k → k < uI x hi w → x ≤ (srch w m x k).1 ∧ (srch w m x k).1 ≤ hi ∧ 0 ≤ (srch w m x k).2 ∧ (srch w m x k).2 < w (srch w m x k).1
  | 0, x, k, hm, h0, h1 => by rw [uI_none w (by omega)] at h1; omega
  | m + 1, x, k, hm, h0, h1 => by
    unfold srch
    by_cases e : k < w x
    · rw [if_pos e]; exact ⟨Int.le_refl _, by show x ≤ hi; omega, h0, e⟩
    · rw [if_neg e]
      rw [uI_first w (by omega)] at h1
      have := srch_ok w hi m (x + 1) (k - w x) (by omega) (by omega) (by omega)
      omega
def fnd : List tm → Int → Int → List Int
  | [], _, _ => []
  | t :: ts, k, n => (srch (fun x => Wy ts (n - tv t x)) (t.2.2.2 - t.2.2.1 + 1).toNat t.2.2.1 k).1 :: fnd ts (srch (fun x => Wy ts (n - tv t x)) (t.2.2.2 - t.2.2.1 + 1).toNat t.2.2.1 k).2 (n - tv t (srch (fun x => Wy ts (n - tv t x)) (t.2.2.2 - t.2.2.1 + 1).toNat t.2.2.1 k).1)
theorem fnd_cons (t : tm) (ts : List tm) (k n : Int) : fnd (t :: ts) k n = (srch (fun x => Wy ts (n - tv t x)) (t.2.2.2 - t.2.2.1 + 1).toNat t.2.2.1 k).1 :: fnd ts (srch (fun x => Wy ts (n - tv t x)) (t.2.2.2 - t.2.2.1 + 1).toNat t.2.2.1 k).2 (n - tv t (srch (fun x => Wy ts (n - tv t x)) (t.2.2.2 - t.2.2.1 + 1).toNat t.2.2.1 k).1) := by rw [fnd]
theorem fnd_len : ∀ (ts : List tm) (k n : Int), (fnd ts k n).length = ts.length
  | [], _, _ => rfl
  | t :: ts, k, n => by unfold fnd; rw [List.length_cons, fnd_len ts, List.length_cons]
/-- at of a form's rows, by what is left -/
theorem m_atR {post : Int64 → MS → Prop} {S : MS} {ts : List tm} {i : Nat} {z : Int} (hv : vF ts) (hi : i ≤ 5) (hr : rowW (S.2.2.2 22) i (wR ts)) (hz : -1000000 ≤ z ∧ z ≤ 1000000) (h : ∀ r : Int, r = Wy ts (z - 15000) → 0 ≤ r → r < 9223372036854775808 → post (lI r) S) : wX1_at post S (iI i) (lI z) := m_at hi (by omega) hr (wR_sup hv) (h _ rfl (Wy_nn _ _) (Wy_lt hv _))
theorem vT.tv {t : tm} (h : vT t) {x : Int} (h1 : t.2.2.1 ≤ x) (h2 : x ≤ t.2.2.2) : -3000 ≤ tv t x ∧ tv t x ≤ 3000 := h.2.2.2.2.2.2.2 x h1 h2
theorem vT.lo {t : tm} (h : vT t) : -3001 ≤ t.2.2.1 ∧ t.2.2.1 ≤ t.2.2.2 ∧ t.2.2.2 ≤ 3001 := ⟨h.2.2.2.2.2.1, h.2.2.2.2.1, h.2.2.2.2.2.2.1⟩
theorem m_finds_57 {K36 : Int32 → Int64 → Int64 → Int32 → MS → Prop} {post : Int32 → MS → Prop} {S : MS} {F : Nat → List tm} {s i : Nat} {t : tm} {ts : List tm} {n : Int} (hF : mForms S F) (hs : s < 4) (hi : i < 5) (ht : (F s)[i]? = some t) (hts : vF ts) (hr : rowW (S.2.2.2 22) (i + 1) (wR ts)) (hn : -100000 ≤ n ∧ n ≤ 100000) : ∀ (m : Nat) (x k : Int), x + m = t.2.2.2 + 1 → t.2.2.1 ≤ x → 0 ≤ k → k < 9223372036854775808 → k < uI x t.2.2.2 (fun x => Wy ts (n - tv t x)) → K36 (iI s) (lI (srch (fun x => Wy ts (n - tv t x)) m x k).2) (lI (n + 15000 - tv t (srch (fun x => Wy ts (n - tv t x)) m x k).1)) (iI ((i + 1 : Nat) : Int)) (mA S 30 (upd (S.2.2.1 30) i (iI (srch (fun x => Wy ts (n - tv t x)) m x k).1))) → wX1_finds_57 K36 post m (iI s) (lI k) (lI (n + 15000)) (iI i) (iI x) S := by
  have hvt := (hF s hs).2.1.2 t (List.mem_of_getElem? ht)
  have hlo := hvt.lo
  intro m
  induction m with
  | zero => intro x k hm hx h0 h9 h1 h; rw [uI_none _ (by omega)] at h1; omega
  | succ m ih =>
    intro x k hm hx h0 h9 h1 h
    have hb := hvt.tv hx (by omega)
    have e0 := uI_first (lo := x) (hi := t.2.2.2) (fun x => Wy ts (n - tv t x)) (by omega)
    unfold wX1_finds_57
    unfold srch at h
    simp (disch := omega) only [iLit, lLit, iI_add, iI_sub, iI_mul, iI_neg, lI_add, lI_sub, lI_mul, lI_neg, nI_i, lI_i, iI_l]
    refine m_valueOf hF hs hi ht (by omega) (by omega) ?_
    simp only [lI_sub]
    refine m_atR (i := i + 1) hts (by omega) hr (by omega) (fun r er r0 r1 => ?_)
    rw [show n + 15000 - tv t x - 15000 = n - tv t x by omega] at er
    rw [← er] at h
    rw [← er] at e0
    rw [lI_lt (by omega) (by omega) (by omega) (by omega)]
    refine ⟨fun e => ?_, fun e => ?_⟩
    · rw [if_pos e] at h
      refine ⟨iI_in (by omega) (by omega) (by omega), ?_⟩
      simp (disch := omega) only [iI_nat]
      rw [show ((i : Int)).toNat = i by omega]
      refine m_valueOf (F := F) hF hs hi ht (by omega) (by omega) ?_
      simp only [lI_sub]
      exact h
    · rw [if_neg e] at h
      refine m_valueOf hF hs hi ht (by omega) (by omega) ?_
      simp only [lI_sub]
      refine m_atR (i := i + 1) hts (by omega) hr (by omega) (fun q eq q0 q1 => ?_)
      rw [show n + 15000 - tv t x - 15000 = n - tv t x by omega, ← er] at eq
      subst eq
      simp only [lI_sub]
      exact ih (x + 1) (k - q) (by omega) (by omega) (by omega) (by omega) (by omega) h
theorem m_finds_36 {post : Int32 → MS → Prop} {S : MS} {F : Nat → List tm} {s : Nat} (hF : mForms S F) (hs : s < 4) (hr : rowsW (S.2.2.2 22) (F s)) {k0 n0 : Int}
    (h : ∀ f : Nat → Int32, (∀ (j : Nat) (y : Int), (fnd (F s) k0 n0)[j]? = some y → f j = iI y) → post 1 (mA S 30 f)) : ∀ (m i : Nat) (k n : Int) (f : Nat → Int32), i + m = (F s).length → (∀ j : Nat, j < i → ∀ y : Int, (fnd (F s) k0 n0)[j]? = some y → f j = iI y) → (fnd (F s) k0 n0).drop i = fnd ((F s).drop i) k n → -(3000 * (6 + i : Int)) ≤ n → n ≤ 3000 * (6 + i : Int) → 0 ≤ k → k < Wy ((F s).drop i) n → wX1_finds_36 post (m + 1) (iI s) (lI k) (lI (n + 15000)) (iI i) (mA S 30 f) := by
  obtain ⟨e0, hv, hf⟩ := hF s hs
  have hl5 := hv.1
  intro m
  induction m with
  | zero =>
    intro i k n f hm h1 h2 n1 n2 k1 k2
    unfold wX1_finds_36
    refine ⟨iI_in (by omega) (by omega) (by omega), ?_⟩
    rw [iI_nat (by omega) (by omega), show ((s : Int)).toNat = s by omega, show (mA S 30 f).2.2.1 0 s = _ from e0]
    refine b_t (by simp (disch := omega) only [iLit, lLit, iI_add, iI_sub, iI_mul, iI_neg, lI_add, lI_sub, lI_mul, lI_neg, nI_i, lI_i, iI_l, iI_nat, iI_lt, iI_le, iI_eq, lI_lt, lI_le, lI_eq] <;> omega) (h f (fun j y hy => h1 j ?_ y hy))
    have := (List.getElem?_eq_some_iff.mp hy).1
    rw [fnd_len] at this
    omega
  | succ m ih =>
    intro i k n f hm h1 h2 n1 n2 k1 k2
    unfold wX1_finds_36
    refine ⟨iI_in (by omega) (by omega) (by omega), ?_⟩
    rw [iI_nat (by omega) (by omega), show ((s : Int)).toNat = s by omega, show (mA S 30 f).2.2.1 0 s = _ from e0]
    refine b_f (by simp (disch := omega) only [iLit, lLit, iI_add, iI_sub, iI_mul, iI_neg, lI_add, lI_sub, lI_mul, lI_neg, nI_i, lI_i, iI_l, iI_nat, iI_lt, iI_le, iI_eq, lI_lt, lI_le, lI_eq] <;> omega) ?_
    obtain ⟨t, ht⟩ : ∃ t, (F s)[i]? = some t := ⟨_, List.getElem?_eq_getElem (by omega)⟩
    have hd : (F s).drop i = t :: (F s).drop (i + 1) := by
      obtain ⟨h1, h2⟩ := List.getElem?_eq_some_iff.mp ht
      rw [← h2]; exact List.drop_eq_getElem_cons h1
    have hvt := hv.2 t (List.mem_of_getElem? ht)
    have hlo := hvt.lo
    refine m_of (k := 2) (by omega) (by omega) (by omega) ?_
    show ∃ k_1, wX1_finds_57 _ post k_1 (iI s) (lI k) (lI (n + 15000)) (iI i) (S.2.2.1 1 (4 * (5 * s + i) + 2)) (mA S 30 f)
    rw [(hf i t ht).2.2.1]
    have k3 : k < 9223372036854775808 := Int.lt_trans k2 (Wy_lt (hv.drop i) n)
    rw [hd, Wy_cons] at k2
    rw [hd, fnd_cons] at h2
    have hso := srch_ok (fun x => Wy ((F s).drop (i + 1)) (n - tv t x)) t.2.2.2 (t.2.2.2 - t.2.2.1 + 1).toNat t.2.2.1 k (by omega) k1 k2
    refine ⟨(t.2.2.2 - t.2.2.1 + 1).toNat, m_finds_57 (S := mA S 30 f) (F := F) hF hs (by omega) ht (hv.drop (i + 1)) (hr (i + 1) (by omega)) (by omega) (t.2.2.2 - t.2.2.1 + 1).toNat t.2.2.1 k (by omega) (by omega) k1 k3 k2 ?_⟩
    rw [mA_mA, mA_at]
    have hb := hvt.tv hso.1 hso.2.1
    rw [show n + 15000 - tv t (srch (fun x => Wy ((F s).drop (i + 1)) (n - tv t x)) (t.2.2.2 - t.2.2.1 + 1).toNat t.2.2.1 k).1 = n - tv t (srch (fun x => Wy ((F s).drop (i + 1)) (n - tv t x)) (t.2.2.2 - t.2.2.1 + 1).toNat t.2.2.1 k).1 + 15000 by omega]
    refine ih (i + 1) _ _ _ (by omega) (fun j hj y hy => ?_) ?_ (by omega) (by omega) hso.2.2.1 hso.2.2.2
    · unfold upd
      by_cases e : j = i
      · rw [if_pos e]
        have h3 : ((fnd (F s) k0 n0).drop i)[0]? = some y := by rw [List.getElem?_drop, ← e]; exact hy
        rw [h2] at h3
        cases h3
        rfl
      · rw [if_neg e]; exact h1 j (by omega) y hy
    · rw [← List.drop_drop, h2]
      rfl
theorem m_finds {post : Int32 → MS → Prop} {S : MS} {F : Nat → List tm} {s : Nat} {n k : Int} (hF : mForms S F) (hL : mLaid S F) (hs : s < 4) (hne : F s ≠ []) (hn : -3000 ≤ n ∧ n ≤ 3000) (hk : i64 k)
    (h0 : ∀ g : Nat → Int64, rowsW g (F s) → ¬ (0 ≤ k ∧ k < Wy (F s) n) → post 0 (mLS S s g)) (h1 : ∀ (g : Nat → Int64) (f : Nat → Int32), rowsW g (F s) → 0 ≤ k → k < Wy (F s) n → (∀ (j : Nat) (y : Int), (fnd (F s) k n)[j]? = some y → f j = iI y) → post 1 (mA (mLS S s g) 30 f)) : wX1_finds post S (iI s) (iI n) (lI k) := by
  unfold wX1_finds
  have hv := (hF s hs).2.1
  refine m_lays hF hL hs hne (fun g hg => ?_)
  have hr := mLS_row (S := S) (s := s) (rowsW.zero hg)
  refine m_ways_t hv hr (by omega) (fun r er r0 r1 => ?_)
  simp only [iLit, lLit, iI_add, iI_sub, iI_mul, iI_neg, lI_add, lI_sub, lI_mul, lI_neg, nI_i, lI_i]
  refine m_isIn (b := 0) hk (by omega) (by omega) (fun c1 c2 => b_f (by decide) ?_) (fun c => b_t rfl (h0 g hg (by omega)))
  simp (disch := omega) only [iLit, lLit, iI_add, iI_sub, iI_mul, iI_neg, lI_add, lI_sub, lI_mul, lI_neg, nI_i, lI_i, iI_l]
  refine ⟨(F s).length + 1, ?_⟩
  have key := m_finds_36 (post := post) (S := mLS S s g) (F := F) (k0 := k) (n0 := n) hF hs (fun i hi => mLS_row (hg i hi)) (fun f hf => h1 g f hg c1 (by omega) hf) (F s).length 0 k n ((mLS S s g).2.2.1 30) (by omega) (fun j hj => by omega) (by rw [List.drop_zero, List.drop_zero]) (by omega) (by omega) c1 (by rw [List.drop_zero]; omega)
  rw [mA_id] at key
  exact key
theorem m_way {post : Int32 → MS → Prop} {S : MS} {F : Nat → List tm} {a n k i : Int} (hF : mForms S F) (hL : mLaid S F) (ha : i32 a) (hn : i32 n) (hk : i64 k) (hi : i32 i)
    (h0 : ¬ (0 ≤ a ∧ a ≤ 3 ∧ F a.toNat ≠ [] ∧ -3000 ≤ n ∧ n ≤ 3000 ∧ 0 ≤ i ∧ i < (F a.toNat).length) → post (iI (-100000)) S) (h1 : ∀ (s j : Nat) (g : Nat → Int64), s < 4 → a = s → F s ≠ [] → -3000 ≤ n → n ≤ 3000 → i = j → j < (F s).length → rowsW g (F s) → ¬ (0 ≤ k ∧ k < Wy (F s) n) → post (iI (-100000)) (mLS S s g)) (h2 : ∀ (s j : Nat) (y : Int) (g : Nat → Int64) (f : Nat → Int32), s < 4 → a = s → F s ≠ [] → -3000 ≤ n → n ≤ 3000 → i = j → rowsW g (F s) → 0 ≤ k → k < Wy (F s) n → (fnd (F s) k n)[j]? = some y → post (iI y) (mA (mLS S s g) 30 f)) : wX1_way post S (iI a) (iI n) (lI k) (iI i) := by
  unfold wX1_way
  refine m_isForm hF ha (fun s hs e hne => b_f (by decide) ?_) (fun hc => b_t rfl (h0 (fun z => hc ⟨z.1, z.2.1, z.2.2.1⟩)))
  refine m_isN hn (fun n1 n2 => b_f (by decide) ?_) (fun hc => b_t rfl (h0 (fun z => hc ⟨z.2.2.2.1, z.2.2.2.2.1⟩)))
  subst e
  refine m_isTerm hF ha hi (fun s' j t hs' e1 e2 ht hj => b_f (by decide) ?_) (fun hc => b_t rfl (h0 (fun z => hc ⟨z.1, z.2.1, z.2.2.2.2.2⟩)))
  have : s' = s := by omega
  subst this
  have hjl := (List.getElem?_eq_some_iff.mp ht).1
  refine m_finds hF hL hs hne ⟨n1, n2⟩ hk (fun g hg hc => b_t rfl (h1 s' j g hs rfl hne n1 n2 e2 hjl hg hc)) (fun g f hg k1 k2 hf => b_f (by decide) ?_)
  obtain ⟨y, hy⟩ : ∃ y, (fnd (F s') k n)[j]? = some y := ⟨_, List.getElem?_eq_getElem (by rw [fnd_len]; exact hjl)⟩
  refine ⟨iI_in (by omega) (by omega) (by omega), ?_⟩
  rw [iI_nat (by omega) (by omega), mA_at, show i.toNat = j by omega, hf j y hy]
  exact h2 s' j y g f hs rfl hne n1 n2 e2 hg k1 k2 hy
/-- the number of a way that is told -/
def nmbR (y : Nat → Int) : List tm → Nat → Int → Int → Int
  | [], _, n, v => if n = 0 then v else -1
  | t :: ts, i, n, v => if t.2.2.1 ≤ y i ∧ y i ≤ t.2.2.2 then nmbR y ts (i + 1) (n - tv t (y i)) (v + uI t.2.2.1 (y i - 1) (fun x => Wy ts (n - tv t x))) else -1
theorem m_number_134 {K77 : Int32 → Int64 → Int64 → Int32 → MS → Prop} {post : Int64 → MS → Prop} {S : MS} {F : Nat → List tm} {s i : Nat} {t : tm} {ts : List tm} {n y : Int} (hF : mForms S F) (hs : s < 4) (hi : i < 5) (ht : (F s)[i]? = some t) (hts : vF ts) (hr : rowW (S.2.2.2 22) (i + 1) (wR ts)) (hn : -100000 ≤ n ∧ n ≤ 100000) (hy1 : t.2.2.1 ≤ y) (hy2 : y ≤ t.2.2.2) (hfy : S.2.2.1 30 i = iI y) : ∀ (m : Nat) (x v : Int), x + m = y → t.2.2.1 ≤ x → K77 (iI s) (lI (v + uI x (y - 1) (fun x => Wy ts (n - tv t x)))) (lI (n + 15000 - tv t y)) (iI ((i + 1 : Nat) : Int)) S → wX1_number_134 K77 post (m + 1) (iI s) (lI v) (lI (n + 15000)) (iI i) (iI x) S := by
  have hvt := (hF s hs).2.1.2 t (List.mem_of_getElem? ht)
  have hlo := hvt.lo
  intro m
  induction m with
  | zero =>
    intro x v hm hx h
    unfold wX1_number_134
    refine ⟨iI_in (by omega) (by omega) (by omega), ?_⟩
    rw [iI_nat (by omega) (by omega), show ((i : Int)).toNat = i by omega, hfy]
    refine b_t (by simp (disch := omega) only [iLit, lLit, iI_add, iI_sub, iI_mul, iI_neg, lI_add, lI_sub, lI_mul, lI_neg, nI_i, lI_i, iI_l, iI_nat, iI_lt, iI_le, iI_eq, lI_lt, lI_le, lI_eq] <;> omega) ⟨iI_in (by omega) (by omega) (by omega), ?_⟩
    simp (disch := omega) only [iLit, lLit, iI_add, iI_sub, iI_mul, iI_neg, lI_add, lI_sub, lI_mul, lI_neg, nI_i, lI_i, iI_l]
    refine m_valueOf hF hs hi ht (by omega) (by omega) ?_
    rw [uI_none _ (by omega), Int.add_zero] at h
    simp only [lI_sub]
    exact h
  | succ m ih =>
    intro x v hm hx h
    unfold wX1_number_134
    refine ⟨iI_in (by omega) (by omega) (by omega), ?_⟩
    rw [iI_nat (by omega) (by omega), show ((i : Int)).toNat = i by omega, hfy]
    refine b_f (by simp (disch := omega) only [iLit, lLit, iI_add, iI_sub, iI_mul, iI_neg, lI_add, lI_sub, lI_mul, lI_neg, nI_i, lI_i, iI_l, iI_nat, iI_lt, iI_le, iI_eq, lI_lt, lI_le, lI_eq] <;> omega) ?_
    have hb := hvt.tv hx (by omega)
    simp (disch := omega) only [iLit, lLit, iI_add, iI_sub, iI_mul, iI_neg, lI_add, lI_sub, lI_mul, lI_neg, nI_i, lI_i, iI_l]
    refine m_valueOf hF hs hi ht (by omega) (by omega) ?_
    simp only [lI_sub]
    refine m_atR (i := i + 1) hts (by omega) hr (by omega) (fun r er r0 r1 => ?_)
    rw [show n + 15000 - tv t x - 15000 = n - tv t x by omega] at er
    simp only [lI_add]
    refine ih (x + 1) (v + r) (by omega) (by omega) ?_
    rw [uI_first _ (by omega), ← Int.add_assoc, ← er] at h
    exact h
theorem m_number_77 {post : Int64 → MS → Prop} {S : MS} {F : Nat → List tm} {s : Nat} {y : Nat → Int} (hF : mForms S F) (hs : s < 4) (hr : rowsW (S.2.2.2 22) (F s)) (hy : ∀ j, j < 5 → S.2.2.1 30 j = iI (y j) ∧ i32 (y j)) : ∀ (m i : Nat) (n v : Int), i + m = (F s).length → -(3000 * (6 + i : Int)) ≤ n → n ≤ 3000 * (6 + i : Int) → post (lI (nmbR y ((F s).drop i) i n v)) S → wX1_number_77 post (m + 1) (iI s) (lI v) (lI (n + 15000)) (iI i) S := by
  obtain ⟨e0, hv, hf⟩ := hF s hs
  have hl5 := hv.1
  intro m
  induction m with
  | zero =>
    intro i n v hm n1 n2 h
    unfold wX1_number_77
    refine ⟨iI_in (by omega) (by omega) (by omega), ?_⟩
    rw [iI_nat (by omega) (by omega), show ((s : Int)).toNat = s by omega, e0]
    refine b_t (by simp (disch := omega) only [iLit, lLit, iI_add, iI_sub, iI_mul, iI_neg, lI_add, lI_sub, lI_mul, lI_neg, nI_i, lI_i, iI_l, iI_nat, iI_lt, iI_le, iI_eq, lI_lt, lI_le, lI_eq] <;> omega) ?_
    simp (disch := omega) only [iLit, lLit, iI_add, iI_sub, iI_mul, iI_neg, lI_add, lI_sub, lI_mul, lI_neg, nI_i, lI_i, lI_eq]
    rw [List.drop_of_length_le (by omega)] at h
    unfold nmbR at h
    exact ⟨fun e => by rw [if_pos (by omega)] at h; exact h, fun e => by rw [if_neg (by omega)] at h; exact h⟩
  | succ m ih =>
    intro i n v hm n1 n2 h
    unfold wX1_number_77
    refine ⟨iI_in (by omega) (by omega) (by omega), ?_⟩
    rw [iI_nat (by omega) (by omega), show ((s : Int)).toNat = s by omega, e0]
    refine b_f (by simp (disch := omega) only [iLit, lLit, iI_add, iI_sub, iI_mul, iI_neg, lI_add, lI_sub, lI_mul, lI_neg, nI_i, lI_i, iI_l, iI_nat, iI_lt, iI_le, iI_eq, lI_lt, lI_le, lI_eq] <;> omega) ⟨iI_in (by omega) (by omega) (by omega), ?_⟩
    obtain ⟨t, ht⟩ : ∃ t, (F s)[i]? = some t := ⟨_, List.getElem?_eq_getElem (by omega)⟩
    have hd : (F s).drop i = t :: (F s).drop (i + 1) := by
      obtain ⟨h1, h2⟩ := List.getElem?_eq_some_iff.mp ht
      rw [← h2]; exact List.drop_eq_getElem_cons h1
    have hvt := hv.2 t (List.mem_of_getElem? ht)
    have hlo := hvt.lo
    obtain ⟨f1, f2, f3, f4⟩ := hf i t ht
    obtain ⟨y1, y2⟩ := hy i (by omega)
    refine m_of (k := 2) (by omega) (by omega) (by omega) (m_of (k := 3) (by omega) (by omega) (by omega) ?_)
    rw [iI_nat (by omega) (by omega), show ((i : Int)).toNat = i by omega, f3, f4, y1]
    simp (disch := omega) only [iI_l]
    rw [hd] at h
    unfold nmbR at h
    refine m_isIn (by omega) (by omega) (by omega) (fun c1 c2 => b_f (by decide) ?_) (fun c => b_t rfl (by rw [if_neg c] at h; exact h))
    rw [if_pos ⟨c1, c2⟩] at h
    refine m_of (k := 2) (by omega) (by omega) (by omega) ?_
    rw [f3]
    have hb := hvt.tv c1 c2
    refine ⟨(y i - t.2.2.1).toNat + 1, m_number_134 (y := y i) hF hs (by omega) ht (hv.drop (i + 1)) (hr (i + 1) (by omega)) (by omega) c1 c2 y1 _ _ _ (by omega) (by omega) ?_⟩
    rw [show n + 15000 - tv t (y i) = n - tv t (y i) + 15000 by omega]
    exact ih (i + 1) _ _ (by omega) (by omega) (by omega) h
theorem m_number {post : Int64 → MS → Prop} {S : MS} {F : Nat → List tm} {a n : Int} {y : Nat → Int} (hF : mForms S F) (hL : mLaid S F) (ha : i32 a) (hn : i32 n) (hy : ∀ j, j < 5 → i32 (y j))
    (h0 : ¬ (0 ≤ a ∧ a ≤ 3 ∧ F a.toNat ≠ [] ∧ -3000 ≤ n ∧ n ≤ 3000) → post (lI (-1)) S) (h1 : ∀ (s : Nat) (g : Nat → Int64) (f : Nat → Int32), s < 4 → a = s → F s ≠ [] → -3000 ≤ n → n ≤ 3000 → rowsW g (F s) → post (lI (nmbR y (F s) 0 n 0)) (mLS (mA S 30 f) s g)) : wX1_number post S (iI a) (iI n) (iI (y 0)) (iI (y 1)) (iI (y 2)) (iI (y 3)) (iI (y 4)) := by
  unfold wX1_number
  refine m_isForm hF ha (fun s hs e hne => b_f (by decide) ?_) (fun hc => b_t rfl (h0 (fun z => hc ⟨z.1, z.2.1, z.2.2.1⟩)))
  refine m_isN hn (fun n1 n2 => b_f (by decide) ?_) (fun hc => b_t rfl (h0 (fun z => hc z.2.2.2)))
  subst e
  refine ⟨iI_in (z := 0) (by omega) (by omega) (by omega), iI_in (z := 1) (by omega) (by omega) (by omega), iI_in (z := 2) (by omega) (by omega) (by omega), iI_in (z := 3) (by omega) (by omega) (by omega), iI_in (z := 4) (by omega) (by omega) (by omega), ?_⟩
  simp only [mA_mA]
  obtain ⟨f, hf⟩ : ∃ f, f = upd (upd (upd (upd (upd (S.2.2.1 30) (Int32.toNatClampNeg 0) (iI (y 0))) (Int32.toNatClampNeg 1) (iI (y 1))) (Int32.toNatClampNeg 2) (iI (y 2))) (Int32.toNatClampNeg 3) (iI (y 3))) (Int32.toNatClampNeg 4) (iI (y 4)) := ⟨_, rfl⟩
  rw [← hf]
  have hfy : ∀ j, j < 5 → f j = iI (y j) := by
    intro j hj
    rw [hf]
    rcases (show j = 0 ∨ j = 1 ∨ j = 2 ∨ j = 3 ∨ j = 4 by omega) with e | e | e | e | e <;> subst e <;> rfl
  refine m_lays (S := mA S 30 f) (F := F) hF hL hs hne (fun g hg => ?_)
  simp (disch := omega) only [iLit, lLit, iI_add, iI_sub, iI_mul, iI_neg, lI_add, lI_sub, lI_mul, lI_neg, nI_i, lI_i, iI_l]
  refine ⟨(F s).length + 1, m_number_77 (S := mLS (mA S 30 f) s g) (F := F) (y := y) hF hs (fun i hi => mLS_row (hg i hi)) (fun j hj => ⟨by show (mA S 30 f).2.2.1 30 j = _; rw [mA_at]; exact hfy j hj, hy j hj⟩) (F s).length 0 n 0 (by omega) (by omega) (by omega) ?_⟩
  rw [List.drop_zero]
  exact h1 s g f hs rfl hne n1 n2 hg
