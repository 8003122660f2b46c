set_option maxRecDepth 100000
set_option maxHeartbeats 4000000
/-! the model: greed, enough -/
def grB (v : Int → Int) (rest : Int) : Nat → Int → Int → Int
  | 0, best, _ => best
  | m + 1, best, x => grB v rest m (if (if v x ≤ rest then rest < v best ∨ v best < v x else rest < v best ∧ v x < v best) then x else best) (x + 1)
def grS (t : tm) (rest : Int) : Int := grB (tv t) rest (t.2.2.2 - t.2.2.1).toNat t.2.2.1 (t.2.2.1 + 1)
theorem grB_in (v : Int → Int) (rest lo hi : Int) : ∀ (m : Nat) (best x : Int), x + m = hi + 1 → lo ≤ x → lo ≤ best → best ≤ hi → lo ≤ grB v rest m best x ∧ grB v rest m best x ≤ hi
  | 0, best, x, h1, h2, h3, h4 => ⟨h3, h4⟩
  | m + 1, best, x, h1, h2, h3, h4 => by
    unfold grB
    exact grB_in v rest lo hi m _ (x + 1) (by omega) (by omega) (by split <;> omega) (by split <;> omega)
def greedR : List tm → Int → Int → Int → Int
  | [], rest, _, _ => rest
  | t :: ts, rest, i, k => if k = i then grS t rest else greedR ts (rest - tv t (grS t rest)) i (k + 1)
theorem m_greed_67 {K40 : Int32 → Int32 → Int64 → Int32 → MS → Prop} {post : Int32 → MS → Prop} {S : MS} {F : Nat → List tm} {s j : Nat} {t : tm} {rest i : Int} (hF : mForms S F) (hs : s < 4) (hj : j < 5) (ht : (F s)[j]? = some t) (hi : i32 i) (hrest : -1000000 ≤ rest ∧ rest ≤ 1000000) : ∀ (m : Nat) (best x : Int), x + m = t.2.2.2 + 1 → t.2.2.1 ≤ x → t.2.2.1 ≤ best → best ≤ t.2.2.2 → (if (j : Int) = i then post (iI (grB (tv t) rest m best x)) S else K40 (iI s) (iI i) (lI (rest - tv t (grB (tv t) rest m best x))) (iI ((j + 1 : Nat) : Int)) S) → wX1_greed_67 K40 post (m + 1) (iI s) (iI i) (lI rest) (iI j) (iI best) (iI x) S := by
  have hvt := (hF s hs).2.1.2 t (List.mem_of_getElem? ht)
  have hlo := hvt.lo
  obtain ⟨f1, f2, f3, f4⟩ := (hF s hs).2.2 j t ht
  intro m
  induction m with
  | zero =>
    intro best x hm hx b1 b2 h
    unfold wX1_greed_67
    refine m_of (k := 3) (by omega) hj (by omega) ?_
    rw [f4]
    refine b_t (by simp (disch := omega) only [iLit, lLit, iI_add, iI_sub, iI_mul, iI_neg, lI_add, lI_sub, lI_mul, lI_neg, nI_i, lI_i, iI_l, iI_nat, iI_lt, iI_le, iI_eq, lI_lt, lI_le, lI_eq] <;> omega) ?_
    unfold grB at h
    simp (disch := omega) only [iLit, lLit, iI_add, iI_sub, iI_mul, iI_neg, lI_add, lI_sub, lI_mul, lI_neg, nI_i, lI_i, iI_eq, iI_l]
    refine ⟨fun e => by rw [if_pos e] at h; exact h, fun e => ?_⟩
    rw [if_neg e] at h
    refine m_valueOf hF hs hj ht (by omega) (by omega) ?_
    simp only [lI_sub]
    exact h
  | succ m ih =>
    intro best x hm hx b1 b2 h
    unfold wX1_greed_67 wX1_greed_147 wX1_greed_151
    refine m_of (k := 3) (by omega) hj (by omega) ?_
    rw [f4]
    refine b_f (by simp (disch := omega) only [iLit, lLit, iI_add, iI_sub, iI_mul, iI_neg, lI_add, lI_sub, lI_mul, lI_neg, nI_i, lI_i, iI_l, iI_nat, iI_lt, iI_le, iI_eq, lI_lt, lI_le, lI_eq] <;> omega) ?_
    have c1 := hvt.tv hx (by omega)
    have c2 := hvt.tv b1 b2
    simp (disch := omega) only [iLit, lLit, iI_add, iI_sub, iI_mul, iI_neg, lI_add, lI_sub, lI_mul, lI_neg, nI_i, lI_i, iI_l]
    refine m_valueOf hF hs hj ht (by omega) (by omega) ?_
    refine m_valueOf hF hs hj ht (by omega) (by omega) ?_
    unfold grB at h
    simp (disch := omega) only [lI_lt, lI_le]
    have keep : ¬ (if tv t x ≤ rest then rest < tv t best ∨ tv t best < tv t x else rest < tv t best ∧ tv t x < tv t best) → wX1_greed_67 K40 post (m + 1) (iI s) (iI i) (lI rest) (iI j) (iI best) (iI (x + 1)) S := fun e => ih best (x + 1) (by omega) (by omega) b1 b2 (by rw [if_neg e] at h; exact h)
    have take : (if tv t x ≤ rest then rest < tv t best ∨ tv t best < tv t x else rest < tv t best ∧ tv t x < tv t best) → wX1_greed_67 K40 post (m + 1) (iI s) (iI i) (lI rest) (iI j) (iI x) (iI (x + 1)) S := fun e => ih x (x + 1) (by omega) (by omega) (by omega) (by omega) (by rw [if_pos e] at h; exact h)
    refine ⟨fun e => ⟨fun e1 => keep (by rw [if_neg (by omega)]; omega), fun e1 => ⟨fun e2 => keep (by rw [if_neg (by omega)]; omega), fun e2 => take (by rw [if_neg (by omega)]; omega)⟩⟩, fun e => ⟨fun e1 => take (by rw [if_pos (by omega)]; omega), fun e1 => ⟨fun e2 => keep (by rw [if_pos (by omega)]; omega), fun e2 => take (by rw [if_pos (by omega)]; omega)⟩⟩⟩
theorem m_greed_40 {post : Int32 → MS → Prop} {S : MS} {F : Nat → List tm} {s : Nat} {i : Int} (hF : mForms S F) (hs : s < 4) (hi : i32 i) : ∀ (m j : Nat) (rest : Int), j + m = (F s).length → -(3000 * (6 + j : Int)) ≤ rest → rest ≤ 3000 * (6 + j : Int) → post (iI (greedR ((F s).drop j) rest i j)) S → wX1_greed_40 post (m + 1) (iI s) (iI i) (lI rest) (iI j) S := by
  obtain ⟨e0, hv, hf⟩ := hF s hs
  have hl5 := hv.1
  intro m
  induction m with
  | zero =>
    intro j rest hm n1 n2 h
    unfold wX1_greed_40
    refine ⟨iI_in (by omega) (by omega) (by omega), ?_⟩
    rw [iI_nat (by omega) (by omega), show ((s : Int)).toNat = s by omega, e0, lI_i]
    rw [List.drop_of_length_le (by omega)] at h
    exact b_t (by simp (disch := omega) only [iLit, lLit, iI_add, iI_sub, iI_mul, iI_neg, lI_add, lI_sub, lI_mul, lI_neg, nI_i, lI_i, iI_l, iI_nat, iI_lt, iI_le, iI_eq, lI_lt, lI_le, lI_eq] <;> omega) h
  | succ m ih =>
    intro j rest hm n1 n2 h
    unfold wX1_greed_40
    refine ⟨iI_in (by omega) (by omega) (by omega), ?_⟩
    rw [iI_nat (by omega) (by omega), show ((s : Int)).toNat = s by omega, e0]
    refine b_f (by simp (disch := omega) only [iLit, lLit, iI_add, iI_sub, iI_mul, iI_neg, lI_add, lI_sub, lI_mul, lI_neg, nI_i, lI_i, iI_l, iI_nat, iI_lt, iI_le, iI_eq, lI_lt, lI_le, lI_eq] <;> omega) ?_
    obtain ⟨t, ht⟩ : ∃ t, (F s)[j]? = some t := ⟨_, List.getElem?_eq_getElem (by omega)⟩
    have hd : (F s).drop j = t :: (F s).drop (j + 1) := by
      obtain ⟨h1, h2⟩ := List.getElem?_eq_some_iff.mp ht
      rw [← h2]; exact List.drop_eq_getElem_cons h1
    have hvt := hv.2 t (List.mem_of_getElem? ht)
    have hlo := hvt.lo
    refine m_of (k := 2) (by omega) (by omega) (by omega) ?_
    rw [(hf j t ht).2.2.1]
    simp only [iLit, lLit, iI_add, iI_sub, iI_mul, iI_neg, lI_add, lI_sub, lI_mul, lI_neg, nI_i, lI_i]
    have hin := grB_in (tv t) rest t.2.2.1 t.2.2.2 (t.2.2.2 - t.2.2.1).toNat t.2.2.1 (t.2.2.1 + 1) (by omega) (by omega) (by omega) (by omega)
    have hb := hvt.tv hin.1 hin.2
    refine ⟨(t.2.2.2 - t.2.2.1).toNat + 1, m_greed_67 hF hs (by omega) ht hi (by omega) (t.2.2.2 - t.2.2.1).toNat t.2.2.1 (t.2.2.1 + 1) (by omega) (by omega) (by omega) (by omega) ?_⟩
    rw [hd] at h
    unfold greedR at h
    split
    · rename_i e; rw [if_pos e] at h; exact h
    · rename_i e
      rw [if_neg e] at h
      exact ih (j + 1) _ (by omega) (by omega) (by omega) h
theorem m_greed {post : Int32 → MS → Prop} {S : MS} {F : Nat → List tm} {a n i : Int} (hF : mForms S F) (ha : i32 a) (hn : i32 n) (hi : i32 i)
    (h0 : ¬ (0 ≤ a ∧ a ≤ 3 ∧ F a.toNat ≠ [] ∧ -3000 ≤ n ∧ n ≤ 3000 ∧ -1 ≤ i ∧ i < (F a.toNat).length) → post (iI (-100000)) S) (h1 : ∀ s : Nat, s < 4 → a = s → F s ≠ [] → -3000 ≤ n → n ≤ 3000 → post (iI (greedR (F s) n i 0)) S) : wX1_greed post S (iI a) (iI n) (iI i) := by
  unfold wX1_greed wX1_greed_33
  refine m_isForm hF ha (fun s hs e hne => b_f (by decide) ?_) (fun hc => b_t rfl (h0 (fun z => hc ⟨z.1, z.2.1, z.2.2.1⟩)))
  refine m_isN hn (fun n1 n2 => b_f (by decide) ?_) (fun hc => b_t rfl (h0 (fun z => hc (by omega))))
  subst e
  have hfin : ∃ k, wX1_greed_40 post k (iI s) (iI i) ((iI n).toInt64) 0 S := by
    rw [iI_l hn.1 hn.2]
    refine ⟨(F s).length + 1, m_greed_40 hF hs hi (F s).length 0 n (by omega) (by omega) (by omega) ?_⟩
    rw [List.drop_zero]
    exact h1 s hs rfl hne n1 n2
  refine ⟨fun _ => hfin, fun e => ?_⟩
  refine m_isTerm hF ha hi (fun s' j t hs' e1 e2 ht hj => b_f (by decide) hfin) (fun hc => b_t rfl (h0 (fun z => ?_)))
  simp (disch := omega) only [iLit, lLit, iI_add, iI_sub, iI_mul, iI_neg, lI_add, lI_sub, lI_mul, lI_neg, nI_i, lI_i, iI_eq] at e
  exact hc ⟨z.1, z.2.1, by omega, z.2.2.2.2.2.2⟩
/-- a layer of i terms' ways -/
def okW (i : Nat) (w : Int → Int) : Prop := (∀ s, 0 ≤ w s ∧ w s ≤ 6003 ^ i) ∧ ∀ s, w s ≠ 0 → 15000 - 3000 * (i : Int) ≤ s ∧ s ≤ 15000 + 3000 * (i : Int)
def LyT (t : tm) (w : Int → Int) : Int → Int := Ly t.1 t.2.1 t.2.2.1 t.2.2.2 w
theorem okW.step {i : Nat} {w : Int → Int} {t : tm} (h : okW i w) (ht : vT t) : okW (i + 1) (LyT t w) := by
  have hlo := ht.lo
  refine ⟨fun s => ⟨(show 0 ≤ uI t.2.2.1 t.2.2.2 (fun x => w (s - t.1 * kV t.2.1 x)) from uI_nn (fun x _ _ => (h.1 _).1)), ?_⟩, fun s hs => ?_⟩
  · have hp : (0 : Int) ≤ 6003 ^ i := Int.pow_nonneg (by omega)
    have h1 := uI_le (lo := t.2.2.1) (hi := t.2.2.2) (f := fun x => w (s - t.1 * kV t.2.1 x)) (B := 6003 ^ i) (fun x _ _ => (h.1 _).2)
    have h2 : (((t.2.2.2 - t.2.2.1 + 1).toNat : Nat) : Int) ≤ 6003 := by omega
    have h3 := Int.mul_le_mul_of_nonneg_right h2 hp
    rw [Int.pow_succ, Int.mul_comm (6003 ^ i)]
    exact Int.le_trans h1 h3
  · obtain ⟨x, h1, h2, h3⟩ := uI_ex (lo := t.2.2.1) (hi := t.2.2.2) (f := fun x => w (s - t.1 * kV t.2.1 x)) hs
    have h4 := h.2 _ h3
    have h5 := ht.tv h1 h2
    change -3000 ≤ t.1 * kV t.2.1 x ∧ t.1 * kV t.2.1 x ≤ 3000 at h5
    omega
theorem pow_lt5 {i : Nat} (h : i ≤ 5) : (6003 : Int) ^ i ≤ 7795459449722430243 := by
  rcases (show i = 0 ∨ i = 1 ∨ i = 2 ∨ i = 3 ∨ i = 4 ∨ i = 5 by omega) with e | e | e | e | e | e <;> rw [e] <;> decide
theorem okW.sup {i : Nat} {w : Int → Int} (h : okW i w) (hi : i ≤ 5) : sup w := fun s hs => Classical.byContradiction fun e => by have := h.2 s e; omega
theorem okW.lt {i : Nat} {w : Int → Int} (h : okW i w) (hi : i ≤ 5) (s : Int) : 0 ≤ w s ∧ w s < 9223372036854775808 := ⟨(h.1 s).1, by have := (h.1 s).2; have := pow_lt5 hi; omega⟩
def w0R (s : Int) : Int := if s = 15000 then 1 else 0
theorem okW_0 : okW 0 w0R := ⟨fun s => by unfold w0R; split <;> decide, fun s hs => by unfold w0R at hs; split at hs <;> omega⟩
def enoR : List tm → (Int → Int) → Int → Int → Int
  | [], _, _, _ => -1
  | t :: ts, w, n, i => if LyT t w (n + 15000) ≤ 0 then enoR ts (LyT t w) n (i + 1) else i + 1
theorem m_waysRow {post : Int64 → MS → Prop} {S : MS} {w : Int → Int} {n : Int} {i : Nat} (hw : okW i w) (hi : i ≤ 5) (hr : rowW (S.2.2.2 22) 0 w) (hn : -100000 ≤ n ∧ n ≤ 100000) (h : ∀ r : Int, r = w (n + 15000) → 0 ≤ r → r < 9223372036854775808 → post (lI r) S) : wX1_waysOf post S (iI n) := by
  unfold wX1_waysOf
  simp (disch := omega) only [iLit, lLit, iI_add, iI_sub, iI_mul, iI_neg, lI_add, lI_sub, lI_mul, lI_neg, nI_i, lI_i, iI_l]
  exact m_at (i := 0) (by omega) (by omega) hr (hw.sup hi) (h _ rfl (hw.lt hi _).1 (hw.lt hi _).2)
/-- row 0 is copied to row 1, then goes on -/
theorem m_enough_42 {K29 : Int32 → Int32 → Int32 → MS → Prop} {post : Int32 → MS → Prop} {S : MS} {F : Nat → List tm} {s j : Nat} {t : tm} {n : Int} {w : Int → Int} (hF : mForms S F) (hs : s < 4) (hj : j < 5) (ht : (F s)[j]? = some t) (hw : okW j w) (hn : -3000 ≤ n ∧ n ≤ 3000)
    (h : ∀ g : Nat → Int64, rowW g 0 (LyT t w) → (if LyT t w (n + 15000) ≤ 0 then K29 (iI s) (iI n) (iI ((j + 1 : Nat) : Int)) (mB S 22 g) else post (iI ((j + 1 : Nat) : Int)) (mB S 22 g))) : ∀ (m q : Nat) (g : Nat → Int64), q + m = 30001 → rowW g 0 w → (∀ z : Nat, z < q → g (30001 + z) = g z) → wX1_enough_42 K29 post (m + 1) (iI s) (iI n) (iI j) (iI q) (mB S 22 g) := by
  obtain ⟨f1, f2, f3, f4⟩ := (hF s hs).2.2 j t ht
  have hvt := (hF s hs).2.1.2 t (List.mem_of_getElem? ht)
  have hlo := hvt.lo
  intro m
  induction m with
  | zero =>
    intro q g hq h1 h2
    unfold wX1_enough_42
    refine b_t (by simp (disch := omega) only [iLit, lLit, iI_add, iI_sub, iI_mul, iI_neg, lI_add, lI_sub, lI_mul, lI_neg, nI_i, lI_i, iI_l, iI_nat, iI_lt, iI_le, iI_eq, lI_lt, lI_le, lI_eq] <;> omega) ?_
    refine m_of (k := 0) (by omega) (by omega) (by omega) (m_of (k := 1) (by omega) (by omega) (by omega) (m_of (k := 2) (by omega) (by omega) (by omega) (m_of (k := 3) (by omega) (by omega) (by omega) ?_)))
    show wX1_laysLayer _ (mB S 22 g) (iI 0) (iI 1) (S.2.2.1 1 (4 * (5 * s + j))) (S.2.2.1 1 (4 * (5 * s + j) + 1)) (S.2.2.1 1 (4 * (5 * s + j) + 2)) (S.2.2.1 1 (4 * (5 * s + j) + 3))
    rw [f1, f2, f3, f4]
    have hw1 := hw.step hvt
    refine m_layer (i := 0) (j := 1) (w := w) (by omega) (by omega) (by omega) ⟨hvt.1, by have := hvt.2.1; omega⟩ ⟨hvt.2.2.1, hvt.2.2.2.1⟩ (by omega) (by omega) (by omega) (fun z z1 z2 => ?_) (hw.sup (by omega)) (fun z hz => hw1.sup (by omega) z (by omega)) (fun g' a b => ?_)
    · rw [mB_at, show 30001 * 1 + z.toNat = 30001 + z.toNat by omega, h2 _ (by omega)]
      have := h1 z z1 z2
      rw [show 30001 * 0 + z.toNat = z.toNat by omega] at this
      exact this
    · rw [mB_mB]
      refine m_waysRow (w := LyT t w) hw1 (by omega) (by rw [mB_at]; exact a) (by omega) (fun r er r0 r1 => ?_)
      have h3 := h g' a
      rw [← er] at h3
      simp (disch := omega) only [iLit, lLit, iI_add, iI_sub, iI_mul, iI_neg, lI_add, lI_sub, lI_mul, lI_neg, nI_i, lI_i, lI_le]
      exact ⟨fun e => by rw [if_pos e] at h3; exact h3, fun e => by rw [if_neg e] at h3; exact h3⟩
  | succ m ih =>
    intro q g hq h1 h2
    unfold wX1_enough_42
    refine b_f (by simp (disch := omega) only [iLit, lLit, iI_add, iI_sub, iI_mul, iI_neg, lI_add, lI_sub, lI_mul, lI_neg, nI_i, lI_i, iI_l, iI_nat, iI_lt, iI_le, iI_eq, lI_lt, lI_le, lI_eq] <;> omega) ⟨iI_in (by omega) (by omega) (by omega), ?_⟩
    simp (disch := omega) only [iLit, lLit, iI_add, iI_sub, iI_mul, iI_neg, lI_add, lI_sub, lI_mul, lI_neg, nI_i, lI_i, iI_nat, mB_at, mB_mB]
    refine ⟨iI_in (by omega) (by omega) (by omega), ?_⟩
    rw [show (30001 + (q : Int)).toNat = 30001 + q by omega, show ((q : Int)).toNat = q by omega]
    refine ih (q + 1) _ (by omega) (fun z z1 z2 => ?_) (fun z hz => ?_)
    · unfold vp_updL
      rw [if_neg (by omega)]; exact h1 z z1 z2
    · unfold vp_updL
      by_cases e : z = q
      · rw [if_pos (by omega), if_neg (by omega), e]
      · rw [if_neg (by omega), if_neg (by omega)]; exact h2 z (by omega)
theorem m_enough_29 {post : Int32 → MS → Prop} {S : MS} {F : Nat → List tm} {s : Nat} {n : Int} (hF : mForms S F) (hs : s < 4) (hn : -3000 ≤ n ∧ n ≤ 3000) : ∀ (m j : Nat) (w : Int → Int) (g : Nat → Int64), j + m = (F s).length → okW j w → rowW g 0 w → (∀ g, post (iI (enoR ((F s).drop j) w n j)) (mB S 22 g)) → wX1_enough_29 post (m + 1) (iI s) (iI n) (iI j) (mB S 22 g) := by
  obtain ⟨e0, hv, hf⟩ := hF s hs
  have hl5 := hv.1
  intro m
  induction m with
  | zero =>
    intro j w g hm hw hr h
    unfold wX1_enough_29
    refine ⟨iI_in (by omega) (by omega) (by omega), ?_⟩
    rw [iI_nat (by omega) (by omega), show ((s : Int)).toNat = s by omega, show (mB S 22 g).2.2.1 0 s = _ from e0]
    rw [List.drop_of_length_le (by omega)] at h
    exact b_t (by simp (disch := omega) only [iLit, lLit, iI_add, iI_sub, iI_mul, iI_neg, lI_add, lI_sub, lI_mul, lI_neg, nI_i, lI_i, iI_l, iI_nat, iI_lt, iI_le, iI_eq, lI_lt, lI_le, lI_eq] <;> omega) (h g)
  | succ m ih =>
    intro j w g hm hw hr h
    unfold wX1_enough_29
    refine ⟨iI_in (by omega) (by omega) (by omega), ?_⟩
    rw [iI_nat (by omega) (by omega), show ((s : Int)).toNat = s by omega, show (mB S 22 g).2.2.1 0 s = _ from e0]
    refine b_f (by simp (disch := omega) only [iLit, lLit, iI_add, iI_sub, iI_mul, iI_neg, lI_add, lI_sub, lI_mul, lI_neg, nI_i, lI_i, iI_l, iI_nat, iI_lt, iI_le, iI_eq, lI_lt, lI_le, lI_eq] <;> omega) ?_
    obtain ⟨t, ht⟩ : ∃ t, (F s)[j]? = some t := ⟨_, List.getElem?_eq_getElem (by omega)⟩
    have hd : (F s).drop j = t :: (F s).drop (j + 1) := by
      obtain ⟨h1, h2⟩ := List.getElem?_eq_some_iff.mp ht
      rw [← h2]; exact List.drop_eq_getElem_cons h1
    have hvt := hv.2 t (List.mem_of_getElem? ht)
    rw [hd] at h
    unfold enoR at h
    refine ⟨30002, m_enough_42 hF hs (by omega) ht hw hn (fun g' hg' => ?_) 30001 0 g (by omega) hr (fun z hz => by omega)⟩
    split
    · rename_i e
      simp only [if_pos e] at h
      exact ih (j + 1) _ g' (by omega) (hw.step hvt) hg' h
    · rename_i e
      simp only [if_neg e] at h
      exact h g'
theorem m_enough {post : Int32 → MS → Prop} {S : MS} {F : Nat → List tm} {a n : Int} (hF : mForms S F) (ha : i32 a) (hn : i32 n)
    (h0 : ¬ (0 ≤ a ∧ a ≤ 3 ∧ F a.toNat ≠ [] ∧ -3000 ≤ n ∧ n ≤ 3000) → post (iI (-1)) S) (h1 : ∀ (s : Nat) (g : Nat → Int64), s < 4 → a = s → F s ≠ [] → -3000 ≤ n → n ≤ 3000 → post (iI (enoR (F s) w0R n 0)) (mB (mI S 21 (iI (-1))) 22 g)) : wX1_enough post S (iI a) (iI n) := by
  unfold wX1_enough
  refine m_isForm hF ha (fun s hs e hne => b_f (by decide) ?_) (fun hc => b_t rfl (h0 (fun z => hc ⟨z.1, z.2.1, z.2.2.1⟩)))
  refine m_isN hn (fun n1 n2 => b_f (by decide) ?_) (fun hc => b_t rfl (h0 (fun z => hc z.2.2.2)))
  subst e
  refine m_nought (n := 0) (by omega) (fun g a b => ⟨(F s).length + 1, ?_⟩)
  refine m_enough_29 (S := mI S 21 (iI (-1))) (F := F) hF hs ⟨n1, n2⟩ (F s).length 0 w0R g (by omega) okW_0 a (fun g => ?_)
  rw [List.drop_zero]
  exact h1 s g hs rfl hne n1 n2
