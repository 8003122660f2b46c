set_option maxRecDepth 100000
set_option maxHeartbeats 4000000
/-! more of the model's looks: common, rank, nearest, term -/
theorem m_common_70 {K37 : Int32 → Int32 → Int32 → Int32 → Int32 → MS → Prop} {post : Int32 → MS → Prop} {S : MS} {f : Nat → Int32} {x2 x3 x4 x5 : Int32} {k : Int} {v : Int32} (hB : isB v) (hk : -3000 ≤ k ∧ k ≤ 3000) (h : K37 x2 x3 x4 x5 (iI (k + 1)) (mA S 47 (upd f (k + 3000).toNat v))) : wX1_common_70 K37 post x2 x3 x4 x5 (iI k) v (iI (k + 3000)) (mA S 47 f) := by
  unfold wX1_common_70
  simp (disch := omega) only [iLit, lLit, iI_add, iI_sub, iI_mul, iI_neg, lI_add, lI_sub, lI_mul, lI_neg, nI_i, lI_i, iI_nat, mA_at, mA_mA]
  rw [isB_v hB]
  exact ⟨iI_in (by omega) (by omega) (by omega), h⟩
/-- the two forms' ways at once -/
def both0 (w v : Int → Int) (n : Int) : Int := if 0 < w n ∧ 0 < v n then 0 else 1
theorem m_common_88 {post : Int32 → MS → Prop} {S : MS} {ts : List tm} {w : Int → Int} {i b x : Int} (hv : vF ts) (hr : rowW (S.2.2.2 22) 0 (wR ts)) (hf : ∀ n : Int, x ≤ n → n ≤ b → S.2.2.1 47 (n + 3000).toNat = (if 0 < w n then 1 else 0)) (hi : i32 i) (hx : -3000 ≤ x) (hb : b ≤ 3000) : ∀ (m : Nat) (c k : Int), k + m = b + 1 → x ≤ k → 0 ≤ c → c + m ≤ 100000 → post (iI (missR (both0 w (Wy ts)) i m c k)) S → wX1_common_88 post (m + 1) (iI b) (iI i) (iI c) (iI k) S := by
  intro m
  induction m with
  | zero =>
    intro c k hk hk0 hc hm h
    unfold wX1_common_88
    refine b_t (by simp (disch := omega) only [iLit, lLit, iI_add, iI_sub, iI_mul, iI_neg, lI_add, lI_sub, lI_mul, lI_neg, nI_i, lI_i, iI_l, iI_nat, iI_lt, iI_le, iI_eq, lI_lt, lI_le, lI_eq] <;> omega) ?_
    simp (disch := omega) only [iLit, lLit, iI_add, iI_sub, iI_mul, iI_neg, lI_add, lI_sub, lI_mul, lI_neg, nI_i, lI_i, iI_eq]
    unfold missR at h
    exact ⟨fun e => by rw [if_pos e] at h; exact h, fun e => by rw [if_neg e] at h; exact h⟩
  | succ m ih =>
    intro c k hk hk0 hc hm h
    unfold wX1_common_88 wX1_common_136
    refine b_f (by simp (disch := omega) only [iLit, lLit, iI_add, iI_sub, iI_mul, iI_neg, lI_add, lI_sub, lI_mul, lI_neg, nI_i, lI_i, iI_l, iI_nat, iI_lt, iI_le, iI_eq, lI_lt, lI_le, lI_eq] <;> omega) ?_
    simp (disch := omega) only [iLit, iI_add, iI_nat]
    refine ⟨iI_in (by omega) (by omega) (by omega), ?_⟩
    rw [hf k (by omega) (by omega)]
    unfold missR both0 at h
    by_cases e1 : 0 < w k
    · rw [if_pos e1]
      refine b_f (by decide) ?_
      refine m_ways_t hv hr (by omega) (fun r er r0 r1 => ?_)
      rw [← er] at h
      simp (disch := omega) only [iLit, lLit, iI_add, iI_sub, iI_mul, iI_neg, lI_add, lI_sub, lI_mul, lI_neg, nI_i, lI_i, iI_eq, lI_eq]
      refine ⟨fun e => ?_, fun e => ?_⟩
      · rw [if_neg (show ¬ (0 < w k ∧ 0 < r) by omega), if_neg (by omega)] at h
        exact ih c (k + 1) (by omega) (by omega) (by omega) (by omega) h
      · rw [if_pos (show 0 < w k ∧ 0 < r by omega), if_pos (by omega)] at h
        refine ⟨fun e2 => ?_, fun e2 => ?_⟩
        · rw [if_pos e2] at h; exact h
        · rw [if_neg e2] at h
          exact ih (c + 1) (k + 1) (by omega) (by omega) (by omega) (by omega) h
    · rw [if_neg e1]
      refine b_t rfl ?_
      rw [if_neg (show ¬ (0 < w k ∧ 0 < Wy ts k) by omega), if_neg (by omega)] at h
      exact ih c (k + 1) (by omega) (by omega) (by omega) (by omega) h
theorem m_common_37 {post : Int32 → MS → Prop} {S : MS} {ts : List tm} {x2 : Int32} {i b x : Int} (hv : vF ts) (hr : rowW (S.2.2.2 22) 0 (wR ts)) (hx : -3000 ≤ x) (hb : b ≤ 3000) (h : ∀ f : Nat → Int32, (∀ n : Int, x ≤ n → n ≤ b → f (n + 3000).toNat = (if 0 < Wy ts n then 1 else 0)) → wX1_lays (fun _ S13 => ∃ k, wX1_common_88 post k (iI b) (iI i) 0 (iI x) S13) (mA S 47 f) x2) : ∀ (m : Nat) (k : Int) (f : Nat → Int32), k + m = b + 1 → x ≤ k → (∀ n : Int, x ≤ n → n < k → f (n + 3000).toNat = (if 0 < Wy ts n then 1 else 0)) → wX1_common_37 post (m + 1) x2 (iI x) (iI b) (iI i) (iI k) (mA S 47 f) := by
  intro m
  induction m with
  | zero =>
    intro k f hk hx0 hf
    unfold wX1_common_37
    exact b_t (by simp (disch := omega) only [iLit, lLit, iI_add, iI_sub, iI_mul, iI_neg, lI_add, lI_sub, lI_mul, lI_neg, nI_i, lI_i, iI_l, iI_nat, iI_lt, iI_le, iI_eq, lI_lt, lI_le, lI_eq] <;> omega) (h f (fun n h1 h2 => hf n h1 (by omega)))
  | succ m ih =>
    intro k f hk hx0 hf
    unfold wX1_common_37
    refine b_f (by simp (disch := omega) only [iLit, lLit, iI_add, iI_sub, iI_mul, iI_neg, lI_add, lI_sub, lI_mul, lI_neg, nI_i, lI_i, iI_l, iI_nat, iI_lt, iI_le, iI_eq, lI_lt, lI_le, lI_eq] <;> omega) ?_
    refine m_ways_t hv hr (by omega) (fun r er r0 r1 => ?_)
    simp (disch := omega) only [iLit, lLit, iI_add, iI_sub, iI_mul, iI_neg, lI_add, lI_sub, lI_mul, lI_neg, nI_i, lI_i, lI_le]
    have hstep : ∀ v : Int32, v = (if 0 < r then 1 else 0) → ∀ n : Int, x ≤ n → n < k + 1 → upd f (k + 3000).toNat v (n + 3000).toNat = (if 0 < Wy ts n then 1 else 0) := by
      intro v hv n h1 h2
      unfold upd
      by_cases e : n = k
      · subst e; rw [if_pos rfl, hv, er]
      · rw [if_neg (by omega)]; exact hf n h1 (by omega)
    exact ⟨fun e => m_common_70 isB_0 (by omega) (ih _ _ (by omega) (by omega) (hstep _ (by rw [if_neg (by omega)]; rfl))), fun e => m_common_70 isB_1 (by omega) (ih _ _ (by omega) (by omega) (hstep _ (by rw [if_pos (by omega)]; rfl)))⟩
theorem m_common {post : Int32 → MS → Prop} {S : MS} {F : Nat → List tm} {a a2 x y i : Int} (hF : mForms S F) (hL : mLaid S F) (ha : i32 a) (ha2 : i32 a2) (hx : i32 x) (hy : i32 y) (hi : i32 i)
    (h0 : ¬ (0 ≤ a ∧ a ≤ 3 ∧ F a.toNat ≠ [] ∧ 0 ≤ a2 ∧ a2 ≤ 3 ∧ F a2.toNat ≠ [] ∧ -3000 ≤ x ∧ x ≤ y ∧ y ≤ 3000) → post (iI (-100000)) S) (h1 : ∀ (s s2 : Nat) (g g2 : Nat → Int64) (f : Nat → Int32), s < 4 → a = s → F s ≠ [] → s2 < 4 → a2 = s2 → F s2 ≠ [] → -3000 ≤ x → x ≤ y → y ≤ 3000 → rowsW g2 (F s2) → post (iI (missR (both0 (Wy (F s)) (Wy (F s2))) i (y - x + 1).toNat 0 x)) (mLS (mA (mLS S s g) 47 f) s2 g2)) : wX1_common post S (iI a) (iI a2) (iI x) (iI y) (iI i) := by
  unfold wX1_common
  refine m_isForm hF ha (fun s hs e hne => b_f (by decide) ?_) (fun hc => b_t rfl (h0 (fun z => hc ⟨z.1, z.2.1, z.2.2.1⟩)))
  refine m_isForm hF ha2 (fun s2 hs2 e2 hne2 => b_f (by decide) ?_) (fun hc => b_t rfl (h0 (fun z => hc ⟨z.2.2.2.1, z.2.2.2.2.1, z.2.2.2.2.2.1⟩)))
  refine m_isSpan hx hy (fun n1 n2 n3 => b_f (by decide) ?_) (fun hc => b_t rfl (h0 (fun z => hc z.2.2.2.2.2.2)))
  subst e
  subst e2
  refine m_lays hF hL hs hne (fun g hg => ⟨(y - x + 1).toNat + 1, ?_⟩)
  have hr := mLS_row (S := S) (s := s) (rowsW.zero hg)
  have key := m_common_37 (post := post) (S := mLS S s g) (x2 := iI s2) (i := i) (hF s hs).2.1 hr n1 n3 (fun f hf => ?_) (y - x + 1).toNat x ((mLS S s g).2.2.1 47) (by omega) (by omega) (fun n h1 h2 => by omega)
  · rw [mA_id] at key
    exact key
  · refine m_lays (S := mA (mLS S s g) 47 f) (F := F) hF (mLS_laid (S := S) hs hne hg) hs2 hne2 (fun g2 hg2 => ⟨(y - x + 1).toNat + 1, ?_⟩)
    exact m_common_88 (S := mLS (mA (mLS S s g) 47 f) s2 g2) (w := Wy (F s)) (x := x) (hF s2 hs2).2.1 (mLS_row (rowsW.zero hg2)) (fun n h1 h2 => by show (mA (mLS S s g) 47 f).2.2.1 47 (n + 3000).toNat = _; rw [mA_at]; exact hf n h1 h2) hi n1 n3 _ 0 x (by omega) (by omega) (by omega) (by omega) (h1 s s2 g g2 f hs rfl hne hs2 rfl hne2 n1 n2 n3 hg2)
/-- how many stand ahead of n -/
def isAh (w : Int → Int) (n o : Int) : Int := if w n < w o ∨ (w o = w n ∧ o < n) then 1 else 0
def aheadR (w : Int → Int) (n : Int) : Nat → Int → Int → Int
  | 0, _, c => c
  | m + 1, o, c => aheadR w n m (o + 1) (c + isAh w n o)
def rankR (w : Int → Int) (x y i : Int) : Nat → Int → Int
  | 0, _ => -100000
  | m + 1, n => if aheadR w n (y - x + 1).toNat x 0 = i then n else rankR w x y i m (n + 1)
theorem m_rank_63 {K51 : Int32 → Int32 → Int32 → Int32 → MS → Prop} {post : Int32 → MS → Prop} {S : MS} {ts : List tm} {x y i n : Int} (hv : vF ts) (hr : rowW (S.2.2.2 22) 0 (wR ts)) (hx : -3000 ≤ x) (hy : y ≤ 3000) (hn : -3000 ≤ n ∧ n ≤ 3000) (hi : i32 i) : ∀ (m : Nat) (o c : Int), o + m = y + 1 → x ≤ o → 0 ≤ c → c + m ≤ 10000 → (if aheadR (Wy ts) n m o c = i then post (iI n) S else K51 (iI x) (iI y) (iI i) (iI (n + 1)) S) → wX1_rank_63 K51 post (m + 1) (iI x) (iI y) (iI i) (iI n) (iI c) (iI o) S := by
  intro m
  induction m with
  | zero =>
    intro o c ho hxo hc hm h
    unfold wX1_rank_63
    refine b_t (by simp (disch := omega) only [iLit, lLit, iI_add, iI_sub, iI_mul, iI_neg, lI_add, lI_sub, lI_mul, lI_neg, nI_i, lI_i, iI_l, iI_nat, iI_lt, iI_le, iI_eq, lI_lt, lI_le, lI_eq] <;> omega) ?_
    simp (disch := omega) only [iLit, lLit, iI_add, iI_sub, iI_mul, iI_neg, lI_add, lI_sub, lI_mul, lI_neg, nI_i, lI_i, iI_eq]
    unfold aheadR at h
    exact ⟨fun e => by rw [if_pos e] at h; exact h, fun e => by rw [if_neg e] at h; exact h⟩
  | succ m ih =>
    intro o c ho hxo hc hm h
    unfold wX1_rank_63 wX1_rank_110 wX1_rank_114 wX1_rank_115 wX1_one
    refine b_f (by simp (disch := omega) only [iLit, lLit, iI_add, iI_sub, iI_mul, iI_neg, lI_add, lI_sub, lI_mul, lI_neg, nI_i, lI_i, iI_l, iI_nat, iI_lt, iI_le, iI_eq, lI_lt, lI_le, lI_eq] <;> omega) ?_
    unfold aheadR isAh at h
    refine m_ways_t hv hr (by omega) (fun r er r0 r1 => ?_)
    refine m_ways_t hv hr (by omega) (fun q eq q0 q1 => ?_)
    rw [← er, ← eq] at h
    rw [lI_lt (by omega) (by omega) (by omega) (by omega)]
    refine ⟨fun e => b_f (by decide) ?_, fun e => ?_⟩
    · rw [if_pos (Or.inl e)] at h
      simp only [iLit, lLit, iI_add, iI_sub, iI_mul, iI_neg, lI_add, lI_sub, lI_mul, lI_neg, nI_i, lI_i]
      exact ih (o + 1) (c + 1) (by omega) (by omega) (by omega) (by omega) h
    · refine m_ways_t hv hr (by omega) (fun r' er' _ _ => ?_)
      refine m_ways_t hv hr (by omega) (fun q' eq' _ _ => ?_)
      rw [← er] at er'
      rw [← eq] at eq'
      rw [er', eq', lI_eq (by omega) (by omega) (by omega) (by omega)]
      refine ⟨fun e2 => ?_, fun e2 => b_t rfl ?_⟩
      · rw [iI_le (by omega) (by omega) (by omega) (by omega)]
        refine ⟨fun e3 => b_t rfl ?_, fun e3 => b_f (by decide) ?_⟩
        · rw [if_neg (show ¬ (q < r ∨ (r = q ∧ o < n)) by omega)] at h
          simp only [iLit, lLit, iI_add, iI_sub, iI_mul, iI_neg, lI_add, lI_sub, lI_mul, lI_neg, nI_i, lI_i]
          exact ih (o + 1) (c + 0) (by omega) (by omega) (by omega) (by omega) h
        · rw [if_pos (show (q < r ∨ (r = q ∧ o < n)) by omega)] at h
          simp only [iLit, lLit, iI_add, iI_sub, iI_mul, iI_neg, lI_add, lI_sub, lI_mul, lI_neg, nI_i, lI_i]
          exact ih (o + 1) (c + 1) (by omega) (by omega) (by omega) (by omega) h
      · rw [if_neg (show ¬ (q < r ∨ (r = q ∧ o < n)) by omega)] at h
        simp only [iLit, lLit, iI_add, iI_sub, iI_mul, iI_neg, lI_add, lI_sub, lI_mul, lI_neg, nI_i, lI_i]
        exact ih (o + 1) (c + 0) (by omega) (by omega) (by omega) (by omega) h
theorem m_rank_51 {post : Int32 → MS → Prop} {S : MS} {ts : List tm} {x y i : Int} (hv : vF ts) (hr : rowW (S.2.2.2 22) 0 (wR ts)) (hx : -3000 ≤ x) (hxy : x ≤ y) (hy : y ≤ 3000) (hi : i32 i) : ∀ (m : Nat) (n : Int), n + m = y + 1 → x ≤ n → post (iI (rankR (Wy ts) x y i m n)) S → wX1_rank_51 post (m + 1) (iI x) (iI y) (iI i) (iI n) S := by
  intro m
  induction m with
  | zero =>
    intro n hn hxn h
    unfold wX1_rank_51
    exact b_t (by simp (disch := omega) only [iLit, lLit, iI_add, iI_sub, iI_mul, iI_neg, lI_add, lI_sub, lI_mul, lI_neg, nI_i, lI_i, iI_l, iI_nat, iI_lt, iI_le, iI_eq, lI_lt, lI_le, lI_eq] <;> omega) h
  | succ m ih =>
    intro n hn hxn h
    unfold wX1_rank_51
    refine b_f (by simp (disch := omega) only [iLit, lLit, iI_add, iI_sub, iI_mul, iI_neg, lI_add, lI_sub, lI_mul, lI_neg, nI_i, lI_i, iI_l, iI_nat, iI_lt, iI_le, iI_eq, lI_lt, lI_le, lI_eq] <;> omega) ⟨(y - x + 1).toNat + 1, ?_⟩
    refine m_rank_63 hv hr hx hy (by omega) hi (y - x + 1).toNat x 0 (by omega) (by omega) (by omega) (by omega) ?_
    unfold rankR at h
    split
    · rename_i e; rw [if_pos e] at h; exact h
    · rename_i e; rw [if_neg e] at h; exact ih (n + 1) (by omega) (by omega) h
def rankS (w : Int → Int) (x y i : Int) : Int := rankR w x y i (y - x + 1).toNat x
theorem m_rank {post : Int32 → MS → Prop} {S : MS} {F : Nat → List tm} {a x y i : Int} (hF : mForms S F) (hL : mLaid S F) (ha : i32 a) (hx : i32 x) (hy : i32 y) (hi : i32 i)
    (h0 : ¬ (0 ≤ a ∧ a ≤ 3 ∧ F a.toNat ≠ [] ∧ -3000 ≤ x ∧ x ≤ y ∧ y ≤ 3000 ∧ y - x < 200 ∧ 0 ≤ i ∧ i ≤ y - x) → post (iI (-100000)) S) (h1 : ∀ (s : Nat) (g : Nat → Int64), s < 4 → a = s → F s ≠ [] → -3000 ≤ x → x ≤ y → y ≤ 3000 → y - x < 200 → 0 ≤ i → i ≤ y - x → rowsW g (F s) → post (iI (rankS (Wy (F s)) x y i)) (mLS S s g)) : wX1_rank post S (iI a) (iI x) (iI y) (iI i) := by
  unfold wX1_rank
  refine m_isForm hF ha (fun s hs e hne => b_f (by decide) ?_) (fun hc => b_t rfl (h0 (fun z => hc ⟨z.1, z.2.1, z.2.2.1⟩)))
  refine m_isSpan hx hy (fun n1 n2 n3 => b_f (by decide) ?_) (fun hc => b_t rfl (h0 (fun z => hc (by omega))))
  simp (disch := omega) only [iLit, lLit, iI_add, iI_sub, iI_mul, iI_neg, lI_add, lI_sub, lI_mul, lI_neg, nI_i, lI_i, iI_le, iI_l]
  refine ⟨fun c => h0 (by omega), fun c => ?_⟩
  refine m_isIn (b := 0) (by omega) (by omega) (by omega) (fun q1 q2 => b_f (by decide) ?_) (fun hc => b_t rfl (h0 (fun z => hc (by omega))))
  subst e
  refine m_lays hF hL hs hne (fun g hg => ⟨(y - x + 1).toNat + 1, ?_⟩)
  exact m_rank_51 (hF s hs).2.1 (mLS_row (rowsW.zero hg)) n1 n2 n3 hi _ x (by omega) (by omega) (h1 s g hs rfl hne n1 n2 n3 (by omega) q1 q2 hg)
def nearR (w : Int → Int) (n : Int) : Nat → Int → Int
  | 0, _ => 0
  | m + 1, far => if w (n - far) = 0 ∧ w (n + far) = 0 then nearR w n m (far + 1) else if w (n - far) ≤ 0 then n + far else n - far
theorem m_atW {post : Int64 → MS → Prop} {S : MS} {ts : List tm} {n : Int} (hv : vF ts) (hr : rowW (S.2.2.2 22) 0 (wR ts)) (hn : -100000 ≤ n ∧ n ≤ 100000) (h : ∀ r : Int, r = Wy ts n → 0 ≤ r → r < 9223372036854775808 → post (lI r) S) : wX1_at post S (iI 0) (lI (n + 15000)) := by
  refine m_at (i := 0) (by omega) (by omega) hr (wR_sup hv) ?_
  unfold wR
  rw [show n + 15000 - 15000 = n by omega]
  exact h _ rfl (Wy_nn _ _) (Wy_lt hv _)
theorem m_near_26 {post : Int32 → MS → Prop} {S : MS} {ts : List tm} {n : Int} (hv : vF ts) (hr : rowW (S.2.2.2 22) 0 (wR ts)) (hn : -3000 ≤ n ∧ n ≤ 3000) : ∀ (m : Nat) (far : Int), 0 ≤ far → far + m ≤ 20000 → (∃ d : Int, far ≤ d ∧ d < far + m ∧ (Wy ts (n - d) ≠ 0 ∨ Wy ts (n + d) ≠ 0)) → post (iI (nearR (Wy ts) n m far)) S → wX1_nearest_26 post m (iI n) (iI far) S := by
  intro m
  induction m with
  | zero =>
    rintro far h1 h2 ⟨d, h3, h4, -⟩ h
    omega
  | succ m ih =>
    intro far h1 h2 hd h
    unfold wX1_nearest_26 wX1_nearest_68
    unfold nearR at h
    simp (disch := omega) only [iLit, lLit, iI_add, iI_sub, iI_mul, iI_neg, lI_add, lI_sub, lI_mul, lI_neg, nI_i, lI_i, iI_l]
    have hfin : ¬ (Wy ts (n - far) = 0 ∧ Wy ts (n + far) = 0) → wX1_at (fun r11 S12 => (r11 ≤ lI 0 → post (iI (n + far)) S12) ∧ (¬ r11 ≤ lI 0 → post (iI (n - far)) S12)) S (iI 0) (lI (n - far + 15000)) := by
      intro e
      rw [if_neg e] at h
      refine m_atW hv hr (by omega) (fun r er r0 r1 => ?_)
      rw [← er] at h
      rw [lI_le (by omega) (by omega) (by omega) (by omega)]
      exact ⟨fun e2 => by rw [if_pos e2] at h; exact h, fun e2 => by rw [if_neg e2] at h; exact h⟩
    refine m_atW hv hr (by omega) (fun r er r0 r1 => ?_)
    rw [lI_eq (by omega) (by omega) (by omega) (by omega)]
    refine ⟨fun e => ?_, fun e => hfin (fun z => e (by rw [er]; exact z.1))⟩
    refine m_atW hv hr (by omega) (fun q eq q0 q1 => ?_)
    rw [lI_eq (by omega) (by omega) (by omega) (by omega)]
    refine ⟨fun e2 => ?_, fun e2 => hfin (fun z => e2 (by rw [eq]; exact z.2))⟩
    rw [if_pos ⟨by rw [← er]; exact e, by rw [← eq]; exact e2⟩] at h
    obtain ⟨d, d1, d2, d3⟩ := hd
    refine ih (far + 1) (by omega) (by omega) ⟨d, ?_, by omega, d3⟩ h
    by_cases ed : d = far
    · subst ed
      rw [← er, ← eq] at d3
      omega
    · omega
theorem Wy_some : ∀ ts : List tm, vF ts → ∃ n, Wy ts n ≠ 0
  | [], _ => ⟨0, by unfold Wy; decide⟩
  | t :: ts, h => by
    obtain ⟨n, hn⟩ := Wy_some ts h.tail
    refine ⟨n + t.1 * kV t.2.1 t.2.2.1, ?_⟩
    rw [Wy_cons]
    have h0 := Wy_nn ts n
    have h1 : 0 < uI t.2.2.1 t.2.2.2 (fun x => Wy ts (n + t.1 * kV t.2.1 t.2.2.1 - t.1 * kV t.2.1 x)) := uI_pos (x := t.2.2.1) (fun x _ _ => Wy_nn ts _) (by omega) h.head.2.2.2.2.1 (by
      show 0 < Wy ts (n + t.1 * kV t.2.1 t.2.2.1 - t.1 * kV t.2.1 t.2.2.1)
      rw [show n + t.1 * kV t.2.1 t.2.2.1 - t.1 * kV t.2.1 t.2.2.1 = n by omega]
      omega)
    omega
def nearS (w : Int → Int) (n : Int) : Int := nearR w n 18001 0
theorem m_nearest {post : Int32 → MS → Prop} {S : MS} {F : Nat → List tm} {a n : Int} (hF : mForms S F) (hL : mLaid S F) (ha : i32 a) (hn : i32 n)
    (h0 : ¬ (0 ≤ a ∧ a ≤ 3 ∧ F a.toNat ≠ [] ∧ -3000 ≤ n ∧ n ≤ 3000) → post (iI (-100000)) S) (h1 : ∀ (s : Nat) (g : Nat → Int64), s < 4 → a = s → F s ≠ [] → -3000 ≤ n → n ≤ 3000 → rowsW g (F s) → post (iI (nearS (Wy (F s)) n)) (mLS S s g)) : wX1_nearest post S (iI a) (iI n) := by
  unfold wX1_nearest
  refine m_isForm hF ha (fun s hs e hne => b_f (by decide) ?_) (fun hc => b_t rfl (h0 (fun z => hc ⟨z.1, z.2.1, z.2.2.1⟩)))
  refine m_isN hn (fun n1 n2 => b_f (by decide) ?_) (fun hc => b_t rfl (h0 (fun z => hc z.2.2.2)))
  subst e
  refine m_lays hF hL hs hne (fun g hg => ⟨18001, ?_⟩)
  have hv := (hF s hs).2.1
  obtain ⟨q, hq⟩ := Wy_some (F s) hv
  have hq2 := Wy_sup (F s) hv.2 q hq
  have := hv.1
  refine m_near_26 hv (mLS_row (rowsW.zero hg)) (by omega) 18001 0 (by omega) (by omega) ?_ (h1 s g hs rfl hne n1 n2 hg)
  rcases Int.le_total q n with c | c
  · exact ⟨n - q, by omega, by omega, Or.inl (by rw [show n - (n - q) = q by omega]; exact hq)⟩
  · exact ⟨q - n, by omega, by omega, Or.inr (by rw [show n + (q - n) = q by omega]; exact hq)⟩
/-- a term's four numbers -/
def t4 (t : tm) (k : Int) : Int := if k = 0 then t.1 else if k = 1 then t.2.1 else if k = 2 then t.2.2.1 else t.2.2.2
theorem m_term {post : Int32 → MS → Prop} {S : MS} {F : Nat → List tm} {a i k : Int} (hF : mForms S F) (ha : i32 a) (hi : i32 i) (hk : i32 k)
    (h0 : ¬ (0 ≤ a ∧ a ≤ 3 ∧ 0 ≤ i ∧ i < (F a.toNat).length ∧ 0 ≤ k ∧ k ≤ 3) → post (iI (-100000)) S) (h1 : ∀ (s j : Nat) (t : tm), s < 4 → a = s → i = j → (F s)[j]? = some t → 0 ≤ k → k ≤ 3 → post (iI (t4 t k)) S) : wX1_term post S (iI a) (iI i) (iI k) := by
  unfold wX1_term
  refine m_isTerm hF ha hi (fun s j t hs e1 e2 ht hj => b_f (by decide) ?_) (fun hc => b_t rfl (h0 (fun z => hc ⟨z.1, z.2.1, z.2.2.1, z.2.2.2.1⟩)))
  rw [iI_l hk.1 hk.2]
  have hlt : j < (F s).length := (List.getElem?_eq_some_iff.mp ht).1
  refine m_isIn (b := 0) (c := 3) (by omega) (by omega) (by omega) (fun q1 q2 => b_f (by decide) ?_) (fun hc => b_t rfl (h0 (fun z => hc (by omega))))
  have h := h1 s j t hs e1 e2 ht q1 q2
  obtain ⟨-, -, hf⟩ := hF s hs
  obtain ⟨f1, f2, f3, f4⟩ := hf j t ht
  subst e1 e2
  obtain ⟨q, rfl⟩ : ∃ q : Nat, k = q := ⟨k.toNat, by omega⟩
  refine m_of (by omega) hj (by omega) ?_
  unfold t4 at h
  rcases (show q = 0 ∨ q = 1 ∨ q = 2 ∨ q = 3 by omega) with e | e | e | e <;> subst e
  · rw [show 4 * (5 * s + j) + 0 = 4 * (5 * s + j) from rfl, f1]; exact h
  · rw [f2]; exact h
  · rw [f3]; exact h
  · rw [f4]; exact h
