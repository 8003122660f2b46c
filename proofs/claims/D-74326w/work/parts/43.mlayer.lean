set_option maxRecDepth 100000
set_option maxHeartbeats 4000000
/-! one layer of the model's ways -/
theorem m_layer_121 {K3 : Int32 → Int32 → Int32 → Int32 → Int32 → Int32 → Int32 → MS → Prop} {post : Unit → MS → Prop} {S : MS} {g : Nat → Int64} {i s : Nat} {x2 x3 x4 x5 x6 : Int32} {v : Int64} (hi : i ≤ 5) (hs : s ≤ 30000) (h : K3 (iI i) x2 x3 x4 x5 x6 (iI (s + 1 : Nat)) (mB S 22 (vp_updL g (30001 * i + s) v))) : wX1_laysLayer_121 K3 post (iI i) x2 x3 x4 x5 x6 (iI s) v (mB S 22 g) := by
  unfold wX1_laysLayer_121
  simp (disch := omega) only [iLit, lLit, iI_add, iI_sub, iI_mul, iI_neg, lI_add, lI_sub, lI_mul, lI_neg, nI_i, lI_i, iI_nat, mB_at, mB_mB]
  refine ⟨iI_in (by omega) (by omega) (by omega), ?_⟩
  rw [show (30001 * (i : Int) + (s : Int)).toNat = 30001 * i + s by omega]
  exact h
theorem m_layer_83 {K3 : Int32 → Int32 → Int32 → Int32 → Int32 → Int32 → Int32 → MS → Prop} {post : Unit → MS → Prop} {S : MS} {g : Nat → Int64} {i j s : Nat} {f k lo hi : Int} {w : Int → Int} (hi5 : i ≤ 5) (hj : j ≤ 5) (hs : s ≤ 30000) (hf : 0 ≤ f ∧ f ≤ 500) (hk : 0 ≤ k ∧ k ≤ 4) (hlo : -4000 ≤ lo) (hhi : hi ≤ 4000) (hw : rowW g j w) (hz : sup w)
    (h : K3 (iI i) (iI j) (iI f) (iI k) (iI lo) (iI hi) (iI (s + 1 : Nat)) (mB S 22 (vp_updL g (30001 * i + s) (lI (Ly f k lo hi w s))))) :
    ∀ (m : Nat) (x : Int), lo ≤ x → x + m = hi + 1 → ∃ n, wX1_laysLayer_83 K3 post n (iI i) (iI j) (iI f) (iI k) (iI lo) (iI hi) (iI s) (lI (uI lo (x - 1) (fun x => w (s - f * kV k x)))) (iI x) (mB S 22 g) := by
  intro m
  induction m with
  | zero =>
    intro x hx hm
    refine ⟨1, ?_⟩
    unfold wX1_laysLayer_83
    refine b_t (by simp (disch := omega) only [iLit, lLit, iI_add, iI_sub, iI_mul, iI_neg, lI_add, lI_sub, lI_mul, lI_neg, nI_i, lI_i, iI_l, iI_nat, iI_lt, iI_le, iI_eq, lI_lt, lI_le, lI_eq] <;> omega) ?_
    rw [show x - 1 = hi by omega]
    exact m_layer_121 hi5 hs h
  | succ m ih =>
    intro x hx hm
    obtain ⟨n, hn⟩ := ih (x + 1) (by omega) (by omega)
    refine ⟨n + 1, ?_⟩
    unfold wX1_laysLayer_83
    refine b_f (by simp (disch := omega) only [iLit, lLit, iI_add, iI_sub, iI_mul, iI_neg, lI_add, lI_sub, lI_mul, lI_neg, nI_i, lI_i, iI_l, iI_nat, iI_lt, iI_le, iI_eq, lI_lt, lI_le, lI_eq] <;> omega) ?_
    simp (disch := omega) only [iLit, lLit, iI_add, iI_sub, iI_mul, iI_neg, lI_add, lI_sub, lI_mul, lI_neg, nI_i, lI_i, iI_l]
    refine m_plain hk.1 hk.2 (by omega) (by omega) ?_
    have hb := kV_le4 (k := k) (x := x) (by omega) (by omega)
    have hb2 := abs_mul_le (show -500 ≤ f by omega) hf.2 hb.1 hb.2
    simp (disch := omega) only [iLit, lLit, iI_add, iI_sub, iI_mul, iI_neg, lI_add, lI_sub, lI_mul, lI_neg, nI_i, lI_i, iI_l]
    refine m_at hj (by omega) (by rw [mB_at]; exact hw) hz ?_
    simp (disch := omega) only [iLit, lLit, iI_add, iI_sub, iI_mul, iI_neg, lI_add, lI_sub, lI_mul, lI_neg, nI_i, lI_i]
    have e := uI_end (lo := lo) (hi := x - 1) (fun x => w (s - f * kV k x)) (by omega)
    rw [show x - 1 + 1 = x by omega] at e
    rw [show x + 1 - 1 = x by omega, e] at hn
    exact hn
theorem m_layer_44 {K3 : Int32 → Int32 → Int32 → Int32 → Int32 → Int32 → Int32 → MS → Prop} {post : Unit → MS → Prop} {S : MS} {g : Nat → Int64} {i j s : Nat} {f lo hi v : Int} {x4 : Int32} {w : Int → Int} (hi5 : i ≤ 5) (hj : j ≤ 5) (hs : s ≤ 30000) (hf : 0 ≤ f ∧ f ≤ 500) (hlo : -4000 ≤ lo) (hlh : lo ≤ hi) (hhi : hi ≤ 4000) (hw : rowW g j w) (hz : sup w)
    (h : K3 (iI i) (iI j) (iI f) x4 (iI lo) (iI hi) (iI (s + 1 : Nat)) (mB S 22 (vp_updL g (30001 * i + s) (lI (v + w (s - f * lo) - w (s - f * (hi + 1))))))) : wX1_laysLayer_44 K3 post (iI i) (iI j) (iI f) x4 (iI lo) (iI hi) (iI s) (lI v) (mB S 22 g) := by
  unfold wX1_laysLayer_44
  have hb := abs_mul_le (show -500 ≤ f by omega) hf.2 (show -4000 ≤ lo by omega) (show lo ≤ 4000 by omega)
  have hb2 := abs_mul_le (show -500 ≤ f by omega) hf.2 (show -4001 ≤ hi + 1 by omega) (show hi + 1 ≤ 4001 by omega)
  simp (disch := omega) only [iLit, lLit, iI_add, iI_sub, iI_mul, iI_neg, lI_add, lI_sub, lI_mul, lI_neg, nI_i, lI_i, iI_l]
  refine m_at hj (by omega) (by rw [mB_at]; exact hw) hz ?_
  refine m_at hj (by omega) (by rw [mB_at]; exact hw) hz ?_
  simp (disch := omega) only [iLit, lLit, iI_add, iI_sub, iI_mul, iI_neg, lI_add, lI_sub, lI_mul, lI_neg, nI_i, lI_i]
  exact m_layer_121 hi5 hs h
theorem m_layer_3 {post : Unit → MS → Prop} {S : MS} {g0 : Nat → Int64} {i j : Nat} {f k lo hi : Int} {w : Int → Int} (hi5 : i ≤ 5) (hj : j ≤ 5) (hij : i ≠ j) (hf : 1 ≤ f ∧ f ≤ 500) (hk : 0 ≤ k ∧ k ≤ 4) (hlo : -4000 ≤ lo) (hlh : lo ≤ hi) (hhi : hi ≤ 4000) (hw : rowW g0 j w) (hz : sup w) (hneg : ∀ t : Int, t < 0 → Ly f k lo hi w t = 0)
    (h : ∀ g : Nat → Int64, rowW g i (Ly f k lo hi w) → (∀ q, (q < 30001 * i ∨ 30001 * i + 30001 ≤ q) → g q = g0 q) → post () (mB S 22 g)) :
    ∀ (m s : Nat) (g : Nat → Int64), s + m = 30001 → (∀ t : Nat, t < s → g (30001 * i + t) = lI (Ly f k lo hi w t)) → (∀ q, (q < 30001 * i ∨ 30001 * i + 30001 ≤ q) → g q = g0 q) → ∃ n, wX1_laysLayer_3 post n (iI i) (iI j) (iI f) (iI k) (iI lo) (iI hi) (iI s) (mB S 22 g) := by
  intro m
  induction m with
  | zero =>
    intro s g hs h1 h2
    refine ⟨1, ?_⟩
    unfold wX1_laysLayer_3
    refine b_t (by simp (disch := omega) only [iLit, lLit, iI_add, iI_sub, iI_mul, iI_neg, lI_add, lI_sub, lI_mul, lI_neg, nI_i, lI_i, iI_l, iI_nat, iI_lt, iI_le, iI_eq, lI_lt, lI_le, lI_eq] <;> omega) ?_
    refine h g (fun t ht1 ht2 => ?_) h2
    have := h1 t.toNat (by omega)
    rw [show ((t.toNat : Nat) : Int) = t by omega] at this
    exact this
  | succ m ih =>
    intro s g hs h1 h2
    have hwg : rowW g j w := fun t ht1 ht2 => by rw [h2 _ (by omega)]; exact hw t ht1 ht2
    obtain ⟨n, hn⟩ := ih (s + 1) (vp_updL g (30001 * i + s) (lI (Ly f k lo hi w s))) (by omega) (fun t ht => by
      unfold vp_updL
      by_cases e : t = s
      · rw [if_pos (by omega), e]
      · rw [if_neg (by omega)]; exact h1 t (by omega)) (fun q hq => by
      unfold vp_updL
      rw [if_neg (by omega)]; exact h2 q hq)
    refine ⟨n + 1, ?_⟩
    unfold wX1_laysLayer_3
    refine b_f (by simp (disch := omega) only [iLit, lLit, iI_add, iI_sub, iI_mul, iI_neg, lI_add, lI_sub, lI_mul, lI_neg, nI_i, lI_i, iI_l, iI_nat, iI_lt, iI_le, iI_eq, lI_lt, lI_le, lI_eq] <;> omega) ?_
    refine ⟨fun hk0 => ?_, fun hk0 => ?_⟩
    · have hk1 : k = 0 := by
        simp (disch := omega) only [iLit, lLit, iI_add, iI_sub, iI_mul, iI_neg, lI_add, lI_sub, lI_mul, lI_neg, nI_i, lI_i, iI_eq] at hk0
        exact hk0
      subst hk1
      have hst : ∀ t : Int, Ly f 0 lo hi w t = Ly f 0 lo hi w (t - f) + w (t - f * lo) - w (t - f * (hi + 1)) := by
        intro t
        have := uI_step (lo := lo) (hi := hi) w f t (by omega)
        exact this
      refine ⟨fun hc => ?_, fun hc => ?_⟩
      · have hc : (s : Int) < f := by
          simp (disch := omega) only [iLit, lLit, iI_add, iI_sub, iI_mul, iI_neg, lI_add, lI_sub, lI_mul, lI_neg, nI_i, lI_i, iI_lt] at hc
          exact hc
        refine m_layer_44 (v := 0) hi5 hj (by omega) (by omega) hlo hlh hhi hwg hz ?_
        rw [hst s, hneg _ (by omega)] at hn
        exact hn
      · have hc : ¬ (s : Int) < f := by
          simp (disch := omega) only [iLit, lLit, iI_add, iI_sub, iI_mul, iI_neg, lI_add, lI_sub, lI_mul, lI_neg, nI_i, lI_i, iI_lt] at hc
          exact hc
        simp (disch := omega) only [iLit, lLit, iI_add, iI_sub, iI_mul, iI_neg, lI_add, lI_sub, lI_mul, lI_neg, nI_i, lI_i, iI_nat, mB_at]
        refine ⟨iI_in (by omega) (by omega) (by omega), ?_⟩
        have h3 := h1 (s - f.toNat) (by omega)
        rw [show 30001 * i + (s - f.toNat) = (30001 * (i : Int) + (s : Int) - f).toNat by omega, show ((s - f.toNat : Nat) : Int) = (s : Int) - f by omega] at h3
        rw [h3]
        refine m_layer_44 hi5 hj (by omega) (by omega) hlo hlh hhi hwg hz ?_
        rw [hst s] at hn
        exact hn
    · obtain ⟨n2, hn2⟩ := m_layer_83 (K3 := fun x1 x2 x3 x4 x5 x6 x7 S => wX1_laysLayer_3 post n x1 x2 x3 x4 x5 x6 x7 S) (post := post) (S := S) (g := g) (s := s) hi5 hj (by omega) (by omega) hk hlo hhi hwg hz hn (hi + 1 - lo).toNat lo (by omega) (by omega)
      rw [show uI lo (lo - 1) (fun x => w (s - f * kV k x)) = 0 by unfold uI; rw [show (lo - 1 - lo + 1).toNat = 0 by omega]; rfl] at hn2
      exact ⟨n2, hn2⟩
/-- the model lays row i out of row j -/
theorem m_layer {post : Unit → MS → Prop} {S : MS} {i j : Nat} {f k lo hi : Int} {w : Int → Int} (hi5 : i ≤ 5) (hj : j ≤ 5) (hij : i ≠ j) (hf : 1 ≤ f ∧ f ≤ 500) (hk : 0 ≤ k ∧ k ≤ 4) (hlo : -4000 ≤ lo) (hlh : lo ≤ hi) (hhi : hi ≤ 4000) (hw : rowW (S.2.2.2 22) j w) (hz : sup w) (hneg : ∀ t : Int, t < 0 → Ly f k lo hi w t = 0)
    (h : ∀ g : Nat → Int64, rowW g i (Ly f k lo hi w) → (∀ q, (q < 30001 * i ∨ 30001 * i + 30001 ≤ q) → g q = S.2.2.2 22 q) → post () (mB S 22 g)) : wX1_laysLayer post S (iI i) (iI j) (iI f) (iI k) (iI lo) (iI hi) := by
  obtain ⟨n, hn⟩ := m_layer_3 hi5 hj hij hf hk hlo hlh hhi hw hz hneg h 30001 0 (S.2.2.2 22) (by omega) (fun t ht => by omega) (fun _ _ => rfl)
  rw [mB_id] at hn
  exact ⟨n, hn⟩
