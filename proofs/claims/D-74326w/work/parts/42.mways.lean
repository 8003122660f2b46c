set_option maxRecDepth 100000
set_option maxHeartbeats 4000000
/-! the model's ways -/
theorem m_isIn {post : Int32 → Prop} {a b c : Int} (ha : -9223372036854775808 ≤ a ∧ a < 9223372036854775808) (hb : -9223372036854775808 ≤ b ∧ b < 9223372036854775808) (hc : -9223372036854775808 ≤ c ∧ c < 9223372036854775808) (h1 : b ≤ a → a ≤ c → post 1) (h0 : ¬ (b ≤ a ∧ a ≤ c) → post 0) : wX1_isIn post (lI a) (lI b) (lI c) := by
  unfold wX1_isIn
  rw [lI_lt ha.1 ha.2 hb.1 hb.2, lI_lt hc.1 hc.2 ha.1 ha.2]
  exact ⟨fun h => h0 (by omega), fun h => ⟨fun h2 => h0 (by omega), fun h2 => h1 (by omega) (by omega)⟩⟩
theorem m_isSlot {post : Int32 → Prop} {a : Int} (ha : -2147483648 ≤ a ∧ a < 2147483648) (h1 : 0 ≤ a → a ≤ 3 → post 1) (h0 : ¬ (0 ≤ a ∧ a ≤ 3) → post 0) : wX1_isSlot post (iI a) := by
  unfold wX1_isSlot
  rw [iI_l ha.1 ha.2]
  exact m_isIn (b := 0) (c := 3) (by omega) (by omega) (by omega) (fun a b => ⟨isB_1, h1 a b⟩) (fun a => ⟨isB_0, h0 a⟩)
theorem m_isN {post : Int32 → Prop} {a : Int} (ha : -2147483648 ≤ a ∧ a < 2147483648) (h1 : -3000 ≤ a → a ≤ 3000 → post 1) (h0 : ¬ (-3000 ≤ a ∧ a ≤ 3000) → post 0) : wX1_isN post (iI a) := by
  unfold wX1_isN
  rw [iI_l ha.1 ha.2]
  show wX1_isIn (fun r1 => isB r1 ∧ post r1) (lI a) (lI (-3000)) (lI 3000)
  exact m_isIn (b := -3000) (c := 3000) (by omega) (by omega) (by omega) (fun a b => ⟨isB_1, h1 a b⟩) (fun a => ⟨isB_0, h0 a⟩)
theorem m_plain {post : Int64 → Prop} {k x : Int} (hk : 0 ≤ k) (hk2 : k ≤ 4) (h1 : -20000 ≤ x) (h2 : x ≤ 20000) (h : post (lI (kV k x))) : wX1_plain post (iI k) (lI x) := by
  unfold wX1_plain
  simp (disch := omega) only [iLit, lLit, iI_add, iI_sub, iI_mul, iI_neg, lI_add, lI_sub, lI_mul, lI_neg, nI_i, lI_i, iI_eq]
  unfold kV at h
  refine ⟨fun e => ?_, fun e => ⟨fun e1 => ?_, fun e1 => ⟨fun e2 => ?_, fun e2 => ⟨fun e3 => ?_, fun e3 => ?_⟩⟩⟩⟩
  · rw [if_pos e] at h; exact h
  · rw [if_neg e, if_pos e1] at h; exact h
  · rw [if_neg e, if_neg e1, if_pos e2] at h; exact h
  · rw [if_neg e, if_neg e1, if_neg e2, if_pos e3] at h; exact h
  · rw [if_neg e, if_neg e1, if_neg e2, if_neg e3] at h
    have b2 := abs_mul_le h1 h2 (show -20001 ≤ x + 1 by omega) (show x + 1 ≤ 20001 by omega)
    rw [lI_half (x_x1_nn x) (by omega)]
    exact h
/-- row i of the model's ways holds w -/
def rowW (g : Nat → Int64) (i : Nat) (w : Int → Int) : Prop := ∀ s : Int, 0 ≤ s → s ≤ 30000 → g (30001 * i + s.toNat) = lI (w s)
/-- w is nought beyond the row -/
def sup (w : Int → Int) : Prop := ∀ s : Int, ¬ (0 ≤ s ∧ s ≤ 30000) → w s = 0
theorem m_at {post : Int64 → MS → Prop} {S : MS} {i : Nat} {w : Int → Int} {s : Int} (hi : i ≤ 5) (hs : -9223372036854775808 ≤ s ∧ s < 9223372036854775808) (hw : rowW (S.2.2.2 22) i w) (hz : sup w) (h : post (lI (w s)) S) : wX1_at post S (iI i) (lI s) := by
  unfold wX1_at
  refine m_isIn (b := 0) (c := 30000) hs (by omega) (by omega) (fun a b => ?_) (fun a => ?_)
  · refine b_f (by decide) ?_
    simp (disch := omega) only [iLit, lLit, iI_add, iI_sub, iI_mul, iI_neg, lI_add, lI_sub, lI_mul, lI_neg, nI_i, lI_i, iI_nat]
    refine ⟨iI_in (by omega) (by omega) (by omega), ?_⟩
    rw [show (30001 * (i : Int) + s).toNat = 30001 * i + s.toNat by omega, hw s a b]
    exact h
  · refine b_t rfl ?_
    rw [hz s a] at h
    exact h
theorem mB_id (S : MS) (k : Nat) : mB S k (S.2.2.2 k) = S := by
  unfold mB
  show (S.1, S.2.1, S.2.2.1, va_up S.2.2.2 k (S.2.2.2 k)) = (S.1, S.2.1, S.2.2.1, S.2.2.2)
  congr 3
  funext j
  unfold va_up
  split
  · rename_i e; rw [e]
  · rfl
theorem mB_at (S : MS) (k : Nat) (g : Nat → Int64) : (mB S k g).2.2.2 k = g := up_eq _ _ _
theorem mA_at (S : MS) (k : Nat) (g : Nat → Int32) : (mA S k g).2.2.1 k = g := up_eq _ _ _
theorem mA_id (S : MS) (k : Nat) : mA S k (S.2.2.1 k) = S := by
  unfold mA
  show (S.1, S.2.1, va_up S.2.2.1 k (S.2.2.1 k), S.2.2.2) = (S.1, S.2.1, S.2.2.1, S.2.2.2)
  congr 3
  funext j
  unfold va_up
  split
  · rename_i e; rw [e]
  · rfl
theorem m_nought_2 {post : Unit → MS → Prop} {S : MS} {n : Nat} (hn : n ≤ 5) (g0 : Nat → Int64) (h : ∀ g : Nat → Int64, rowW g n (fun s => if s = 15000 then 1 else 0) → (∀ k, (k < 30001 * n ∨ 30001 * n + 30001 ≤ k) → g k = g0 k) → post () (mB S 22 g)) :
    ∀ (m j : Nat) (g : Nat → Int64), j + m = 30001 → (∀ s : Nat, s < j → g (30001 * n + s) = lI 0) → (∀ k, (k < 30001 * n ∨ 30001 * n + 30001 ≤ k) → g k = g0 k) → ∃ k, wX1_laysNought_2 post k (iI n) (iI j) (mB S 22 g) := by
  intro m
  induction m with
  | zero =>
    intro j g hj h1 h2
    refine ⟨1, ?_⟩
    unfold wX1_laysNought_2
    refine b_t (by simp (disch := omega) only [iLit, lLit, iI_add, iI_sub, iI_mul, iI_neg, lI_add, lI_sub, lI_mul, lI_neg, nI_i, lI_i, iI_l, iI_nat, iI_lt, iI_le, iI_eq, lI_lt, lI_le, lI_eq] <;> omega) ?_
    simp (disch := omega) only [iLit, lLit, iI_add, iI_sub, iI_mul, iI_neg, lI_add, lI_sub, lI_mul, lI_neg, nI_i, lI_i, iI_nat, mB_at, mB_mB]
    refine ⟨iI_in (by omega) (by omega) (by omega), h _ (fun s hs1 hs2 => ?_) (fun k hk => ?_)⟩
    · unfold vp_updL
      by_cases e : s = 15000
      · rw [if_pos (by omega)]; simp only [e, if_pos]
      · rw [if_neg (by omega), h1 _ (by omega)]; simp only [e, if_neg, not_false_eq_true]
    · unfold vp_updL
      rw [if_neg (by omega)]; exact h2 k hk
  | succ m ih =>
    intro j g hj h1 h2
    obtain ⟨k, hk⟩ := ih (j + 1) (vp_updL g (30001 * n + j) (lI 0)) (by omega) (fun s hs => by
      unfold vp_updL
      by_cases e : s = j
      · rw [if_pos (by omega)]
      · rw [if_neg (by omega)]; exact h1 s (by omega)) (fun k hk => by
      unfold vp_updL
      rw [if_neg (by omega)]; exact h2 k hk)
    refine ⟨k + 1, ?_⟩
    unfold wX1_laysNought_2
    refine b_f (by simp (disch := omega) only [iLit, lLit, iI_add, iI_sub, iI_mul, iI_neg, lI_add, lI_sub, lI_mul, lI_neg, nI_i, lI_i, iI_l, iI_nat, iI_lt, iI_le, iI_eq, lI_lt, lI_le, lI_eq] <;> omega) ?_
    simp (disch := omega) only [iLit, lLit, iI_add, iI_sub, iI_mul, iI_neg, lI_add, lI_sub, lI_mul, lI_neg, nI_i, lI_i, iI_nat, mB_at, mB_mB]
    refine ⟨iI_in (by omega) (by omega) (by omega), ?_⟩
    rw [show (30001 * (n : Int) + (j : Int)).toNat = 30001 * n + j by omega]
    exact hk
theorem m_nought {post : Unit → MS → Prop} {S : MS} {n : Nat} (hn : n ≤ 5) (h : ∀ g : Nat → Int64, rowW g n (fun s => if s = 15000 then 1 else 0) → (∀ k, (k < 30001 * n ∨ 30001 * n + 30001 ≤ k) → g k = S.2.2.2 22 k) → post () (mB S 22 g)) : wX1_laysNought post S (iI n) := by
  obtain ⟨k, hk⟩ := m_nought_2 hn (S.2.2.2 22) h 30001 0 (S.2.2.2 22) (by omega) (fun s hs => by omega) (fun k _ => rfl)
  rw [mB_id] at hk
  exact ⟨k, hk⟩
