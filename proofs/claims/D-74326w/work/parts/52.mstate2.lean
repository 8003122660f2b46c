set_option maxRecDepth 100000
set_option maxHeartbeats 4000000
/-! the model: join, the tape, small looks -/
theorem mI_at (S : MS) (k : Nat) (v : Int32) : (mI S k v).1 k = v := up_eq S.1 k v
theorem mA_swap (S : MS) (i j : Nat) (h : i ≠ j) (f g : Nat → Int32) : mA (mA S i f) j g = mA (mA S j g) i f := by
  unfold mA
  congr 3
  funext q
  unfold va_up
  by_cases e1 : q = j
  · by_cases e2 : q = i
    · omega
    · simp only [if_pos e1, if_neg e2]
  · by_cases e2 : q = i
    · simp only [if_neg e1, if_pos e2]
    · simp only [if_neg e1, if_neg e2]
theorem mA_010 (S : MS) (f g h : Nat → Int32) : mA (mA (mA S 1 f) 0 g) 1 h = mA (mA S 0 g) 1 h := by
  rw [mA_swap S 1 0 (by decide), mA_mA]
theorem m_join_99 {post : Int32 → MS → Prop} {S : MS} {F : Nat → List tm} {s o d : Nat} (hF : mForms S F) (hs : s < 4) (ho : o < 4) (hd : d < 4) (hl : (F s).length + (F o).length ≤ 5) (h4 : S.2.2.1 0 4 = iI (((F s).length + (F o).length : Nat))) (h : ∀ f1 f2 : Nat → Int32, mForms (mA (mA S 0 f1) 1 f2) (upF F d (F s ++ F o)) → post 1 (mI (mI (mA (mA S 0 f1) 1 f2) 21 (iI (-1))) 23 (iI (-1)))) : ∀ (m k : Nat) (f : Nat → Int32), k + m = (F o).length → mForms (mA S 1 f) F → gath f (F s ++ F o) ((F s).length + k) → wX1_join_99 post (m + 1) (iI s) (iI o) (iI d) (iI k) (mA S 1 f) := by
  have hvs := (hF s hs).2.1
  have hvo := (hF o ho).2.1
  intro m
  induction m with
  | zero =>
    intro k f hk hG hg
    unfold wX1_join_99
    refine ⟨iI_in (by omega) (by omega) (by omega), ?_⟩
    rw [iI_nat (by omega) (by omega), show ((o : Int)).toNat = o by omega, show (mA S 1 f).2.2.1 0 o = _ from (hF o ho).1]
    refine b_t (by simp (disch := omega) only [iLit, lLit, iI_add, iI_sub, iI_mul, iI_neg, lI_add, lI_sub, lI_mul, lI_neg, nI_i, lI_i, iI_l, iI_nat, iI_lt, iI_le, iI_eq, lI_lt, lI_le, lI_eq] <;> omega) ?_
    refine m_takes (S := mA S 1 f) (L := F s ++ F o) hG hd ⟨by rw [List.length_append]; omega, fun t ht => (List.mem_append.mp ht).elim (hvs.2 t) (hvo.2 t)⟩ (by rw [List.length_append]; exact h4) (fun j t hj => by
      rw [mA_at]
      have := (List.getElem?_eq_some_iff.mp hj).1
      rw [List.length_append] at this
      exact hg j t (by omega) hj) (fun f0 f1 hh => ?_)
    rw [mA_010] at hh ⊢
    exact h f0 f1 hh
  | succ m ih =>
    intro k f hk hG hg
    unfold wX1_join_99
    refine ⟨iI_in (by omega) (by omega) (by omega), ?_⟩
    rw [iI_nat (by omega) (by omega), show ((o : Int)).toNat = o by omega, show (mA S 1 f).2.2.1 0 o = _ from (hF o ho).1]
    refine b_f (by simp (disch := omega) only [iLit, lLit, iI_add, iI_sub, iI_mul, iI_neg, lI_add, lI_sub, lI_mul, lI_neg, nI_i, lI_i, iI_l, iI_nat, iI_lt, iI_le, iI_eq, lI_lt, lI_le, lI_eq] <;> omega) ⟨iI_in (by omega) (by omega) (by omega), ?_⟩
    rw [iI_nat (by omega) (by omega), show ((s : Int)).toNat = s by omega, show (mA S 1 f).2.2.1 0 s = _ from (hF s hs).1]
    simp only [iLit, lLit, iI_add, iI_sub, iI_mul, iI_neg, lI_add, lI_sub, lI_mul, lI_neg, nI_i, lI_i]
    rw [show ((F s).length : Int) + (k : Int) = ((F s).length + k : Nat) by omega]
    refine m_copies (d := 4) (by omega) (by omega) (by omega) (by omega) (by omega) (fun g a b => ?_)
    rw [mA_at] at a b
    rw [mA_mA]
    obtain ⟨t, ht⟩ : ∃ t, (F o)[k]? = some t := ⟨_, List.getElem?_eq_getElem (by omega)⟩
    have hr : rTm ((mA S 1 f).2.2.1 1) o k t := (hG o ho).2.2 k t ht
    rw [mA_at] at hr
    refine ih (k + 1) g (by omega) (hG.keep (fun q hq => b q (by omega))) (hg.step (by omega) hr ?_ a b)
    rw [List.getElem?_append_right (by omega), show (F s).length + k - (F s).length = k by omega]
    exact ht
theorem m_join_69 {post : Int32 → MS → Prop} {S : MS} {F : Nat → List tm} {s o d : Nat} (hF : mForms S F) (hs : s < 4) (ho : o < 4) (hd : d < 4) (hl : (F s).length + (F o).length ≤ 5) (h4 : S.2.2.1 0 4 = iI (((F s).length + (F o).length : Nat))) (h : ∀ f1 f2 : Nat → Int32, mForms (mA (mA S 0 f1) 1 f2) (upF F d (F s ++ F o)) → post 1 (mI (mI (mA (mA S 0 f1) 1 f2) 21 (iI (-1))) 23 (iI (-1)))) : ∀ (m k : Nat) (f : Nat → Int32), k + m = (F s).length → mForms (mA S 1 f) F → gath f (F s ++ F o) k → wX1_join_69 post (m + 1) (iI s) (iI o) (iI d) (iI k) (mA S 1 f) := by
  intro m
  induction m with
  | zero =>
    intro k f hk hG hg
    unfold wX1_join_69
    refine ⟨iI_in (by omega) (by omega) (by omega), ?_⟩
    rw [iI_nat (by omega) (by omega), show ((s : Int)).toNat = s by omega, show (mA S 1 f).2.2.1 0 s = _ from (hF s hs).1]
    refine b_t (by simp (disch := omega) only [iLit, lLit, iI_add, iI_sub, iI_mul, iI_neg, lI_add, lI_sub, lI_mul, lI_neg, nI_i, lI_i, iI_l, iI_nat, iI_lt, iI_le, iI_eq, lI_lt, lI_le, lI_eq] <;> omega) ⟨(F o).length + 1, m_join_99 hF hs ho hd hl h4 h (F o).length 0 f (by omega) hG ?_⟩
    rw [show (F s).length + 0 = k by omega]
    exact hg
  | succ m ih =>
    intro k f hk hG hg
    unfold wX1_join_69
    refine ⟨iI_in (by omega) (by omega) (by omega), ?_⟩
    rw [iI_nat (by omega) (by omega), show ((s : Int)).toNat = s by omega, show (mA S 1 f).2.2.1 0 s = _ from (hF s hs).1]
    refine b_f (by simp (disch := omega) only [iLit, lLit, iI_add, iI_sub, iI_mul, iI_neg, lI_add, lI_sub, lI_mul, lI_neg, nI_i, lI_i, iI_l, iI_nat, iI_lt, iI_le, iI_eq, lI_lt, lI_le, lI_eq] <;> omega) ?_
    simp only [iLit, lLit, iI_add, iI_sub, iI_mul, iI_neg, lI_add, lI_sub, lI_mul, lI_neg, nI_i, lI_i]
    refine m_copies (d := 4) (by omega) (by omega) (by omega) (by omega) (by omega) (fun g a b => ?_)
    rw [mA_at] at a b
    rw [mA_mA]
    obtain ⟨t, ht⟩ : ∃ t, (F s)[k]? = some t := ⟨_, List.getElem?_eq_getElem (by omega)⟩
    have hr : rTm ((mA S 1 f).2.2.1 1) s k t := (hG s hs).2.2 k t ht
    rw [mA_at] at hr
    refine ih (k + 1) g (by omega) (hG.keep (fun q hq => b q (by omega))) (hg.step (by omega) hr ?_ a b)
    rw [List.getElem?_append_left (by omega)]
    exact ht
theorem m_join {post : Int32 → MS → Prop} {S : MS} {F : Nat → List tm} {a b c : Int} (hF : mForms S F) (ha : i32 a) (hb : i32 b) (hc : i32 c) (h0 : ¬ (0 ≤ a ∧ a ≤ 3 ∧ 0 ≤ b ∧ b ≤ 3 ∧ 0 ≤ c ∧ c ≤ 3 ∧ 1 ≤ (F a.toNat).length + (F b.toNat).length ∧ (F a.toNat).length + (F b.toNat).length ≤ 5) → post 0 S) (h1 : ∀ s o d : Nat, s < 4 → a = s → o < 4 → b = o → d < 4 → c = d → 1 ≤ (F s).length + (F o).length → (F s).length + (F o).length ≤ 5 → mkF post S F d (F s ++ F o)) : wX1_join post S (iI a) (iI b) (iI c) := by
  unfold wX1_join
  refine m_isSlot ha (fun a1 a2 => b_f (by decide) ?_) (fun z => b_t rfl (h0 (fun y => z (by omega))))
  refine m_isSlot hb (fun b1 b2 => b_f (by decide) ?_) (fun z => b_t rfl (h0 (fun y => z (by omega))))
  refine m_isSlot hc (fun c1 c2 => b_f (by decide) ?_) (fun z => b_t rfl (h0 (fun y => z (by omega))))
  refine ⟨iI_in (by omega) (by omega) (by omega), iI_in (by omega) (by omega) (by omega), ?_⟩
  obtain ⟨s, rfl⟩ : ∃ s : Nat, a = s := ⟨a.toNat, by omega⟩
  obtain ⟨o, rfl⟩ : ∃ s : Nat, b = s := ⟨b.toNat, by omega⟩
  obtain ⟨d, rfl⟩ : ∃ s : Nat, c = s := ⟨c.toNat, by omega⟩
  have hs : s < 4 := by omega
  have ho : o < 4 := by omega
  have hls := (hF s hs).2.1.1
  have hlo := (hF o ho).2.1.1
  rw [iI_nat (by omega) (by omega), iI_nat (by omega) (by omega), show ((s : Int)).toNat = s by omega, show ((o : Int)).toNat = o by omega, (hF s hs).1, (hF o ho).1, iI_add, iI_l (by omega) (by omega)]
  rw [show ((s : Int)).toNat = s by omega, show ((o : Int)).toNat = o by omega] at h0
  refine m_isIn (b := 1) (c := 5) (by omega) (by omega) (by omega) (fun d1 d2 => b_f (by decide) ?_) (fun z => b_t rfl (h0 (fun y => z (by omega))))
  refine ⟨iI_in (by omega) (by omega) (by omega), iI_in (by omega) (by omega) (by omega), iI_in (z := 4) (by omega) (by omega) (by omega), (F s).length + 1, ?_⟩
  obtain ⟨f0, hf0⟩ : ∃ f0, f0 = upd (S.2.2.1 0) (Int32.toNatClampNeg 4) (iI ((F s).length + (F o).length)) := ⟨_, rfl⟩
  rw [← hf0]
  have hfq : ∀ q, q < 4 → f0 q = S.2.2.1 0 q := fun q hq => by rw [hf0]; unfold upd; rw [if_neg]; intro e; rw [show Int32.toNatClampNeg 4 = 4 from rfl] at e; omega
  have key := m_join_69 (post := post) (S := mA S 0 f0) (F := F) (s := s) (o := o) (d := d) (hF.many hfq) hs ho (by omega) (by omega) (by rw [mA_at, hf0]; rfl) (fun f1 f2 hh => by rw [mA_mA] at hh ⊢; exact h1 s o d hs rfl ho rfl (by omega) rfl (by omega) (by omega) f1 f2 hh) (F s).length 0 (S.2.2.1 1) (by omega) (by
    rw [show mA (mA S 0 f0) 1 (S.2.2.1 1) = mA S 0 f0 from mA_id (mA S 0 f0) 1]; exact hF.many hfq) (fun j t hj => by omega)
  rw [show mA (mA S 0 f0) 1 (S.2.2.1 1) = mA S 0 f0 from mA_id (mA S 0 f0) 1] at key
  exact key
/-- the k-th byte of a word -/
def bx (x : Int32) (k : Nat) : Int32 := (x >>> (iI (24 - 8 * k) &&& 31)) &&& 255
def mTape (S : MS) (T : Nat → Int32) (n : Nat) : Prop := n ≤ 800 ∧ S.1 3 = iI n ∧ ∀ k, k < n → S.2.2.1 2 k = T k
theorem m_four_3 {post : Unit → MS → Prop} {S : MS} {x : Int32} {n : Nat} {f0 : Nat → Int32} (hn : n + 4 ≤ 800) (h : ∀ f : Nat → Int32, (∀ k, k < 4 → f (n + k) = bx x k) → (∀ q, (q < n ∨ n + 4 ≤ q) → f q = f0 q) → post () (mI (mA S 2 f) 3 (iI (n + 4 : Nat)))) : ∀ (m k : Nat) (f : Nat → Int32), k + m = 4 → (∀ z, z < k → f (n + z) = bx x z) → (∀ q, (q < n ∨ n + 4 ≤ q) → f q = f0 q) → wX1_four_3 post (m + 1) x (iI (24 - 8 * (k : Int))) (mI (mA S 2 f) 3 (iI (n + k : Nat))) := by
  intro m
  induction m with
  | zero =>
    intro k f hk h1 h2
    unfold wX1_four_3
    refine b_t (by simp (disch := omega) only [iLit, lLit, iI_add, iI_sub, iI_mul, iI_neg, lI_add, lI_sub, lI_mul, lI_neg, nI_i, lI_i, iI_l, iI_nat, iI_lt, iI_le, iI_eq, lI_lt, lI_le, lI_eq] <;> omega) ?_
    rw [show k = 4 by omega]
    exact h f (fun z hz => h1 z (by omega)) h2
  | succ m ih =>
    intro k f hk h1 h2
    unfold wX1_four_3
    refine b_f (by simp (disch := omega) only [iLit, lLit, iI_add, iI_sub, iI_mul, iI_neg, lI_add, lI_sub, lI_mul, lI_neg, nI_i, lI_i, iI_l, iI_nat, iI_lt, iI_le, iI_eq, lI_lt, lI_le, lI_eq] <;> omega) ?_
    have e3 : (mI (mA S 2 f) 3 (iI (n + k : Nat))).1 3 = iI (n + k : Nat) := mI_at _ _ _
    have e2 : (mI (mA S 2 f) 3 (iI (n + k : Nat))).2.2.1 2 = f := mA_at S 2 f
    rw [e3, e2]
    refine ⟨iI_in (by omega) (by omega) (by omega), ?_⟩
    rw [iI_nat (by omega) (by omega), show (((n + k : Nat) : Int)).toNat = n + k by omega]
    rw [show mI (mA (mI (mA S 2 f) 3 (iI (n + k : Nat))) 2 (upd f (n + k) (x >>> (iI (24 - 8 * (k : Int)) &&& 31) &&& 255))) 3 (iI (n + k : Nat) + 1) = mI (mA S 2 (upd f (n + k) (bx x k))) 3 (iI (n + (k + 1) : Nat)) from by
      have : iI (n + k : Nat) + 1 = iI (n + (k + 1) : Nat) := iI_add _ 1
      rw [this]
      show mI (mI (mA (mA S 2 f) 2 _) 3 _) 3 _ = _
      rw [mI_mI, mA_mA]
      rfl]
    have : iI (24 - 8 * (k : Int)) + (-8 : Int32) = iI (24 - 8 * ((k + 1 : Nat) : Int)) := by
      simp only [iLit, lLit, iI_add, iI_sub, iI_mul, iI_neg, lI_add, lI_sub, lI_mul, lI_neg, nI_i, lI_i]
      congr 1
      omega
    rw [this]
    refine ih (k + 1) _ (by omega) (fun z hz => ?_) (fun q hq => ?_)
    · unfold upd
      by_cases e : z = k
      · rw [if_pos (by omega), e]
      · rw [if_neg (by omega)]; exact h1 z (by omega)
    · unfold upd
      rw [if_neg (by omega)]; exact h2 q hq
theorem m_four {post : Unit → MS → Prop} {S : MS} {T : Nat → Int32} {x : Int32} {n : Nat} (hT : mTape S T n) (hn : n + 4 ≤ 800) (h : ∀ f : Nat → Int32, mTape (mI (mA S 2 f) 3 (iI (n + 4 : Nat))) (fun q => if n ≤ q ∧ q < n + 4 then bx x (q - n) else T q) (n + 4) → post () (mI (mA S 2 f) 3 (iI (n + 4 : Nat)))) : wX1_four post S x := by
  obtain ⟨t1, t2, t3⟩ := hT
  have key := m_four_3 (post := post) (S := S) (x := x) (n := n) (f0 := S.2.2.1 2) hn (fun f a b => h f ⟨hn, mI_at _ _ _, fun k hk => ?_⟩) 4 0 (S.2.2.1 2) (by omega) (fun z hz => by omega) (fun _ _ => rfl)
  · rw [mA_id, show n + 0 = n from rfl, ← t2, mI_id] at key
    exact ⟨5, key⟩
  · show (mA S 2 f).2.2.1 2 k = if n ≤ k ∧ k < n + 4 then bx x (k - n) else T k
    rw [mA_at]
    by_cases e : n ≤ k ∧ k < n + 4
    · rw [if_pos e]
      have := a (k - n) (by omega)
      rw [show n + (k - n) = k by omega] at this
      exact this
    · rw [if_neg e, b k (by omega)]
      exact t3 k (by omega)
/-- twenty bytes more -/
def fdT (T : Nat → Int32) (n : Nat) (w : Nat → Int32) : Nat → Int32 := fun q => if n ≤ q ∧ q < n + 20 then bx (w ((q - n) / 4)) ((q - n) % 4) else T q
theorem mTape.ext {S : MS} {T U : Nat → Int32} {n : Nat} (h : mTape S T n) (e : ∀ k, k < n → T k = U k) : mTape S U n := ⟨h.1, h.2.1, fun k hk => (h.2.2 k hk).trans (e k hk)⟩
theorem mIA2 (S : MS) (f g : Nat → Int32) (a b : Int32) : mI (mA (mI (mA S 2 f) 3 a) 2 g) 3 b = mI (mA S 2 g) 3 b := by
  show mI (mI (mA (mA S 2 f) 2 g) 3 a) 3 b = _
  rw [mI_mI, mA_mA]
theorem m_feed {post : Int32 → MS → Prop} {S : MS} {T : Nat → Int32} {n : Nat} {w : Nat → Int32} (hT : mTape S T n) (h0 : ¬ n + 20 ≤ 800 → post (iI (-1)) S) (h1 : ∀ f : Nat → Int32, n + 20 ≤ 800 → mTape (mI (mA S 2 f) 3 (iI (n + 20 : Nat))) (fdT T n w) (n + 20) → post (iI (n + 20 : Nat)) (mI (mA S 2 f) 3 (iI (n + 20 : Nat)))) : wX1_feed post S (w 0) (w 1) (w 2) (w 3) (w 4) := by
  have t1 := hT.1
  unfold wX1_feed
  rw [hT.2.1]
  simp (disch := omega) only [iLit, lLit, iI_add, iI_sub, iI_mul, iI_neg, lI_add, lI_sub, lI_mul, lI_neg, nI_i, lI_i, iI_le]
  refine ⟨fun e => ?_, fun e => h0 (by omega)⟩
  refine m_four hT (by omega) (fun f1 a1 => m_four a1 (by omega) (fun f2 a2 => ?_))
  rw [mIA2] at a2 ⊢
  refine m_four a2 (by omega) (fun f3 a3 => ?_)
  rw [mIA2] at a3 ⊢
  refine m_four a3 (by omega) (fun f4 a4 => ?_)
  rw [mIA2] at a4 ⊢
  refine m_four a4 (by omega) (fun f5 a5 => ?_)
  rw [mIA2] at a5 ⊢
  rw [show (mI (mA S 2 f5) 3 (iI (n + 4 + 4 + 4 + 4 + 4 : Nat))).1 3 = iI (n + 20 : Nat) from mI_at _ _ _]
  refine h1 f5 (by omega) (a5.ext (fun k hk => ?_))
  unfold fdT
  by_cases c1 : n + 4 + 4 + 4 + 4 ≤ k
  · rw [if_pos (by omega), if_pos (by omega), show (k - n) / 4 = 4 by omega, show (k - n) % 4 = k - (n + 4 + 4 + 4 + 4) by omega]
  · rw [if_neg (by omega)]
    by_cases c2 : n + 4 + 4 + 4 ≤ k
    · rw [if_pos (by omega), if_pos (by omega), show (k - n) / 4 = 3 by omega, show (k - n) % 4 = k - (n + 4 + 4 + 4) by omega]
    · rw [if_neg (by omega)]
      by_cases c3 : n + 4 + 4 ≤ k
      · rw [if_pos (by omega), if_pos (by omega), show (k - n) / 4 = 2 by omega, show (k - n) % 4 = k - (n + 4 + 4) by omega]
      · rw [if_neg (by omega)]
        by_cases c4 : n + 4 ≤ k
        · rw [if_pos (by omega), if_pos (by omega), show (k - n) / 4 = 1 by omega, show (k - n) % 4 = k - (n + 4) by omega]
        · rw [if_neg (by omega)]
          by_cases c5 : n ≤ k
          · rw [if_pos (by omega), if_pos (by omega), show (k - n) / 4 = 0 by omega, show (k - n) % 4 = k - n by omega]
          · rw [if_neg (by omega), if_neg (by omega)]
theorem m_end {post : Int32 → MS → Prop} {S : MS} {T : Nat → Int32} {n : Nat} {k : Int} (hT : mTape S T n) (hk : i32 k) (h0 : ¬ (0 ≤ k ∧ k ≤ n) → post 0 S) (h1 : ∀ j : Nat, k = j → j ≤ n → mTape (mI S 3 (iI j)) T j → post 1 (mI S 3 (iI j))) : wX1_end post S (iI k) := by
  have t1 := hT.1
  unfold wX1_end
  rw [hT.2.1, iI_l hk.1 hk.2, iI_l (by omega) (by omega)]
  refine m_isIn (b := 0) (by omega) (by omega) (by omega) (fun c1 c2 => b_f (by decide) ?_) (fun c => b_t rfl (h0 c))
  obtain ⟨j, rfl⟩ : ∃ j : Nat, k = j := ⟨k.toNat, by omega⟩
  exact h1 j rfl (by omega) ⟨by omega, mI_at _ _ _, fun q hq => hT.2.2 q (by omega)⟩
theorem m_fault {post : Int32 → MS → Prop} {S : MS} {e : Int × Int × Int × Int} {k : Int} (h4 : S.1 4 = iI e.1) (h5 : S.1 5 = iI e.2.1) (h6 : S.1 6 = iI e.2.2.1) (h7 : S.1 7 = iI e.2.2.2) (hk : i32 k) (h : post (iI (if k = 0 then e.1 else if k = 1 then e.2.1 else if k = 2 then e.2.2.1 else if k = 3 then e.2.2.2 else -1)) S) : wX1_fault post S (iI k) := by
  unfold wX1_fault
  simp (disch := omega) only [iLit, lLit, iI_add, iI_sub, iI_mul, iI_neg, lI_add, lI_sub, lI_mul, lI_neg, nI_i, lI_i, iI_eq]
  rw [h4, h5, h6, h7]
  refine ⟨fun c => ?_, fun c => ⟨fun c1 => ?_, fun c1 => ⟨fun c2 => ?_, fun c2 => ⟨fun c3 => ?_, fun c3 => ?_⟩⟩⟩⟩
  · rw [if_pos c] at h; exact h
  · rw [if_neg c, if_pos c1] at h; exact h
  · rw [if_neg c, if_neg c1, if_pos c2] at h; exact h
  · rw [if_neg c, if_neg c1, if_neg c2, if_pos c3] at h; exact h
  · rw [if_neg c, if_neg c1, if_neg c2, if_neg c3] at h; exact h
theorem m_look {post : Int32 → MS → Prop} {S : MS} {F : Nat → List tm} {n l p k : Int} (hF : mForms S F) (h3 : S.1 3 = iI n) (h39 : S.1 39 = iI l) (h37 : S.1 37 = iI p) (hk : i32 k) (h : post (iI (if 0 ≤ k ∧ k ≤ 3 then ((F k.toNat).length : Int) else if k = 4 then n else if k = 5 then l else if k = 6 then p else -1)) S) : wX1_look post S (iI k) := by
  unfold wX1_look
  rw [iI_l hk.1 hk.2]
  refine m_isIn (b := 0) (c := 3) (by omega) (by omega) (by omega) (fun c1 c2 => b_f (by decide) ?_) (fun c => b_t rfl ?_)
  · rw [if_pos ⟨c1, c2⟩] at h
    refine ⟨iI_in (by omega) (by omega) (by omega), ?_⟩
    rw [iI_nat (by omega) (by omega), (hF k.toNat (by omega)).1]
    exact h
  · rw [if_neg c] at h
    simp (disch := omega) only [iLit, lLit, iI_add, iI_sub, iI_mul, iI_neg, lI_add, lI_sub, lI_mul, lI_neg, nI_i, lI_i, iI_eq]
    rw [h3, h39, h37]
    refine ⟨fun c => ?_, fun c => ⟨fun c1 => ?_, fun c1 => ⟨fun c2 => ?_, fun c2 => ?_⟩⟩⟩
    · rw [if_pos c] at h; exact h
    · rw [if_neg c, if_pos c1] at h; exact h
    · rw [if_neg c, if_neg c1, if_pos c2] at h; exact h
    · rw [if_neg c, if_neg c1, if_neg c2] at h; exact h
/-- what is shown -/
def mShown (S : MS) (L : List Int) : Prop := L.length ≤ 3000 ∧ S.1 49 = iI (L.length : Nat) ∧ ∀ (k : Nat) (c : Int), L[k]? = some c → S.2.2.1 48 k = iI c
theorem m_out {post : Int32 → MS → Prop} {S : MS} {L : List Int} {k : Int} (hL : mShown S L) (hk : i32 k) (h : post (iI (if 0 ≤ k then (L[k.toNat]?).getD (-1) else -1)) S) : wX1_out post S (iI k) := by
  obtain ⟨l1, l2, l3⟩ := hL
  unfold wX1_out
  rw [l2, iI_l hk.1 hk.2]
  simp (disch := omega) only [iLit, lLit, iI_add, iI_sub, iI_mul, iI_neg, lI_add, lI_sub, lI_mul, lI_neg, nI_i, lI_i, iI_l]
  refine m_isIn (b := 0) (by omega) (by omega) (by omega) (fun c1 c2 => b_f (by decide) ?_) (fun c => b_t rfl ?_)
  · refine ⟨iI_in (by omega) (by omega) (by omega), ?_⟩
    rw [iI_nat (by omega) (by omega)]
    obtain ⟨v, hv⟩ : ∃ v, L[k.toNat]? = some v := ⟨_, List.getElem?_eq_getElem (by omega)⟩
    rw [l3 _ v hv]
    rw [if_pos c1, hv] at h
    exact h
  · by_cases c1 : 0 ≤ k
    · rw [if_pos c1, List.getElem?_eq_none (by omega)] at h; exact h
    · rw [if_neg c1] at h; exact h
