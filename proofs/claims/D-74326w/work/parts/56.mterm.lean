set_option maxRecDepth 100000
set_option maxHeartbeats 4000000
/-! a term is read: plain, and the model's reading -/
def kdAt (T : Nat → Int) (n p : Nat) : Int := if wdIs T n p 0 then 0 else if wdIs T n p 1 then 1 else if wdIs T n p 2 then 2 else if wdIs T n p 3 then 3 else if wdIs T n p 4 then 4 else -1
def nxT (T : Nat → Int) (n p : Nat) : Nat := sk T n (ende T n p)
def whA (T : Nat → Int) (n p : Nat) : Nat := if sgIs T n p 45 then sk T n (p + 1) else p
def whV (T : Nat → Int) (n p : Nat) : Int := if sgIs T n p 45 then -numV T n (whA T n p) else numV T n (whA T n p)
def gtR (f k : Int) : Nat → Int → Int
  | 0, x => x
  | m + 1, x => if 3000 < f * kV k (x + 1) then x else gtR f k m (x + 1)
def gtS (f k : Int) : Int := gtR f k 3001 0
/-- a term's bounds -/
def tmC (T : Nat → Int) (n : Nat) (f k : Int) (p3 : Nat) : (Int × Nat) ⊕ (tm × Nat) :=
  if ¬ isNb T n (whA T n p3) then .inl (1, whA T n p3)
  else if ¬ (-3000 ≤ f * kV k (whV T n p3) ∧ f * kV k (whV T n p3) ≤ 3000) then .inl (3, whA T n p3)
  else if ¬ wdIs T n (nxT T n (whA T n p3)) 10 then .inl (1, nxT T n (whA T n p3))
  else if ¬ isNb T n (whA T n (nxT T n (nxT T n (whA T n p3)))) then .inl (1, whA T n (nxT T n (nxT T n (whA T n p3))))
  else if whV T n (nxT T n (nxT T n (whA T n p3))) < whV T n p3 ∨ ¬ (-3000 ≤ f * kV k (whV T n (nxT T n (nxT T n (whA T n p3)))) ∧ f * kV k (whV T n (nxT T n (nxT T n (whA T n p3)))) ≤ 3000) then .inl (3, whA T n (nxT T n (nxT T n (whA T n p3))))
  else .inr ((f, k, whV T n p3, whV T n (nxT T n (nxT T n (whA T n p3)))), nxT T n (whA T n (nxT T n (nxT T n (whA T n p3)))))
def tmB (T : Nat → Int) (n : Nat) (f : Int) (p1 : Nat) : (Int × Nat) ⊕ (tm × Nat) :=
  if kdAt T n p1 = -1 then .inl (1, p1)
  else if ¬ wdIs T n (nxT T n p1) 9 then .inr ((f, kdAt T n p1, 0, gtS f (kdAt T n p1)), nxT T n p1)
  else tmC T n f (kdAt T n p1) (nxT T n (nxT T n p1))
/-- a term from p on, of a form that has i: a fault and its place, or the term and the place behind it -/
def tmRd (T : Nat → Int) (n p i : Nat) : (Int × Nat) ⊕ (tm × Nat) :=
  if ¬ (isNb T n p ∨ kdAt T n p ≠ -1) then .inl (1, p)
  else if isNb T n p ∧ ¬ (1 ≤ numV T n p ∧ numV T n p ≤ 99) then .inl (2, p)
  else if i = 5 then .inl (4, p)
  else tmB T n (if isNb T n p then numV T n p else 1) (if isNb T n p then nxT T n p else p)
theorem nxT_le {T : Nat → Int} {n p : Nat} (h : p ≤ n) : p ≤ nxT T n p ∧ nxT T n p ≤ n := by
  have h1 := ende_in (T := T) h
  have h2 := sk_le (T := T) (n := n) (p := ende T n p) h1.2.1
  unfold nxT; omega
theorem sg_lt {T : Nat → Int} {n p : Nat} {c : Int} (h : sgIs T n p c) : p < n := by have := h.1; unfold srt at this; split at this <;> omega
theorem whA_le {T : Nat → Int} {n p : Nat} (h : p ≤ n) : p ≤ whA T n p ∧ whA T n p ≤ n := by
  unfold whA
  split
  · rename_i e
    have := sg_lt e
    have h2 := sk_le (T := T) (n := n) (p := p + 1) (by omega)
    omega
  · omega
theorem numV_in {T : Nat → Int} {n p : Nat} : 0 ≤ numV T n p ∧ numV T n p < 10000 := by
  unfold numV
  split
  · rename_i e
    have hv := valE_le (b := 10) (o := 48) (T := T) (p := p) (by omega) (min 4 (ende T n p - p)) (fun j hj => by
      unfold srt at e
      split at e
      · omega
      · rename_i hp
        split at e
        · omega
        · rename_i hL
          split at e
          · rename_i hD
            have he : ende T n p = runE isD T n (n - p) p := by unfold ende; rw [if_neg hp, if_neg hL, if_pos hD]
            have h1 := runE_all isD T n (n - p) p (p + j) (by omega) (by omega)
            obtain ⟨h2, h3⟩ := chr_of (by decide) h1
            rw [isD_iff, h3] at h1
            omega
          · omega)
    have hpow : (10 : Int) ^ (min 4 (ende T n p - p)) ≤ 10000 := by
      rcases (show min 4 (ende T n p - p) = 0 ∨ min 4 (ende T n p - p) = 1 ∨ min 4 (ende T n p - p) = 2 ∨ min 4 (ende T n p - p) = 3 ∨ min 4 (ende T n p - p) = 4 by omega) with z | z | z | z | z <;> rw [z] <;> decide
    omega
  · omega
theorem whV_in {T : Nat → Int} {n p : Nat} : -10000 < whV T n p ∧ whV T n p < 10000 := by
  have := numV_in (T := T) (n := n) (p := whA T n p)
  unfold whV
  split <;> omega
theorem kdAt_in (T : Nat → Int) (n p : Nat) : -1 ≤ kdAt T n p ∧ kdAt T n p ≤ 4 := by
  unfold kdAt
  split
  · omega
  split
  · omega
  split
  · omega
  split
  · omega
  split <;> omega
theorem kdAt_w {T : Nat → Int} {n p : Nat} (h : kdAt T n p ≠ -1) : srt T n p = 1 := by
  unfold kdAt at h
  split at h
  · rename_i e; exact e.1
  split at h
  · rename_i e; exact e.1
  split at h
  · rename_i e; exact e.1
  split at h
  · rename_i e; exact e.1
  split at h
  · rename_i e; exact e.1
  · exact absurd rfl h
theorem m_kindHere {post : Int32 → MS → Prop} {S : MS} {T : Nat → Int} {n p : Nat} (hk : mTok S T n p) (hn : n ≤ 800) (hp : p ≤ n) (h : post (iI (kdAt T n p)) S) : wX1_kindHere post S := by
  unfold kdAt at h
  unfold wX1_kindHere
  have w : ∀ t, t ∈ [0, 1, 2, 3, 4, 9, 10, 11] → sWd t := sWd_ok
  refine m_isWord hk hn hp (w 0 (by decide)) (fun e => b_f (by decide) (by rw [if_pos e] at h; exact h)) (fun e0 => b_t rfl ?_)
  rw [if_neg e0] at h
  refine m_isWord hk hn hp (w 1 (by decide)) (fun e => b_f (by decide) (by rw [if_pos e] at h; exact h)) (fun e1 => b_t rfl ?_)
  rw [if_neg e1] at h
  refine m_isWord hk hn hp (w 2 (by decide)) (fun e => b_f (by decide) (by rw [if_pos e] at h; exact h)) (fun e2 => b_t rfl ?_)
  rw [if_neg e2] at h
  refine m_isWord hk hn hp (w 3 (by decide)) (fun e => b_f (by decide) (by rw [if_pos e] at h; exact h)) (fun e3 => b_t rfl ?_)
  rw [if_neg e3] at h
  exact m_isWord hk hn hp (w 4 (by decide)) (fun e => b_f (by decide) (by rw [if_pos e] at h; exact h)) (fun e4 => b_t rfl (by rw [if_neg e4] at h; exact h))
/-- what reading may change: tokens, faults, the form behind the slots -/
def rdEq (S S' : MS) : Prop := S'.2.2.2 = S.2.2.2 ∧ (∀ k, (k < 8 ∨ 20 < k) → S'.1 k = S.1 k) ∧ (∀ k, 2 ≤ k → S'.2.2.1 k = S.2.2.1 k) ∧ (∀ q, q < 4 → S'.2.2.1 0 q = S.2.2.1 0 q) ∧ ∀ q, q < 80 → S'.2.2.1 1 q = S.2.2.1 1 q
theorem rdEq.refl (S : MS) : rdEq S S := ⟨rfl, fun _ _ => rfl, fun _ _ => rfl, fun _ _ => rfl, fun _ _ => rfl⟩
theorem rdEq.trans {S S' S'' : MS} (h : rdEq S S') (g : rdEq S' S'') : rdEq S S'' := ⟨g.1.trans h.1, fun k hk => (g.2.1 k hk).trans (h.2.1 k hk), fun k hk => (g.2.2.1 k hk).trans (h.2.2.1 k hk), fun k hk => (g.2.2.2.1 k hk).trans (h.2.2.2.1 k hk), fun k hk => (g.2.2.2.2 k hk).trans (h.2.2.2.2 k hk)⟩
theorem tokEq.rd {S S' : MS} (h : tokEq S S') : rdEq S S' := ⟨by rw [h.1], fun k hk => h.2 k (by omega), fun k _ => by rw [h.1], fun k _ => by rw [h.1], fun k _ => by rw [h.1]⟩
theorem rdEq.I {S S' : MS} (h : rdEq S S') (k : Nat) (hk : 8 ≤ k ∧ k ≤ 20) (v : Int32) : rdEq S (mI S' k v) := ⟨h.1, fun j hj => by
  show va_up S'.1 k v j = _
  rw [up_ne _ _ _ (by omega)]; exact h.2.1 j hj, h.2.2.1, h.2.2.2.1, h.2.2.2.2⟩
theorem rdEq.A1 {S S' : MS} (h : rdEq S S') (f : Nat → Int32) (hf : ∀ q, q < 80 → f q = S'.2.2.1 1 q) : rdEq S (mA S' 1 f) := ⟨h.1, h.2.1, fun k hk => by
  show va_up S'.2.2.1 1 f k = _
  rw [up_ne _ _ _ (by omega)]; exact h.2.2.1 k hk, fun q hq => h.2.2.2.1 q hq, fun q hq => by rw [mA_at, hf q hq]; exact h.2.2.2.2 q hq⟩
theorem rdEq.A0 {S S' : MS} (h : rdEq S S') (f : Nat → Int32) (hf : ∀ q, q < 4 → f q = S'.2.2.1 0 q) : rdEq S (mA S' 0 f) := ⟨h.1, h.2.1, fun k hk => by
  show va_up S'.2.2.1 0 f k = _
  rw [up_ne _ _ _ (by omega)]; exact h.2.2.1 k hk, fun q hq => by rw [mA_at, hf q hq]; exact h.2.2.2.1 q hq, fun q hq => h.2.2.2.2 q hq⟩
theorem rdEq.tape {S S' : MS} {T : Nat → Int} {n : Nat} (h : rdEq S S') (hT : mTp S T n) : mTp S' T n := ⟨hT.1, by rw [h.2.1 3 (by omega)]; exact hT.2.1, fun k hk => by rw [h.2.2.1 2 (by omega)]; exact hT.2.2 k hk⟩
theorem rdEq.bad {S S' : MS} (h : rdEq S S') (k p o i : Int) : rdEq S (badS S' k p o i) := (((h.I 8 (by omega) _).I 9 (by omega) _).I 10 (by omega) _).I 11 (by omega) _
theorem badS_bad (S : MS) (k p o i : Int) : mBad (badS S k p o i) k p o i := ⟨rfl, rfl, rfl, rfl⟩
/-- reading is going on: no fault yet, where a fault would lie -/
def going (S : MS) (o i : Int) : Prop := S.1 8 = iI 0 ∧ S.1 18 = iI o ∧ S.1 19 = iI i ∧ S.1 9 = iI (-1) ∧ S.1 10 = iI (-1) ∧ S.1 11 = iI (-1)
theorem tokEq.going {S S' : MS} {o i : Int} (h : tokEq S S') (g : going S o i) : going S' o i := ⟨by rw [h.2 8 (by omega)]; exact g.1, by rw [h.2 18 (by omega)]; exact g.2.1, by rw [h.2 19 (by omega)]; exact g.2.2.1, by rw [h.2 9 (by omega)]; exact g.2.2.2.1, by rw [h.2 10 (by omega)]; exact g.2.2.2.2.1, by rw [h.2 11 (by omega)]; exact g.2.2.2.2.2⟩
/-- next, from a token to the one behind it -/
theorem m_nextT {post : Unit → MS → Prop} {S : MS} {T : Nat → Int} {n p : Nat} (hT : mTp S T n) (hp : p ≤ n) (hk : mTok S T n p) (h : ∀ S', tokEq S S' → mTok S' T n (nxT T n p) → post () S') : wX1_next post S := m_next hT (ende_in (T := T) hp).2.1 hk.2.2.1 h
theorem m_comes {post : Int32 → MS → Prop} {S : MS} {T : Nat → Int} {n p : Nat} {o i : Int} (hT : mTp S T n) (hp : p ≤ n) (hk : mTok S T n p) (hg : going S o i) (h1 : ∀ S' : MS, isNb T n (whA T n p) → mTok S' T n (whA T n p) → going S' o i → rdEq S S' → S'.2.2 = S.2.2 → S'.1 20 = iI (if sgIs T n p 45 then 1 else 0) → post 1 S') (h0 : ∀ S' : MS, ¬ isNb T n (whA T n p) → mBad S' 1 (whA T n p) o i → rdEq S S' → post 0 S') : wX1_comesToWhole post S := by
  have hn := hT.1
  have fin : ∀ S' : MS, mTok S' T n (whA T n p) → going S' o i → rdEq S S' → S'.2.2 = S.2.2 → S'.1 20 = iI (if sgIs T n p 45 then 1 else 0) → wX1_comesToWhole_21 post S' := by
    intro S' a b c d e
    unfold wX1_comesToWhole_21 wX1_comesToWhole_36
    refine m_isNumber a hn (whA_le hp).2 (fun z => b_f (by decide) (h1 S' z a b c d e)) (fun z => b_t rfl ?_)
    exact m_fails (k := 1) b.1 a.2.1 b.2.1 b.2.2.1 (b_t rfl (h0 _ z (badS_bad _ _ _ _ _) (c.bad _ _ _ _)))
  unfold wX1_comesToWhole
  refine m_isSign (c := 45) hk hT (by omega) (fun e => ⟨isB_1, b_f (by decide) ?_⟩) (fun e => ⟨isB_0, b_t rfl (fin _ ?_ ?_ ?_ rfl ?_)⟩)
  · have hpn := sg_lt e
    have hend : ende T n p = p + 1 := by
      have e1 := e.1
      unfold srt at e1
      unfold ende
      split at e1
      · omega
      · rename_i q1
        split at e1
        · omega
        · rename_i q2
          split at e1
          · omega
          · rename_i q3
            rw [if_neg q1, if_neg q2, if_neg q3]
    have hrd : rdEq S (mI S 20 1) := (rdEq.refl S).I 20 (by omega) _
    refine m_next (S := mI S 20 1) (q := p + 1) (hrd.tape hT) (by omega) (by show S.1 14 = _; rw [hk.2.2.1, hend]) (fun S' t k => fin S' ?_ ?_ (hrd.trans t.rd) ?_ ?_)
    · unfold whA; rw [if_pos e]; exact k
    · exact t.going hg
    · rw [t.1]; rfl
    · rw [t.2 20 (by omega), if_pos e]; rfl
  · unfold whA; rw [if_neg e]; exact hk
  · exact hg
  · exact (rdEq.refl S).I 20 (by omega) _
  · rw [if_neg e]; rfl
theorem m_wholeV {post : Int32 → MS → Prop} {S : MS} {T : Nat → Int} {n p : Nat} (hk : mTok S T n (whA T n p)) (h20 : S.1 20 = iI (if sgIs T n p 45 then 1 else 0)) (h : post (iI (whV T n p)) S) : wX1_whole post S := by
  unfold wX1_whole
  rw [h20, hk.2.2.2.2.1]
  unfold whV at h
  by_cases e : sgIs T n p 45
  · rw [if_pos e]
    rw [if_pos e] at h
    exact b_f (by decide) (by rw [iI_neg]; exact h)
  · rw [if_neg e]
    rw [if_neg e] at h
    exact b_t rfl h
theorem kV_ge {k x : Int} (h : 0 ≤ x) : x ≤ kV k x := by
  have h2 : x ≤ x * x := by
    rcases (show x = 0 ∨ 1 ≤ x by omega) with e | e
    · rw [e]; omega
    · have := Int.mul_le_mul_of_nonneg_right e h; omega
  have n2 := Int.mul_nonneg h h
  have h3 : x * x ≤ x * x * x := by
    rcases (show x = 0 ∨ 1 ≤ x by omega) with e | e
    · rw [e]; omega
    · have := Int.mul_le_mul_of_nonneg_left e n2; omega
  have n3 := Int.mul_nonneg n2 h
  have h4 : x * x * x ≤ x * x * x * x := by
    rcases (show x = 0 ∨ 1 ≤ x by omega) with e | e
    · rw [e]; omega
    · have := Int.mul_le_mul_of_nonneg_left e n3; omega
  have h5 : 2 * x ≤ x * (x + 1) := by rw [Int.mul_add, Int.mul_one]; omega
  unfold kV
  split
  · omega
  split
  · omega
  split
  · omega
  split
  · omega
  · omega
theorem m_greatest_2 {post : Int32 → Prop} {f k : Int} (hf : 1 ≤ f ∧ f ≤ 99) (hk : 0 ≤ k ∧ k ≤ 4) : ∀ (m : Nat) (x : Int), 0 ≤ x → x + m = 3000 → post (iI (gtR f k (m + 1) x)) → wX1_greatest_2 post (m + 1) (iI f) (iI k) (iI x) := by
  have step : ∀ (m : Nat) (x : Int), 0 ≤ x → x ≤ 3000 → (3000 < f * kV k (x + 1) → post (iI x)) → (¬ 3000 < f * kV k (x + 1) → wX1_greatest_2 post m (iI f) (iI k) (iI (x + 1))) → wX1_greatest_2 post (m + 1) (iI f) (iI k) (iI x) := by
    intro m x hx hm h1 h2
    unfold wX1_greatest_2
    simp (disch := omega) only [iLit, lLit, iI_add, iI_sub, iI_mul, iI_neg, lI_add, lI_sub, lI_mul, lI_neg, nI_i, lI_i, iI_l]
    refine m_plain hk.1 hk.2 (by omega) (by omega) ?_
    have hb := kV_le4 (k := k) (x := x + 1) (by omega) (by omega)
    have hb2 := abs_mul_le (show -99 ≤ f by omega) hf.2 hb.1 hb.2
    rw [lI_mul, lI_lt (by omega) (by omega) (by omega) (by omega)]
    exact ⟨h1, h2⟩
  intro m
  induction m with
  | zero =>
    intro x hx hm h
    refine step 0 x hx (by omega) (fun e => ?_) (fun e => absurd ?_ e)
    · unfold gtR at h; rw [if_pos e] at h; exact h
    · have h1 := kV_ge (k := k) (x := x + 1) (by omega)
      have h2 := Int.mul_le_mul_of_nonneg_right hf.1 (show 0 ≤ kV k (x + 1) by omega)
      omega
  | succ m ih =>
    intro x hx hm h
    unfold gtR at h
    refine step (m + 1) x hx (by omega) (fun e => ?_) (fun e => ?_)
    · rw [if_pos e] at h; exact h
    · rw [if_neg e] at h
      exact ih (x + 1) (by omega) (by omega) h
theorem m_greatest {post : Int32 → Prop} {f k : Int} (hf : 1 ≤ f ∧ f ≤ 99) (hk : 0 ≤ k ∧ k ≤ 4) (h : post (iI (gtS f k))) : wX1_greatest post (iI f) (iI k) := ⟨3001, m_greatest_2 hf hk 3000 0 (by omega) (by omega) h⟩
theorem gtR_in (f k : Int) : ∀ (m : Nat) (x : Int), x ≤ gtR f k m x ∧ gtR f k m x ≤ x + m
  | 0, x => by unfold gtR; omega
  | m + 1, x => by
    unfold gtR
    split
    · omega
    · have := gtR_in f k m (x + 1); omega
theorem m_isSmall {post : Int32 → Prop} {v : Int} (hv : i64 v) (h1 : -3000 ≤ v → v ≤ 3000 → post 1) (h0 : ¬ (-3000 ≤ v ∧ v ≤ 3000) → post 0) : wX1_isSmall post (lI v) := by
  unfold wX1_isSmall
  show wX1_isIn (fun r1 => isB r1 ∧ post r1) (lI v) (lI (-3000)) (lI 3000)
  exact m_isIn hv (by omega) (by omega) (fun a b => ⟨isB_1, h1 a b⟩) (fun a => ⟨isB_0, h0 a⟩)
/-- the value of the term that is being read -/
theorem m_valueRd {post : Int64 → MS → Prop} {S : MS} {i : Nat} {f k x : Int} (hi : i < 5) (hf : 1 ≤ f ∧ f ≤ 99) (hk : 0 ≤ k ∧ k ≤ 4) (e1 : S.2.2.1 1 (4 * (5 * 4 + i)) = iI f) (e2 : S.2.2.1 1 (4 * (5 * 4 + i) + 1) = iI k) (h1 : -20000 ≤ x) (h2 : x ≤ 20000) (h : post (lI (f * kV k x)) S) : wX1_valueOf post S (iI 4) (iI i) (lI x) := by
  unfold wX1_valueOf
  refine m_of (s := 4) (k := 0) (by omega) hi (by omega) (m_of (s := 4) (k := 1) (by omega) hi (by omega) ?_)
  rw [e2]
  refine m_plain hk.1 hk.2 h1 h2 ?_
  rw [show 4 * (5 * 4 + i) + 0 = 4 * (5 * 4 + i) from rfl, e1, iI_l (by omega) (by omega), lI_mul]
  exact h
