set_option maxRecDepth 100000
set_option maxHeartbeats 4000000
/-! the model's lexer -/
theorem isD_iff (c : Int) : isD c = true ↔ 48 ≤ c ∧ c ≤ 57 := by unfold isD; simp
theorem isL_iff (c : Int) : isL c = true ↔ 97 ≤ c ∧ c ≤ 122 := by unfold isL; simp
theorem isW_iff (c : Int) : isW c = true ↔ c = 32 ∨ c = 10 := by unfold isW; simp
theorem chr_of {T : Nat → Int} {n q : Nat} {P : Int → Bool} (hP : P (-1) = false) (h : P (chr T n q) = true) : q < n ∧ chr T n q = T q := by
  unfold chr at h ⊢
  by_cases e : q < n
  · exact ⟨e, if_pos e⟩
  · rw [if_neg e, hP] at h; cases h
theorem valE_le {b o : Int} {T : Nat → Int} {p : Nat} (hb : 1 ≤ b) : ∀ k : Nat, (∀ j, j < k → 0 ≤ T (p + j) - o ∧ T (p + j) - o < b) → 0 ≤ valE b o T p k ∧ valE b o T p k < b ^ k
  | 0, _ => by unfold valE; rw [Int.pow_zero]; omega
  | k + 1, h => by
    have h1 := valE_le hb k (fun j hj => h j (by omega))
    have h2 := h k (by omega)
    show 0 ≤ b * valE b o T p k + (T (p + k) - o) ∧ b * valE b o T p k + (T (p + k) - o) < b ^ (k + 1)
    have h3 := Int.mul_nonneg (show 0 ≤ b by omega) h1.1
    have h4 : b * valE b o T p k ≤ b * (b ^ k - 1) := Int.mul_le_mul_of_nonneg_left (by omega) (by omega)
    rw [Int.mul_sub, Int.mul_one] at h4
    rw [Int.pow_succ, Int.mul_comm (b ^ k)]
    omega
theorem m_next_193 {post : Unit → MS → Prop} {S : MS} {T : Nat → Int} {n p e : Nat} (hT : mTp S T n) (hp : p < n) (he : e = runE isD T n (n - p) p) (h : ∀ S', tokEq S S' → S'.1 12 = iI 2 → S'.1 13 = iI p → S'.1 14 = iI e → S'.2.1 15 = lI 0 → S'.1 16 = iI (valE 10 48 T p (min 4 (e - p))) → S'.1 17 = iI 0 → post () S') : ∀ (m q : Nat) (S' : MS), q + m = e → p ≤ q → tokEq S S' → S'.1 12 = iI 2 → S'.1 13 = iI p → S'.1 14 = iI q → S'.2.1 15 = lI 0 → S'.1 16 = iI (valE 10 48 T p (min 4 (q - p))) → S'.1 17 = iI 0 → wX1_next_193 post (m + 1) S' := by
  have hn := hT.1
  have hle := runE_le isD T n (n - p) p
  intro m
  induction m with
  | zero =>
    intro q S' hq hpq t h12 h13 h14 h15 h16 h17
    unfold wX1_next_193
    rw [h14]
    refine m_see (t.tape hT) (by omega) ?_
    have hst := runE_stop isD T n (by decide) (n - p) p (by omega)
    rw [← he, show e = q by omega] at hst
    have hc := chr_in (t.tape hT) q
    have hnd : ¬ (48 ≤ chr T n q ∧ chr T n q ≤ 57) := fun z => by rw [(isD_iff _).mpr z] at hst; cases hst
    rw [iI_l (by omega) (by omega)]
    refine m_isIn (b := 48) (c := 57) (by omega) (by omega) (by omega) (fun c1 c2 => absurd ⟨c1, c2⟩ hnd) (fun c => b_t rfl ?_)
    have : q = e := by omega
    subst this
    exact h S' t h12 h13 h14 h15 h16 h17
  | succ m ih =>
    intro q S' hq hpq t h12 h13 h14 h15 h16 h17
    unfold wX1_next_193 wX1_next_250
    have hal := runE_all isD T n (n - p) p q hpq (by omega)
    obtain ⟨hqn, hcq⟩ := chr_of (by decide) hal
    rw [isD_iff, hcq] at hal
    rw [h14]
    refine m_see (t.tape hT) (by omega) ?_
    rw [hcq, iI_l (by omega) (by omega)]
    refine m_isIn (b := 48) (c := 57) (by omega) (by omega) (by omega) (fun c1 c2 => b_f (by decide) ?_) (fun c => absurd hal c)
    rw [h14, h13]
    simp (disch := omega) only [iLit, lLit, iI_add, iI_sub, iI_mul, iI_neg, lI_add, lI_sub, lI_mul, lI_neg, nI_i, lI_i, iI_le]
    refine ⟨fun e4 => ?_, fun e4 => ?_⟩
    · refine ih (q + 1) _ (by omega) (by omega) (t.I 14 (by omega) _) h12 h13 ?_ h15 ?_ h17
      · exact rfl
      · show S'.1 16 = _
        rw [h16, show min 4 (q + 1 - p) = min 4 (q - p) by omega]
    · refine m_see (t.tape hT) (by omega) ?_
      rw [hcq, h16]
      simp only [iLit, lLit, iI_add, iI_sub, iI_mul, iI_neg, lI_add, lI_sub, lI_mul, lI_neg, nI_i, lI_i]
      refine ih (q + 1) _ (by omega) (by omega) ((t.I 16 (by omega) _).I 14 (by omega) _) h12 h13 ?_ h15 ?_ h17
      · show S'.1 14 + iI 1 = _
        rw [h14, iI_add]; rfl
      · rw [show min 4 (q + 1 - p) = (q - p) + 1 by omega, show min 4 (q - p) = q - p by omega]
        show iI _ = iI (10 * valE 10 48 T p (q - p) + (T (p + (q - p)) - 48))
        rw [show p + (q - p) = q by omega]
        congr 1
        omega
theorem m_next_103 {post : Unit → MS → Prop} {S : MS} {T : Nat → Int} {n p e : Nat} (hT : mTp S T n) (hp : p < n) (he : e = runE isL T n (n - p) p) (h : ∀ S', tokEq S S' → S'.1 12 = iI 1 → S'.1 13 = iI p → S'.1 14 = iI e → S'.2.1 15 = lI (valE 32 96 T p (min 7 (e - p))) → S'.1 16 = iI 0 → S'.1 17 = iI 0 → post () S') : ∀ (m q : Nat) (S' : MS), q + m = e → p ≤ q → tokEq S S' → S'.1 12 = iI 1 → S'.1 13 = iI p → S'.1 14 = iI q → S'.2.1 15 = lI (valE 32 96 T p (min 7 (q - p))) → S'.1 16 = iI 0 → S'.1 17 = iI 0 → wX1_next_103 post (m + 1) S' := by
  have hn := hT.1
  have hle := runE_le isL T n (n - p) p
  intro m
  induction m with
  | zero =>
    intro q S' hq hpq t h12 h13 h14 h15 h16 h17
    unfold wX1_next_103
    rw [h14]
    refine m_see (t.tape hT) (by omega) ?_
    have hst := runE_stop isL T n (by decide) (n - p) p (by omega)
    rw [← he, show e = q by omega] at hst
    have hc := chr_in (t.tape hT) q
    have hnd : ¬ (97 ≤ chr T n q ∧ chr T n q ≤ 122) := fun z => by rw [(isL_iff _).mpr z] at hst; cases hst
    rw [iI_l (by omega) (by omega)]
    refine m_isIn (b := 97) (c := 122) (by omega) (by omega) (by omega) (fun c1 c2 => absurd ⟨c1, c2⟩ hnd) (fun c => b_t rfl ?_)
    have : q = e := by omega
    subst this
    exact h S' t h12 h13 h14 h15 h16 h17
  | succ m ih =>
    intro q S' hq hpq t h12 h13 h14 h15 h16 h17
    unfold wX1_next_103 wX1_next_161
    have hal := runE_all isL T n (n - p) p q hpq (by omega)
    obtain ⟨hqn, hcq⟩ := chr_of (by decide) hal
    rw [isL_iff, hcq] at hal
    have hvl : 0 ≤ valE 32 96 T p (min 7 (q - p)) ∧ valE 32 96 T p (min 7 (q - p)) < 32 ^ (min 7 (q - p)) := valE_le (by omega) _ (fun j hj => by
      have h1 := runE_all isL T n (n - p) p (p + j) (by omega) (by omega)
      obtain ⟨h2, h3⟩ := chr_of (by decide) h1
      rw [isL_iff, h3] at h1
      omega)
    rw [h14]
    refine m_see (t.tape hT) (by omega) ?_
    rw [hcq, iI_l (by omega) (by omega)]
    refine m_isIn (b := 97) (c := 122) (by omega) (by omega) (by omega) (fun c1 c2 => b_f (by decide) ?_) (fun c => absurd hal c)
    rw [h14, h13]
    have hcmp : ((7 : Int32) ≤ iI (q : Int) - iI (p : Int)) ↔ (7 : Int) ≤ (q : Int) - (p : Int) := by simp (disch := omega) only [iLit, lLit, iI_add, iI_sub, iI_mul, iI_neg, lI_add, lI_sub, lI_mul, lI_neg, nI_i, lI_i, iI_le]
    rw [hcmp]
    refine ⟨fun e4 => ?_, fun e4 => ?_⟩
    · refine ih (q + 1) _ (by omega) (by omega) (t.I 14 (by omega) _) h12 h13 ?_ ?_ h16 h17
      · exact iI_add _ 1
      · show S'.2.1 15 = _
        rw [h15, show min 7 (q + 1 - p) = min 7 (q - p) by omega]
    · refine m_see (t.tape hT) (by omega) ?_
      have hpow : (32 : Int) ^ (min 7 (q - p)) ≤ 32 ^ 6 := by
        rcases (show min 7 (q - p) = 0 ∨ min 7 (q - p) = 1 ∨ min 7 (q - p) = 2 ∨ min 7 (q - p) = 3 ∨ min 7 (q - p) = 4 ∨ min 7 (q - p) = 5 ∨ min 7 (q - p) = 6 by omega) with z | z | z | z | z | z | z <;> rw [z] <;> decide
      have hpow2 : (32 : Int) ^ 6 = 1073741824 := by decide
      rw [hcq, h15, show iI (T q) - 96 = iI (T q - 96) from iI_sub _ 96, iI_l (by omega) (by omega), lI_shl_or (by omega) (by omega)]
      refine ih (q + 1) _ (by omega) (by omega) ((t.L 15 _).I 14 (by omega) _) h12 h13 ?_ ?_ h16 h17
      · show S'.1 14 + 1 = _
        rw [h14]; exact iI_add _ 1
      · rw [show min 7 (q + 1 - p) = (q - p) + 1 by omega, show min 7 (q - p) = q - p by omega]
        show lI _ = lI (32 * valE 32 96 T p (q - p) + (T (p + (q - p)) - 96))
        rw [show p + (q - p) = q by omega]
theorem m_next_0 {post : Unit → MS → Prop} {S : MS} {T : Nat → Int} {n e : Nat} (hT : mTp S T n) (q0 : Nat) (he : e = sk T n q0) (hq0 : q0 ≤ n) (h : ∀ S', tokEq S S' → mTok S' T n e → post () S') : ∀ (m q : Nat) (S' : MS), q + m = e → q0 ≤ q → tokEq S S' → S'.1 14 = iI q → wX1_next_0 post (m + 1) S' := by
  have hn := hT.1
  have hle := sk_le (T := T) hq0
  intro m
  induction m with
  | zero =>
    intro q S' hq hqq t h14
    have hqe : q = e := by omega
    unfold wX1_next_0
    rw [h14]
    have hst := runE_stop isW T n (by decide) (n - q0) q0 (by omega)
    rw [show runE isW T n (n - q0) q0 = q from he.symm.trans hqe.symm] at hst
    have hc := chr_in (t.tape hT) q
    have hnw : ¬ (chr T n q = 32 ∨ chr T n q = 10) := fun z => by rw [(isW_iff _).mpr z] at hst; cases hst
    refine m_see (t.tape hT) (by omega) (b_f (by simp (disch := omega) only [iLit, lLit, iI_add, iI_sub, iI_mul, iI_neg, lI_add, lI_sub, lI_mul, lI_neg, nI_i, lI_i, iI_l, iI_nat, iI_lt, iI_le, iI_eq, lI_lt, lI_le, lI_eq] <;> omega) ?_)
    rw [h14]
    refine m_see (t.tape hT) (by omega) (b_f (by simp (disch := omega) only [iLit, lLit, iI_add, iI_sub, iI_mul, iI_neg, lI_add, lI_sub, lI_mul, lI_neg, nI_i, lI_i, iI_l, iI_nat, iI_lt, iI_le, iI_eq, lI_lt, lI_le, lI_eq] <;> omega) ?_)
    rw [h14]
    have t2 := t.I 13 (by omega) (iI q)
    refine m_see (t2.tape hT) (by omega) ?_
    rw [← hqe] at h
    by_cases hend : n ≤ q
    · have hch : chr T n q = -1 := by unfold chr; rw [if_neg (by omega)]
      rw [hch]
      refine b_t (by decide) (h _ ((((t2.L 15 _).I 16 (by omega) _).I 17 (by omega) _).I 12 (by omega) _) ?_)
      have e1 : srt T n q = 0 := by unfold srt; rw [if_pos hend]
      refine ⟨?_, ?_, ?_, ?_, ?_, ?_⟩
      · rw [e1]; exact rfl
      · exact rfl
      · unfold ende; rw [if_pos hend]; exact h14
      · unfold wrdV; rw [e1]; exact rfl
      · unfold numV; rw [e1]; exact rfl
      · unfold sgnV; rw [e1]; exact rfl
    · have hch : chr T n q = T q := by unfold chr; rw [if_pos (by omega)]
      have hTq := (hT.2.2 q (by omega)).2
      rw [hch] at hnw ⊢
      refine b_f (by simp (disch := omega) only [iLit, lLit, iI_add, iI_sub, iI_mul, iI_neg, lI_add, lI_sub, lI_mul, lI_neg, nI_i, lI_i, iI_l, iI_nat, iI_lt, iI_le, iI_eq, lI_lt, lI_le, lI_eq] <;> omega) ?_
      rw [iI_l (by omega) (by omega)]
      refine m_isIn (b := 97) (c := 122) (by omega) (by omega) (by omega) (fun c1 c2 => b_f (by decide) ?_) (fun c => b_t rfl ?_)
      · have hL : isL (T q) = true := (isL_iff _).mpr ⟨c1, c2⟩
        have e1 : srt T n q = 1 := by unfold srt; rw [if_neg hend, if_pos hL]
        have e2 : ende T n q = runE isL T n (n - q) q := by unfold ende; rw [if_neg hend, if_pos hL]
        have hle2 := runE_le isL T n (n - q) q
        refine ⟨ende T n q - q + 1, m_next_103 (p := q) hT (by omega) e2 (fun S' t' h12 h13 h14 h15 h16 h17 => h S' t' ⟨by rw [e1]; exact h12, h13, h14, ?_, ?_, ?_⟩) (ende T n q - q) q _ (by omega) (Nat.le_refl _) ((((t2.L 15 _).I 16 (by omega) _).I 17 (by omega) _).I 12 (by omega) _) rfl rfl h14 ?_ rfl rfl⟩
        · unfold wrdV; rw [if_pos e1]; exact h15
        · unfold numV; rw [e1]; exact h16
        · unfold sgnV; rw [e1]; exact h17
        · rw [show min 7 (q - q) = 0 by omega]; exact rfl
      · have hL : isL (T q) = false := Bool.eq_false_iff.mpr (fun z => c ((isL_iff _).mp z))
        refine m_isIn (b := 48) (c := 57) (by omega) (by omega) (by omega) (fun c1 c2 => b_f (by decide) ?_) (fun c3 => b_t rfl ?_)
        · have hD : isD (T q) = true := (isD_iff _).mpr ⟨c1, c2⟩
          have e1 : srt T n q = 2 := by unfold srt; rw [if_neg hend, hL, if_neg (by decide), if_pos hD]
          have e2 : ende T n q = runE isD T n (n - q) q := by unfold ende; rw [if_neg hend, hL, if_neg (by decide), if_pos hD]
          have hle2 := runE_le isD T n (n - q) q
          refine ⟨ende T n q - q + 1, m_next_193 (p := q) hT (by omega) e2 (fun S' t' h12 h13 h14 h15 h16 h17 => h S' t' ⟨by rw [e1]; exact h12, h13, h14, ?_, ?_, ?_⟩) (ende T n q - q) q _ (by omega) (Nat.le_refl _) ((((t2.L 15 _).I 16 (by omega) _).I 17 (by omega) _).I 12 (by omega) _) rfl rfl h14 rfl ?_ rfl⟩
          · unfold wrdV; rw [e1]; exact h15
          · unfold numV; rw [if_pos e1]; exact h16
          · unfold sgnV; rw [e1]; exact h17
          · rw [show min 4 (q - q) = 0 by omega]; exact rfl
        · have hD : isD (T q) = false := Bool.eq_false_iff.mpr (fun z => c3 ((isD_iff _).mp z))
          have e1 : srt T n q = 3 := by unfold srt; rw [if_neg hend, hL, if_neg (by decide), hD, if_neg (by decide)]
          refine h _ ((((((t2.L 15 _).I 16 (by omega) _).I 17 (by omega) _).I 12 (by omega) _).I 17 (by omega) _).I 14 (by omega) _) ⟨?_, ?_, ?_, ?_, ?_, ?_⟩
          · rw [e1]; exact rfl
          · exact rfl
          · have : ende T n q = q + 1 := by unfold ende; rw [if_neg hend, hL, if_neg (by decide), hD, if_neg (by decide)]
            rw [this]
            show S'.1 14 + 1 = _
            rw [h14]; exact iI_add _ 1
          · unfold wrdV; rw [e1]; exact rfl
          · unfold numV; rw [e1]; exact rfl
          · unfold sgnV; rw [if_pos e1]; exact rfl
  | succ m ih =>
    intro q S' hq hqq t h14
    unfold wX1_next_0 wX1_next_26
    rw [h14]
    have hal := runE_all isW T n (n - q0) q0 q hqq (by unfold sk at he; omega)
    rw [isW_iff] at hal
    have hc := chr_in (t.tape hT) q
    have key : wX1_next_0 post (m + 1) (mI S' 14 (S'.1 14 + 1)) := by
      refine ih (q + 1) _ (by omega) (by omega) (t.I 14 (by omega) _) ?_
      show S'.1 14 + 1 = _
      rw [h14]; exact iI_add _ 1
    refine m_see (t.tape hT) (by omega) ?_
    simp (disch := omega) only [iLit, lLit, iI_add, iI_sub, iI_mul, iI_neg, lI_add, lI_sub, lI_mul, lI_neg, nI_i, lI_i, iI_eq] at key ⊢
    refine ⟨fun _ => key, fun e => ?_⟩
    rw [h14]
    refine m_see (t.tape hT) (by omega) ?_
    simp (disch := omega) only [iLit, lLit, iI_add, iI_sub, iI_mul, iI_neg, lI_add, lI_sub, lI_mul, lI_neg, nI_i, lI_i, iI_eq]
    exact b_t (by omega) key
theorem m_next {post : Unit → MS → Prop} {S : MS} {T : Nat → Int} {n q : Nat} (hT : mTp S T n) (hq : q ≤ n) (h14 : S.1 14 = iI q) (h : ∀ S', tokEq S S' → mTok S' T n (sk T n q) → post () S') : wX1_next post S := by
  have := sk_le (T := T) hq
  exact ⟨_, m_next_0 hT q rfl hq h (sk T n q - q) q S (by omega) (Nat.le_refl _) (tokEq.rfl' S) h14⟩
