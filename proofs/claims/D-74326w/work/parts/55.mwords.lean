set_option maxRecDepth 100000
set_option maxHeartbeats 4000000
/-! words, signs, numbers as the model sees them -/
theorem valE_inj {b o : Int} {T U : Nat → Int} {p q : Nat} (hb : 1 ≤ b) : ∀ k : Nat, (∀ j, j < k → 0 ≤ T (p + j) - o ∧ T (p + j) - o < b) → (∀ j, j < k → 0 ≤ U (q + j) - o ∧ U (q + j) - o < b) → valE b o T p k = valE b o U q k → ∀ j, j < k → T (p + j) = U (q + j)
  | 0, _, _, _, j, hj => by omega
  | k + 1, h1, h2, e, j, hj => by
    have a1 := h1 k (by omega)
    have a2 := h2 k (by omega)
    have e' : b * valE b o T p k + (T (p + k) - o) = b * valE b o U q k + (U (q + k) - o) := e
    have e2 : valE b o T p k = valE b o U q k := by
      have m1 : (b * valE b o T p k + (T (p + k) - o)) / b = valE b o T p k := by rw [Int.add_comm, Int.add_mul_ediv_left _ _ (by omega), Int.ediv_eq_zero_of_lt a1.1 a1.2, Int.zero_add]
      have m2 : (b * valE b o U q k + (U (q + k) - o)) / b = valE b o U q k := by rw [Int.add_comm, Int.add_mul_ediv_left _ _ (by omega), Int.ediv_eq_zero_of_lt a2.1 a2.2, Int.zero_add]
      rw [← m1, e', m2]
    by_cases c : j = k
    · subst c; rw [e2] at e'; omega
    · exact valE_inj hb k (fun j hj => h1 j (by omega)) (fun j hj => h2 j (by omega)) e2 j (by omega)
theorem valE_congr {b o : Int} {T U : Nat → Int} {p q : Nat} : ∀ k : Nat, (∀ j, j < k → T (p + j) = U (q + j)) → valE b o T p k = valE b o U q k
  | 0, _ => rfl
  | k + 1, h => by
    show b * valE b o T p k + (T (p + k) - o) = b * valE b o U q k + (U (q + k) - o)
    rw [valE_congr k (fun j hj => h j (by omega)), h k (by omega)]
/-- a constant text's letters -/
def sC (t j : Nat) : Int := ((sByt.getD t []).getD j 0).toInt
def sWd (t : Nat) : Prop := t < 12 ∧ sLen.getD t 0 ≤ 6 ∧ ∀ j, j < sLen.getD t 0 → 97 ≤ sC t j ∧ sC t j ≤ 122 ∧ sCh t j = iI (sC t j)
theorem sWd_ok : ∀ t : Nat, t ∈ [0, 1, 2, 3, 4, 9, 10, 11] → sWd t := by
  intro t ht
  simp only [List.mem_cons, List.not_mem_nil, or_false] at ht
  rcases ht with e | e | e | e | e | e | e | e <;> subst e <;> refine ⟨by decide, by decide, ?_⟩ <;> intro j hj <;> (have hj' : j < 6 := Nat.lt_of_lt_of_le hj (by decide)) <;> rcases (show j = 0 ∨ j = 1 ∨ j = 2 ∨ j = 3 ∨ j = 4 ∨ j = 5 by omega) with e | e | e | e | e | e <;> subst e <;> first | decide | exact absurd hj (by decide)
theorem m_packed_4 {post : Int64 → Prop} {t : Nat} (ht : sWd t) (h : post (lI (valE 32 96 (sC t) 0 (sLen.getD t 0)))) : ∀ (m k : Nat), k + m = sLen.getD t 0 → wX1_packed_4 post (m + 1) t (lI (valE 32 96 (sC t) 0 k)) (iI k) := by
  obtain ⟨h1, h2, h3⟩ := ht
  intro m
  induction m with
  | zero =>
    intro k hk
    unfold wX1_packed_4
    refine ⟨h1, ?_⟩
    rw [nI_i]
    refine b_t (by simp (disch := omega) only [iLit, lLit, iI_add, iI_sub, iI_mul, iI_neg, lI_add, lI_sub, lI_mul, lI_neg, nI_i, lI_i, iI_l, iI_nat, iI_lt, iI_le, iI_eq, lI_lt, lI_le, lI_eq] <;> omega) ?_
    rw [show k = sLen.getD t 0 by omega]; exact h
  | succ m ih =>
    intro k hk
    unfold wX1_packed_4
    refine ⟨h1, ?_⟩
    rw [nI_i]
    obtain ⟨c1, c2, c3⟩ := h3 k (by omega)
    have hv := valE_le (b := 32) (o := 96) (T := sC t) (p := 0) (by omega) k (fun j hj => by rw [Nat.zero_add]; have := h3 j (by omega); omega)
    have hpow : (32 : Int) ^ k ≤ 1073741824 := by
      rcases (show k = 0 ∨ k = 1 ∨ k = 2 ∨ k = 3 ∨ k = 4 ∨ k = 5 ∨ k = 6 by omega) with z | z | z | z | z | z | z <;> rw [z] <;> decide
    refine b_f (by simp (disch := omega) only [iLit, lLit, iI_add, iI_sub, iI_mul, iI_neg, lI_add, lI_sub, lI_mul, lI_neg, nI_i, lI_i, iI_l, iI_nat, iI_lt, iI_le, iI_eq, lI_lt, lI_le, lI_eq] <;> omega) ⟨h1, iI_in (by omega) (by omega) (by omega), ?_⟩
    rw [iI_nat (by omega) (by omega), show ((k : Int)).toNat = k by omega, c3, show iI (sC t k) - 96 = iI (sC t k - 96) from iI_sub _ 96, iI_l (by omega) (by omega), lI_shl_or (by omega) (by omega)]
    have key := ih (k + 1) (by omega)
    have e : valE 32 96 (sC t) 0 (k + 1) = 32 * valE 32 96 (sC t) 0 k + (sC t k - 96) := by
      show 32 * valE 32 96 (sC t) 0 k + (sC t (0 + k) - 96) = _
      rw [Nat.zero_add]
    rw [e] at key
    rw [show iI (k : Int) + 1 = iI ((k + 1 : Nat) : Int) from iI_add _ 1]
    exact key
theorem m_packed {post : Int64 → Prop} {t : Nat} (ht : sWd t) (h : post (lI (valE 32 96 (sC t) 0 (sLen.getD t 0)))) : wX1_packed post t := ⟨_, m_packed_4 ht h (sLen.getD t 0) 0 (by omega)⟩
/-- the word at p is the text t -/
abbrev wdIs (T : Nat → Int) (n p t : Nat) : Prop := srt T n p = 1 ∧ ende T n p = p + sLen.getD t 0 ∧ ∀ j, j < sLen.getD t 0 → T (p + j) = sC t j
theorem srt_in (T : Nat → Int) (n p : Nat) : 0 ≤ srt T n p ∧ srt T n p ≤ 3 := by
  unfold srt
  split
  · omega
  · split
    · omega
    · split <;> omega
theorem ende_in {T : Nat → Int} {n p : Nat} (h : p ≤ n) : p ≤ ende T n p ∧ ende T n p ≤ n ∧ (p < n → p < ende T n p) := by
  unfold ende
  split
  · omega
  · rename_i hp
    have c0 : chr T n p = T p := by unfold chr; rw [if_pos (by omega)]
    split
    · rename_i hL
      have := runE_le isL T n (n - p) p
      refine ⟨by omega, by omega, fun _ => ?_⟩
      rw [show n - p = (n - p - 1) + 1 by omega]
      unfold runE
      rw [c0, if_pos hL]
      have := runE_le isL T n (n - p - 1) (p + 1); omega
    · split
      · rename_i hD
        have := runE_le isD T n (n - p) p
        refine ⟨by omega, by omega, fun _ => ?_⟩
        rw [show n - p = (n - p - 1) + 1 by omega]
        unfold runE
        rw [c0, if_pos hD]
        have := runE_le isD T n (n - p - 1) (p + 1); omega
      · omega
theorem word_chars {T : Nat → Int} {n p : Nat} (h : srt T n p = 1) {j : Nat} (hj : p + j < ende T n p) : p + j < n ∧ 97 ≤ T (p + j) ∧ T (p + j) ≤ 122 := by
  unfold srt at h
  unfold ende at hj
  split at h
  · omega
  · rename_i hp
    rw [if_neg hp] at hj
    split at h
    · rename_i hL
      rw [if_pos hL] at hj
      have h1 := runE_all isL T n (n - p) p (p + j) (by omega) hj
      obtain ⟨h2, h3⟩ := chr_of (by decide) h1
      rw [isL_iff, h3] at h1
      exact ⟨h2, h1⟩
    · split at h <;> omega
theorem m_isWord {post : Int32 → MS → Prop} {S : MS} {T : Nat → Int} {n p t : Nat} (hk : mTok S T n p) (hn : n ≤ 800) (hp : p ≤ n) (ht : sWd t) (h1 : wdIs T n p t → post 1 S) (h0 : ¬ wdIs T n p t → post 0 S) : wX1_isWord post S t := by
  obtain ⟨k1, k2, k3, k4, k5, k6⟩ := hk
  obtain ⟨w1, w2, w3⟩ := id ht
  have hs := srt_in T n p
  have he := ende_in (T := T) hp
  unfold wX1_isWord
  rw [k1, k2, k3, k4]
  simp (disch := omega) only [iLit, lLit, iI_add, iI_sub, iI_mul, iI_neg, lI_add, lI_sub, lI_mul, lI_neg, nI_i, lI_i, iI_eq]
  refine ⟨fun e1 => ⟨w1, fun e2 => ?_, fun e2 => h0 (fun z => e2 (by have := z.2.1; omega))⟩, fun e1 => h0 (fun z => e1 z.1)⟩
  refine m_packed ht ?_
  have e3 : ende T n p = p + sLen.getD t 0 := by omega
  unfold wrdV
  rw [if_pos e1, show min 7 (ende T n p - p) = sLen.getD t 0 by omega]
  have b1 : ∀ j, j < sLen.getD t 0 → 0 ≤ T (p + j) - 96 ∧ T (p + j) - 96 < 32 := fun j hj => by have := word_chars e1 (j := j) (by omega); omega
  have b2 : ∀ j, j < sLen.getD t 0 → 0 ≤ sC t (0 + j) - 96 ∧ sC t (0 + j) - 96 < 32 := fun j hj => by rw [Nat.zero_add]; have := w3 j hj; omega
  have v1 := valE_le (b := 32) (o := 96) (T := T) (p := p) (by omega) _ b1
  have v2 := valE_le (b := 32) (o := 96) (T := sC t) (p := 0) (by omega) _ b2
  have hpow : (32 : Int) ^ (sLen.getD t 0) ≤ 1073741824 := by
    rcases (show sLen.getD t 0 = 0 ∨ sLen.getD t 0 = 1 ∨ sLen.getD t 0 = 2 ∨ sLen.getD t 0 = 3 ∨ sLen.getD t 0 = 4 ∨ sLen.getD t 0 = 5 ∨ sLen.getD t 0 = 6 by omega) with z | z | z | z | z | z | z <;> rw [z] <;> decide
  rw [lI_eq (by omega) (by omega) (by omega) (by omega)]
  refine ⟨fun e => h1 ⟨e1, e3, fun j hj => ?_⟩, fun e => h0 (fun z => e (valE_congr _ (fun j hj => by rw [Nat.zero_add]; exact z.2.2 j hj)))⟩
  have := valE_inj (by omega) _ b1 b2 e j hj
  rw [Nat.zero_add] at this
  exact this
/-- the sign at p is c -/
abbrev sgIs (T : Nat → Int) (n p : Nat) (c : Int) : Prop := srt T n p = 3 ∧ T p = c
/-- a number of at most four digits -/
abbrev isNb (T : Nat → Int) (n p : Nat) : Prop := srt T n p = 2 ∧ ende T n p ≤ p + 4
theorem m_isSign {post : Int32 → MS → Prop} {S : MS} {T : Nat → Int} {n p : Nat} {c : Int} (hk : mTok S T n p) (hT : mTp S T n) (hc : 1 ≤ c ∧ c ≤ 255) (h1 : sgIs T n p c → post 1 S) (h0 : ¬ sgIs T n p c → post 0 S) : wX1_isSign post S (iI c) := by
  obtain ⟨k1, k2, k3, k4, k5, k6⟩ := hk
  have hs := srt_in T n p
  unfold wX1_isSign
  rw [k1, k6]
  have hb : i32 (sgnV T n p) := by
    unfold sgnV
    split
    · rename_i e
      have : p < n := by unfold srt at e; split at e <;> omega
      have := hT.2.2 p this; omega
    · omega
  simp (disch := omega) only [iLit, lLit, iI_add, iI_sub, iI_mul, iI_neg, lI_add, lI_sub, lI_mul, lI_neg, nI_i, lI_i, iI_eq]
  refine ⟨fun e => ⟨fun e2 => h1 ⟨e, ?_⟩, fun e2 => h0 (fun z => e2 ?_)⟩, fun e => h0 (fun z => e z.1)⟩
  · unfold sgnV at e2; rw [if_pos e] at e2; exact e2
  · unfold sgnV; rw [if_pos e]; exact z.2
theorem m_isNumber {post : Int32 → MS → Prop} {S : MS} {T : Nat → Int} {n p : Nat} (hk : mTok S T n p) (hn : n ≤ 800) (hp : p ≤ n) (h1 : isNb T n p → post 1 S) (h0 : ¬ isNb T n p → post 0 S) : wX1_isNumber post S := by
  obtain ⟨k1, k2, k3, k4, k5, k6⟩ := hk
  have hs := srt_in T n p
  have he := ende_in (T := T) hp
  unfold wX1_isNumber
  rw [k1, k2, k3]
  simp (disch := omega) only [iLit, lLit, iI_add, iI_sub, iI_mul, iI_neg, lI_add, lI_sub, lI_mul, lI_neg, nI_i, lI_i, iI_eq, iI_lt]
  exact ⟨fun e => ⟨fun e2 => h0 (fun z => by have := z.2; omega), fun e2 => h1 ⟨e, by omega⟩⟩, fun e => h0 (fun z => e z.1)⟩
/-- a fault is noted -/
def mBad (S : MS) (k p o i : Int) : Prop := S.1 8 = iI k ∧ S.1 9 = iI p ∧ S.1 10 = iI o ∧ S.1 11 = iI i
def badS (S : MS) (k p o i : Int) : MS := mI (mI (mI (mI S 8 (iI k)) 9 (iI p)) 10 (iI o)) 11 (iI i)
theorem m_fails {post : Int32 → MS → Prop} {S : MS} {p : Nat} {k o i : Int} (h8 : S.1 8 = iI 0) (h13 : S.1 13 = iI p) (h18 : S.1 18 = iI o) (h19 : S.1 19 = iI i) (h : post 0 (badS S k p o i)) : wX1_fails post S (iI k) := by
  unfold wX1_fails
  refine b_t h8 ?_
  rw [h13, h18, h19]
  exact h
theorem m_takesSign {post : Int32 → MS → Prop} {S : MS} {T : Nat → Int} {n p : Nat} {c o i : Int} (hk : mTok S T n p) (hT : mTp S T n) (hp : p ≤ n) (hc : 1 ≤ c ∧ c ≤ 255) (h8 : S.1 8 = iI 0) (h18 : S.1 18 = iI o) (h19 : S.1 19 = iI i) (h1 : sgIs T n p c → ∀ S', tokEq S S' → mTok S' T n (sk T n (p + 1)) → post 1 S') (h0 : ¬ sgIs T n p c → post 0 (badS S 1 p o i)) : wX1_takesSign post S (iI c) := by
  unfold wX1_takesSign
  refine m_isSign hk hT hc (fun e => b_f (by decide) ?_) (fun e => b_t rfl (m_fails (k := 1) h8 hk.2.1 h18 h19 ⟨isB_0, h0 e⟩))
  have hpn : p < n := by have := e.1; unfold srt at this; split at this <;> omega
  have hende : ende T n p = p + 1 := by
    have := e.1
    unfold srt at this
    unfold ende
    split at this
    · omega
    · rename_i hh
      rw [if_neg hh]
      split at this
      · omega
      · rename_i h2
        rw [if_neg h2]
        split at this
        · omega
        · rename_i h3
          rw [if_neg h3]
  refine m_next hT (q := p + 1) (by omega) (by rw [hk.2.2.1, hende]) (fun S' t k => h1 e S' t k)
