set_option maxRecDepth 100000
set_option maxHeartbeats 4000000
/-! a term that is read is right -/
theorem mul_mono {a b c d : Int} (h1 : 0 ≤ a) (h2 : a ≤ b) (h3 : 0 ≤ c) (h4 : c ≤ d) : a * c ≤ b * d := Int.le_trans (Int.mul_le_mul_of_nonneg_right h2 h3) (Int.mul_le_mul_of_nonneg_left h4 (by omega))
theorem kV_mono {k a b : Int} (h1 : 0 ≤ a) (h2 : a ≤ b) : kV k a ≤ kV k b := by
  have m2 := mul_mono h1 h2 h1 h2
  have m3 := mul_mono (Int.mul_nonneg h1 h1) m2 h1 h2
  have m4 := mul_mono (Int.mul_nonneg (Int.mul_nonneg h1 h1) h1) m3 h1 h2
  have m5 := mul_mono h1 h2 (show 0 ≤ a + 1 by omega) (show a + 1 ≤ b + 1 by omega)
  unfold kV
  split
  · exact h2
  split
  · exact m2
  split
  · exact m3
  split
  · exact m4
  · omega
/-- x turned to the other side of nought -/
theorem kV_turn {k x : Int} (h : x ≤ 0) : (kV k x = kV k (-x) ∨ kV k x = -(kV k (-x))) ∨ (k ≠ 0 ∧ k ≠ 1 ∧ k ≠ 2 ∧ k ≠ 3) := by
  unfold kV
  by_cases e0 : k = 0
  · rw [if_pos e0, if_pos e0]; exact Or.inl (Or.inr (by omega))
  rw [if_neg e0, if_neg e0]
  by_cases e1 : k = 1
  · rw [if_pos e1, if_pos e1]; exact Or.inl (Or.inl (by rw [Int.neg_mul_neg]))
  rw [if_neg e1, if_neg e1]
  by_cases e2 : k = 2
  · rw [if_pos e2, if_pos e2]; exact Or.inl (Or.inr (by rw [Int.neg_mul_neg, Int.mul_neg, Int.neg_neg]))
  rw [if_neg e2, if_neg e2]
  by_cases e3 : k = 3
  · rw [if_pos e3, if_pos e3]; exact Or.inl (Or.inl (by rw [Int.neg_mul_neg, Int.mul_assoc (x * x) (-x) (-x), Int.neg_mul_neg, ← Int.mul_assoc]))
  exact Or.inr ⟨e0, e1, e2, e3⟩
theorem kV_four {k x : Int} (h : k ≠ 0 ∧ k ≠ 1 ∧ k ≠ 2 ∧ k ≠ 3) : kV k x = x * (x + 1) / 2 := by unfold kV; rw [if_neg h.1, if_neg h.2.1, if_neg h.2.2.1, if_neg h.2.2.2]
/-- far from nought is more -/
theorem kV_abs {k x y : Int} (h : (0 ≤ x ∧ x ≤ y) ∨ (x ≤ 0 ∧ y ≤ x)) : (-(kV k y) ≤ kV k x ∨ kV k y ≤ kV k x) ∧ (kV k x ≤ kV k y ∨ kV k x ≤ -(kV k y)) := by
  rcases h with h | h
  · have h1 := kV_mono (k := k) h.1 h.2
    have h2 := kV_nn (k := k) h.1
    omega
  · have h1 := kV_mono (k := k) (show 0 ≤ -x by omega) (show -x ≤ -y by omega)
    have h2 := kV_nn (k := k) (show 0 ≤ -x by omega)
    by_cases a : k ≠ 0 ∧ k ≠ 1 ∧ k ≠ 2 ∧ k ≠ 3
    · rw [kV_four a, kV_four a]
      have m1 : 0 ≤ x * (x + 1) := x_x1_nn x
      have m2 : x * (x + 1) ≤ y * (y + 1) := by
        rcases (show x = 0 ∨ x = -1 ∨ x ≤ -1 by omega) with e | e | e
        · rw [e]; have := x_x1_nn y; omega
        · rw [e]; have := x_x1_nn y; omega
        · have := mul_mono (show 0 ≤ -(x + 1) by omega) (show -(x + 1) ≤ -(y + 1) by omega) (show 0 ≤ -x by omega) (show -x ≤ -y by omega)
          rw [Int.neg_mul_neg, Int.neg_mul_neg, Int.mul_comm (x + 1), Int.mul_comm (y + 1)] at this
          exact this
      omega
    · have b := (kV_turn (k := k) (x := x) h.1).resolve_right a
      have c := (kV_turn (k := k) (x := y) (by omega)).resolve_right a
      omega
theorem fk_abs {f k x y : Int} (hf : 1 ≤ f) (h : (0 ≤ x ∧ x ≤ y) ∨ (x ≤ 0 ∧ y ≤ x)) (hy : -3000 ≤ f * kV k y ∧ f * kV k y ≤ 3000) : -3000 ≤ f * kV k x ∧ f * kV k x ≤ 3000 := by
  obtain ⟨h1, h2⟩ := kV_abs (k := k) h
  have n : ∀ z, f * -z = -(f * z) := fun z => Int.mul_neg f z
  constructor
  · rcases h1 with c | c
    · have := Int.mul_le_mul_of_nonneg_left c (show 0 ≤ f by omega); rw [n] at this; omega
    · have := Int.mul_le_mul_of_nonneg_left c (show 0 ≤ f by omega); omega
  · rcases h2 with c | c
    · have := Int.mul_le_mul_of_nonneg_left c (show 0 ≤ f by omega); omega
    · have := Int.mul_le_mul_of_nonneg_left c (show 0 ≤ f by omega); rw [n] at this; omega
theorem fk_mid {f k lo hi x : Int} (hf : 1 ≤ f) (h1 : lo ≤ x) (h2 : x ≤ hi) (hl : -3000 ≤ f * kV k lo ∧ f * kV k lo ≤ 3000) (hh : -3000 ≤ f * kV k hi ∧ f * kV k hi ≤ 3000) : -3000 ≤ f * kV k x ∧ f * kV k x ≤ 3000 := by
  rcases Int.le_total 0 x with c | c
  · exact fk_abs hf (Or.inl ⟨c, h2⟩) hh
  · exact fk_abs hf (Or.inr ⟨c, h1⟩) hl
theorem fk_x {f k x : Int} (hf : 1 ≤ f) (h : -3000 ≤ f * kV k x ∧ f * kV k x ≤ 3000) : -3001 ≤ x ∧ x ≤ 3001 := by
  rcases Int.le_total 0 x with c | c
  · have h1 := kV_ge (k := k) c
    have h2 := Int.mul_le_mul_of_nonneg_right hf (show 0 ≤ kV k x by omega)
    omega
  · rcases kV_turn (k := k) (x := x) c with a | a
    · have h1 := kV_ge (k := k) (show 0 ≤ -x by omega)
      have h2 := Int.mul_le_mul_of_nonneg_right hf (show 0 ≤ kV k (-x) by omega)
      rcases a with a | a
      · rw [a] at h; omega
      · rw [a, Int.mul_neg] at h; omega
    · by_cases e : x = 0
      · omega
      · have h1 := kV_ge (k := k) (show 0 ≤ -x - 1 by omega)
        have e2 : kV k x = kV k (-x - 1) := by
          rw [kV_four a, kV_four a, show -x - 1 + 1 = -x by omega, show (-x - 1) * -x = x * (x + 1) by rw [show -x - 1 = -(x + 1) by omega, Int.neg_mul_neg, Int.mul_comm]]
        have h2 := Int.mul_le_mul_of_nonneg_right hf (show 0 ≤ kV k (-x - 1) by omega)
        rw [e2] at h; omega
theorem gtR_ok {f k : Int} : ∀ (m : Nat) (x : Int), 0 ≤ x → (x = 0 ∨ f * kV k x ≤ 3000) → (gtR f k m x = 0 ∨ f * kV k (gtR f k m x) ≤ 3000)
  | 0, x, _, h => by unfold gtR; exact h
  | m + 1, x, h0, h => by
    unfold gtR
    split
    · exact h
    · rename_i e
      exact gtR_ok m (x + 1) (by omega) (Or.inr (by omega))
theorem kV_0 (k : Int) : kV k 0 = 0 := by
  unfold kV
  split
  · rfl
  split
  · rfl
  split
  · rfl
  split <;> rfl
theorem tmB_ok {T : Nat → Int} {n p1 p' : Nat} {f : Int} {t : tm} (hf : 1 ≤ f ∧ f ≤ 99) (h : tmB T n f p1 = .inr (t, p')) : vT t := by
  have hkd := kdAt_in T n p1
  unfold tmB at h
  split at h
  · cases h
  rename_i hk
  split at h
  · cases h
    obtain ⟨k, ek⟩ : ∃ k, k = kdAt T n p1 := ⟨_, rfl⟩
    rw [← ek] at hkd hk ⊢
    have hg := gtR_in f k 3001 0
    have hok := gtR_ok (f := f) (k := k) 3001 0 (by omega) (Or.inl rfl)
    have h0 : -3000 ≤ f * kV k 0 ∧ f * kV k 0 ≤ 3000 := by rw [kV_0]; omega
    have h9 : -3000 ≤ f * kV k (gtS f k) ∧ f * kV k (gtS f k) ≤ 3000 := by
      unfold gtS
      rcases hok with z | z
      · rw [z]; exact h0
      · refine ⟨?_, z⟩
        have := Int.mul_nonneg (show 0 ≤ f by omega) (kV_nn (k := k) (show 0 ≤ gtR f k 3001 0 by omega)); omega
    have hx := fk_x hf.1 h9
    refine ⟨hf.1, hf.2, by show 0 ≤ k; omega, by show k ≤ 4; omega, by show 0 ≤ gtS f k; unfold gtS; omega, by show -3001 ≤ (0 : Int); omega, hx.2, fun x h1 h2 => fk_mid hf.1 h1 h2 h0 h9⟩
  · unfold tmC at h
    split at h
    · cases h
    split at h
    · cases h
    rename_i s1
    split at h
    · cases h
    split at h
    · cases h
    split at h
    · cases h
    rename_i s2
    cases h
    have s1 : -3000 ≤ f * kV (kdAt T n p1) (whV T n (nxT T n (nxT T n p1))) ∧ f * kV (kdAt T n p1) (whV T n (nxT T n (nxT T n p1))) ≤ 3000 := Classical.byContradiction s1
    have s3 := fun z => s2 (Or.inr z)
    have s3 := Classical.byContradiction s3
    have s4 : ¬ _ := fun z => s2 (Or.inl z)
    exact ⟨hf.1, hf.2, by show 0 ≤ kdAt T n p1; omega, by show kdAt T n p1 ≤ 4; omega, Int.not_lt.mp s4, (fk_x hf.1 s1).1, (fk_x hf.1 s3).2, fun x h1 h2 => fk_mid hf.1 h1 h2 s1 s3⟩
theorem tmRd_ok {T : Nat → Int} {n p i p' : Nat} {t : tm} (h : tmRd T n p i = .inr (t, p')) : vT t := by
  unfold tmRd at h
  split at h
  · cases h
  split at h
  · cases h
  rename_i h2
  split at h
  · cases h
  refine tmB_ok ?_ h
  split
  · rename_i e
    exact Classical.byContradiction (fun z => h2 ⟨e, z⟩)
  · omega
theorem tmRd_5 {T : Nat → Int} {n p : Nat} : ∃ k q, tmRd T n p 5 = .inl (k, q) := by
  unfold tmRd
  split
  · exact ⟨_, _, rfl⟩
  split
  · exact ⟨_, _, rfl⟩
  · exact ⟨_, _, if_pos rfl⟩
theorem tmB_le {T : Nat → Int} {n p1 p' : Nat} {f : Int} {t : tm} (hp : p1 ≤ n) (h : tmB T n f p1 = .inr (t, p')) : p1 ≤ p' ∧ p' ≤ n := by
  have a1 := nxT_le (T := T) hp
  have a2 := nxT_le (T := T) a1.2
  have a3 := whA_le (T := T) a2.2
  have a4 := nxT_le (T := T) a3.2
  have a5 := nxT_le (T := T) a4.2
  have a6 := whA_le (T := T) a5.2
  have a7 := nxT_le (T := T) a6.2
  unfold tmB at h
  split at h
  · cases h
  split at h
  · cases h; omega
  · unfold tmC at h
    split at h
    · cases h
    split at h
    · cases h
    split at h
    · cases h
    split at h
    · cases h
    split at h
    · cases h
    cases h; omega
theorem tmRd_le {T : Nat → Int} {n p i p' : Nat} {t : tm} (hp : p ≤ n) (h : tmRd T n p i = .inr (t, p')) : p ≤ p' ∧ p' ≤ n := by
  have a1 := nxT_le (T := T) hp
  unfold tmRd at h
  split at h
  · cases h
  split at h
  · cases h
  split at h
  · cases h
  split at h
  · have := tmB_le a1.2 h; omega
  · exact tmB_le hp h
