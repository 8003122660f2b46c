set_option maxRecDepth 100000
set_option maxHeartbeats 4000000
/-! ranks: plain -/
def ctR (f : Int → Bool) : Nat → Int → Int
  | 0, _ => 0
  | m + 1, o => (if f o = true then 1 else 0) + ctR f m (o + 1)
def kzR (w : Int → Int) (z : Int) : Int := z - w z * 65536
theorem ctR_congr {f g : Int → Bool} : ∀ (m : Nat) (o : Int), (∀ z, o ≤ z → z < o + m → f z = g z) → ctR f m o = ctR g m o
  | 0, _, _ => rfl
  | m + 1, o, h => by
    unfold ctR
    rw [h o (by omega) (by omega), ctR_congr m (o + 1) (fun z z1 z2 => h z (by omega) (by omega))]
theorem ctR_le {f g : Int → Bool} : ∀ (m : Nat) (o : Int), (∀ z, o ≤ z → z < o + m → f z = true → g z = true) → ctR f m o ≤ ctR g m o
  | 0, _, _ => Int.le_refl _
  | m + 1, o, h => by
    unfold ctR
    have h1 := ctR_le m (o + 1) (fun z z1 z2 => h z (by omega) (by omega))
    by_cases c : f o = true
    · rw [if_pos c, if_pos (h o (by omega) (by omega) c)]; omega
    · rw [if_neg c]; split <;> omega
theorem ctR_lt {f g : Int → Bool} : ∀ (m : Nat) (o p : Int), (∀ z, o ≤ z → z < o + m → f z = true → g z = true) → o ≤ p → p < o + m → f p = false → g p = true → ctR f m o < ctR g m o
  | 0, _, _, _, h1, h2, _, _ => by omega
  | m + 1, o, p, h, h1, h2, h3, h4 => by
    unfold ctR
    by_cases c : o = p
    · subst c
      have := ctR_le m (o + 1) (fun z z1 z2 => h z (by omega) (by omega))
      rw [if_neg (by rw [h3]; decide), if_pos h4]; omega
    · have := ctR_lt m (o + 1) p (fun z z1 z2 => h z (by omega) (by omega)) (by omega) (by omega) h3 h4
      by_cases c2 : f o = true
      · rw [if_pos c2, if_pos (h o (by omega) (by omega) c2)]; omega
      · rw [if_neg c2]; split <;> omega
def ctU (f : Int → Bool) (p : Int) : Int → Bool := fun z => if z = p then true else f z
theorem ctR_out {f : Int → Bool} {p : Int} : ∀ (m : Nat) (o : Int), p < o → ctR (ctU f p) m o = ctR f m o := fun m o h => ctR_congr m o (fun z z1 z2 => by unfold ctU; rw [if_neg (by omega)])
theorem ctR_up {f : Int → Bool} {p : Int} : ∀ (m : Nat) (o : Int), o ≤ p → p < o + m → f p = false → ctR (ctU f p) m o = ctR f m o + 1
  | 0, _, h1, h2, _ => by omega
  | m + 1, o, h1, h2, h3 => by
    unfold ctR
    by_cases c : o = p
    · subst c
      rw [ctR_out m (o + 1) (by omega), h3]
      unfold ctU
      rw [if_pos (by rw [if_pos rfl]), if_neg (by decide)]
      omega
    · rw [ctR_up m (o + 1) (by omega) (by omega) h3]
      have : ctU f p o = f o := by unfold ctU; rw [if_neg c]
      rw [this]
      omega
theorem aheadR_ct (w : Int → Int) (n : Int) : ∀ (m : Nat) (o c : Int), aheadR w n m o c = c + ctR (fun o => decide (w n < w o ∨ (w o = w n ∧ o < n))) m o
  | 0, _, c => by unfold aheadR ctR; omega
  | m + 1, o, c => by
    unfold aheadR ctR isAh
    rw [aheadR_ct w n m]
    simp only [decide_eq_true_eq]
    omega
theorem rank_uniq {w : Int → Int} {x y i z : Int} (h : aheadR w z (y - x + 1).toNat x 0 = i) (hx : x ≤ z) (hy : z ≤ y) : ∀ (m : Nat) (n : Int), n + m = y + 1 → x ≤ n → n ≤ z → rankR w x y i m n = z
  | 0, n, h1, _, h3 => by omega
  | m + 1, n, h1, h2, h3 => by
    unfold rankR
    by_cases c : n = z
    · rw [c, if_pos h]
    · have hne : aheadR w n (y - x + 1).toNat x 0 ≠ i := by
        rw [← h, aheadR_ct, aheadR_ct]
        by_cases c1 : w n < w z ∨ (w z = w n ∧ z < n)
        · have := ctR_lt (f := fun o => decide (w z < w o ∨ (w o = w z ∧ o < z))) (g := fun o => decide (w n < w o ∨ (w o = w n ∧ o < n))) (y - x + 1).toNat x z (fun u u1 u2 u3 => by simp only [decide_eq_true_eq] at u3 ⊢; omega) (by omega) (by omega) (by simp only [decide_eq_false_iff_not]; omega) (by simp only [decide_eq_true_eq]; omega)
          omega
        · have := ctR_lt (f := fun o => decide (w n < w o ∨ (w o = w n ∧ o < n))) (g := fun o => decide (w z < w o ∨ (w o = w z ∧ o < z))) (y - x + 1).toNat x n (fun u u1 u2 u3 => by simp only [decide_eq_true_eq] at u3 ⊢; omega) (by omega) (by omega) (by simp only [decide_eq_false_iff_not]; omega) (by simp only [decide_eq_true_eq]; omega)
          omega
      rw [if_neg hne]
      exact rank_uniq h hx hy m (n + 1) (by omega) (by omega) (by omega)
/-- what a queue of the numbers of a span holds, those of `rem` polled -/
def rQ (w : Int → Int) (x y : Int) (rem : Int → Bool) (A : Nat → Prop) (ky : Nat → Int) : Prop :=
  (∀ u, A u → ∃ z, x ≤ z ∧ z ≤ y ∧ rem z = false ∧ ky u = kzR w z) ∧ (∀ z, x ≤ z → z ≤ y → rem z = false → ∃ u, A u ∧ ky u = kzR w z) ∧ (∀ z, x ≤ z → z ≤ y → rem z = true → ∀ u, A u → kzR w z < ky u) ∧ (∀ u v, A u → A v → ky u = ky v → u = v)
theorem kzR_inj {w : Int → Int} {z z' : Int} (h1 : -15000 ≤ z) (h2 : z ≤ 15000) (h3 : -15000 ≤ z') (h4 : z' ≤ 15000) (e : kzR w z = kzR w z') : z = z' := by
  unfold kzR at e; omega
theorem rQ.poll {w : Int → Int} {x y : Int} {rem : Int → Bool} {A : Nat → Prop} {ky : Nat → Int} {u : Nat} (h : rQ w x y rem A ky) (hu : A u) (hm : ∀ v, A v → ky u ≤ ky v) {z : Int} (hz : ky u = kzR w z) (hx : -15000 ≤ x) (hy : y ≤ 15000) (z1 : x ≤ z) (z2 : z ≤ y) : rQ w x y (ctU rem z) (fun v => A v ∧ v ≠ u) ky := by
  obtain ⟨h1, h2, h3, h4⟩ := h
  refine ⟨fun v hv => ?_, fun o o1 o2 o3 => ?_, fun o o1 o2 o3 v hv => ?_, fun v v' hv hv' e => h4 v v' hv.1 hv'.1 e⟩
  · obtain ⟨o, o1, o2, o3, o4⟩ := h1 v hv.1
    refine ⟨o, o1, o2, ?_, o4⟩
    unfold ctU
    rw [if_neg (fun c => hv.2 (h4 v u hv.1 hu (by rw [o4, hz, c])))]
    exact o3
  · unfold ctU at o3
    by_cases c : o = z
    · rw [if_pos c] at o3; cases o3
    · rw [if_neg c] at o3
      obtain ⟨v, v1, v2⟩ := h2 o o1 o2 o3
      by_cases cv : v = u
      · rw [cv, hz] at v2
        exact absurd (kzR_inj (by omega) (by omega) (by omega) (by omega) v2).symm c
      · exact ⟨v, ⟨v1, cv⟩, v2⟩
  · unfold ctU at o3
    by_cases c : o = z
    · rw [c, ← hz]
      have e1 := hm v hv.1
      have e2 : ky u ≠ ky v := fun e => hv.2 (h4 v u hv.1 hu e.symm)
      omega
    · rw [if_neg c] at o3
      exact h3 o o1 o2 o3 v hv.1
