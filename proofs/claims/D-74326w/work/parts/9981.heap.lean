set_option maxRecDepth 100000
set_option maxHeartbeats 4000000
/-! heaps, plain: places hold addresses, addresses have keys -/
/-- the first n places hold the addresses of A, each once -/
def hSt (n : Nat) (Q : Nat → Nat) (A : Nat → Prop) : Prop := (∀ i j, i < n → j < n → Q i = Q j → i = j) ∧ ∀ x, A x ↔ ∃ i, i < n ∧ Q i = x
def hP (ky : Nat → Int) (n : Nat) (Q : Nat → Nat) : Prop := ∀ i, 0 < i → i < n → ky (Q ((i - 1) / 2)) ≤ ky (Q i)
def hsw (Q : Nat → Nat) (i j : Nat) : Nat → Nat := fun z => if z = i then Q j else if z = j then Q i else Q z
theorem hsw_i (Q : Nat → Nat) (i j : Nat) : hsw Q i j i = Q j := by unfold hsw; rw [if_pos rfl]
theorem hsw_j (Q : Nat → Nat) (i j : Nat) : hsw Q i j j = Q i := by unfold hsw; split <;> simp_all
theorem hsw_ne (Q : Nat → Nat) {i j z : Nat} (h1 : z ≠ i) (h2 : z ≠ j) : hsw Q i j z = Q z := by unfold hsw; rw [if_neg h1, if_neg h2]
theorem hsw_c (Q : Nat → Nat) (i j z : Nat) : (z = i ∧ hsw Q i j z = Q j) ∨ (z = j ∧ hsw Q i j z = Q i) ∨ (z ≠ i ∧ z ≠ j ∧ hsw Q i j z = Q z) := by
  by_cases h1 : z = i
  · exact Or.inl ⟨h1, by rw [h1]; exact hsw_i ..⟩
  · by_cases h2 : z = j
    · exact Or.inr (Or.inl ⟨h2, by rw [h2]; exact hsw_j ..⟩)
    · exact Or.inr (Or.inr ⟨h1, h2, hsw_ne Q h1 h2⟩)
theorem hSt.sw {n : Nat} {Q : Nat → Nat} {A : Nat → Prop} (h : hSt n Q A) {i j : Nat} (hi : i < n) (hj : j < n) : hSt n (hsw Q i j) A := by
  refine ⟨fun u v hu hv e => ?_, fun x => ?_⟩
  · rcases hsw_c Q i j u with ⟨e1, e2⟩ | ⟨e1, e2⟩ | ⟨e1, e2, e3⟩ <;> rcases hsw_c Q i j v with ⟨g1, g2⟩ | ⟨g1, g2⟩ | ⟨g1, g2, g3⟩
    · omega
    · rw [e2, g2] at e; have := h.1 _ _ hj hi e; omega
    · rw [e2, g3] at e; have := h.1 _ _ hj hv e; omega
    · rw [e2, g2] at e; have := h.1 _ _ hi hj e; omega
    · omega
    · rw [e2, g3] at e; have := h.1 _ _ hi hv e; omega
    · rw [e3, g2] at e; have := h.1 _ _ hu hj e; omega
    · rw [e3, g2] at e; have := h.1 _ _ hu hi e; omega
    · rw [e3, g3] at e; exact h.1 _ _ hu hv e
  · rw [h.2 x]
    refine ⟨?_, ?_⟩
    · rintro ⟨u, u1, u2⟩
      by_cases c1 : u = i
      · exact ⟨j, hj, by rw [hsw_j, ← c1]; exact u2⟩
      · by_cases c2 : u = j
        · exact ⟨i, hi, by rw [hsw_i, ← c2]; exact u2⟩
        · exact ⟨u, u1, by rw [hsw_ne Q c1 c2]; exact u2⟩
    · rintro ⟨u, u1, u2⟩
      rcases hsw_c Q i j u with ⟨e1, e2⟩ | ⟨e1, e2⟩ | ⟨e1, e2, e3⟩
      · exact ⟨j, hj, by rw [← e2]; exact u2⟩
      · exact ⟨i, hi, by rw [← e2]; exact u2⟩
      · exact ⟨u, u1, by rw [← e3]; exact u2⟩
/-- one comes to the end -/
theorem hSt.push {n : Nat} {Q : Nat → Nat} {A : Nat → Prop} (h : hSt n Q A) {x : Nat} (hx : ¬ A x) : hSt (n + 1) (va_up Q n x) (fun z => A z ∨ z = x) := by
  have hq : ∀ i, i < n → Q i ≠ x := fun i hi e => hx ((h.2 x).2 ⟨i, hi, e⟩)
  refine ⟨fun u v hu hv e => ?_, fun z => ?_⟩
  · by_cases c1 : u = n
    · by_cases c2 : v = n
      · omega
      · rw [c1, up_eq, up_ne _ _ _ c2] at e; exact absurd e.symm (hq v (by omega))
    · by_cases c2 : v = n
      · rw [c2, up_eq, up_ne _ _ _ c1] at e; exact absurd e (hq u (by omega))
      · rw [up_ne _ _ _ c1, up_ne _ _ _ c2] at e; exact h.1 _ _ (by omega) (by omega) e
  · refine ⟨?_, ?_⟩
    · rintro (g | g)
      · obtain ⟨i, i1, i2⟩ := (h.2 z).1 g
        exact ⟨i, by omega, by rw [up_ne _ _ _ (by omega)]; exact i2⟩
      · exact ⟨n, by omega, by rw [up_eq]; exact g.symm⟩
    · rintro ⟨i, i1, i2⟩
      by_cases c1 : i = n
      · rw [c1, up_eq] at i2; exact Or.inr i2.symm
      · rw [up_ne _ _ _ c1] at i2; exact Or.inl ((h.2 z).2 ⟨i, by omega, i2⟩)
/-- the first goes, the last comes to its place -/
theorem hSt.pop {n : Nat} {Q : Nat → Nat} {A : Nat → Prop} (h : hSt (n + 1) Q A) : hSt n (va_up Q 0 (Q n)) (fun z => A z ∧ z ≠ Q 0) := by
  refine ⟨fun u v hu hv e => ?_, fun z => ?_⟩
  · by_cases c1 : u = 0
    · by_cases c2 : v = 0
      · omega
      · rw [c1, up_eq, up_ne _ _ _ c2] at e; have := h.1 _ _ (by omega) (by omega) e; omega
    · by_cases c2 : v = 0
      · rw [c2, up_eq, up_ne _ _ _ c1] at e; have := h.1 _ _ (by omega) (by omega) e; omega
      · rw [up_ne _ _ _ c1, up_ne _ _ _ c2] at e; exact h.1 _ _ (by omega) (by omega) e
  · refine ⟨?_, ?_⟩
    · rintro ⟨g1, g2⟩
      obtain ⟨i, i1, i2⟩ := (h.2 z).1 g1
      by_cases c1 : i = n
      · by_cases c2 : n = 0
        · exact absurd (by rw [← i2, c1, c2]) g2
        · exact ⟨0, by omega, by rw [up_eq, ← c1]; exact i2⟩
      · have c3 : i ≠ 0 := fun c => g2 (by rw [← i2, c])
        exact ⟨i, by omega, by rw [up_ne _ _ _ c3]; exact i2⟩
    · rintro ⟨i, i1, i2⟩
      by_cases c1 : i = 0
      · rw [c1, up_eq] at i2
        refine ⟨(h.2 z).2 ⟨n, by omega, i2⟩, fun e => ?_⟩
        rw [← i2] at e
        have := h.1 _ _ (by omega) (by omega) e
        omega
      · rw [up_ne _ _ _ c1] at i2
        refine ⟨(h.2 z).2 ⟨i, by omega, i2⟩, fun e => ?_⟩
        rw [← i2] at e
        have := h.1 _ _ (by omega) (by omega) e
        omega
theorem hP.top {ky : Nat → Int} {n : Nat} {Q : Nat → Nat} (h : hP ky n Q) : ∀ i, i < n → ky (Q 0) ≤ ky (Q i) := by
  intro i
  induction i using Nat.strongRecOn with
  | ind i ih =>
    intro hi
    by_cases c : i = 0
    · rw [c]; exact Int.le_refl _
    · have h1 := ih ((i - 1) / 2) (by omega) (by omega)
      have h2 := h i (by omega) hi
      omega
/-- up the heap: the order holds but above k -/
def hU (ky : Nat → Int) (n k : Nat) (Q : Nat → Nat) : Prop := (∀ i, 0 < i → i < n → i ≠ k → ky (Q ((i - 1) / 2)) ≤ ky (Q i)) ∧ ∀ c, 0 < c → c < n → (c - 1) / 2 = k → 0 < k → ky (Q ((k - 1) / 2)) ≤ ky (Q c)
theorem hU.done {ky : Nat → Int} {n k : Nat} {Q : Nat → Nat} (h : hU ky n k Q) (hk : k = 0 ∨ ky (Q ((k - 1) / 2)) ≤ ky (Q k)) : hP ky n Q := fun i h1 h2 => by
  by_cases c : i = k
  · subst c; rcases hk with e | e
    · omega
    · exact e
  · exact h.1 i h1 h2 c
theorem hU.step {ky : Nat → Int} {n k : Nat} {Q : Nat → Nat} (h : hU ky n k Q) (h0 : 0 < k) (hn : k < n) (hk : ky (Q k) < ky (Q ((k - 1) / 2))) : hU ky n ((k - 1) / 2) (hsw Q k ((k - 1) / 2)) := by
  have hp : (k - 1) / 2 < k := by omega
  refine ⟨fun i i1 i2 i3 => ?_, fun c c1 c2 c3 c4 => ?_⟩
  · by_cases ei : i = k
    · rw [ei, hsw_j, hsw_i]; omega
    · rw [hsw_ne Q ei i3]
      by_cases e1 : (i - 1) / 2 = k
      · rw [e1, hsw_i]; exact h.2 i i1 i2 e1 h0
      · by_cases e2 : (i - 1) / 2 = (k - 1) / 2
        · rw [e2, hsw_j]
          have := h.1 i i1 i2 ei
          rw [e2] at this
          omega
        · rw [hsw_ne Q e1 e2]; exact h.1 i i1 i2 ei
  · have g0 := h.1 ((k - 1) / 2) (by omega) (by omega) (by omega)
    rw [hsw_ne Q (show ((k - 1) / 2 - 1) / 2 ≠ k by omega) (show ((k - 1) / 2 - 1) / 2 ≠ (k - 1) / 2 by omega)]
    by_cases ec : c = k
    · rw [ec, hsw_i]; exact g0
    · rw [hsw_ne Q ec (by omega)]
      have := h.1 c c1 c2 ec
      rw [c3] at this
      omega
theorem hU.last {ky : Nat → Int} {n : Nat} {Q : Nat → Nat} (h : hP ky n Q) (x : Nat) : hU ky (n + 1) n (va_up Q n x) := by
  refine ⟨fun i i1 i2 i3 => ?_, fun c c1 c2 c3 c4 => by omega⟩
  rw [up_ne _ _ _ i3, up_ne _ _ _ (by omega)]
  exact h i i1 (by omega)
/-- down the heap: the order holds but below k -/
def hD (ky : Nat → Int) (n k : Nat) (Q : Nat → Nat) : Prop := (∀ i, 0 < i → i < n → (i - 1) / 2 ≠ k → ky (Q ((i - 1) / 2)) ≤ ky (Q i)) ∧ ∀ c, 0 < c → c < n → (c - 1) / 2 = k → 0 < k → ky (Q ((k - 1) / 2)) ≤ ky (Q c)
theorem hD.done {ky : Nat → Int} {n k : Nat} {Q : Nat → Nat} (h : hD ky n k Q) (hk : ∀ c, 0 < c → c < n → (c - 1) / 2 = k → ky (Q k) ≤ ky (Q c)) : hP ky n Q := fun i h1 h2 => by
  by_cases c : (i - 1) / 2 = k
  · rw [c]; exact hk i h1 h2 c
  · exact h.1 i h1 h2 c
theorem hD.step {ky : Nat → Int} {n k c : Nat} {Q : Nat → Nat} (h : hD ky n k Q) (h0 : 0 < c) (hn : c < n) (hp : (c - 1) / 2 = k) (hk : ky (Q c) < ky (Q k)) (hb : ∀ d, 0 < d → d < n → (d - 1) / 2 = k → ky (Q c) ≤ ky (Q d)) : hD ky n c (hsw Q k c) := by
  refine ⟨fun i i1 i2 i3 => ?_, fun d d1 d2 d3 d4 => ?_⟩
  · by_cases e1 : (i - 1) / 2 = k
    · rw [e1, hsw_i]
      by_cases ec : i = c
      · rw [ec, hsw_j]; omega
      · rw [hsw_ne Q (by omega) ec]; exact hb i i1 i2 e1
    · rw [hsw_ne Q e1 i3]
      by_cases ek : i = k
      · rw [ek, hsw_i]
        have := h.2 c h0 hn hp (by omega)
        exact this
      · rw [hsw_ne Q ek (by omega)]; exact h.1 i i1 i2 e1
  · rw [hp, hsw_i, hsw_ne Q (by omega) (by omega)]
    have := h.1 d d1 d2 (by omega)
    rw [d3] at this
    exact this
theorem hD.first {ky : Nat → Int} {n : Nat} {Q : Nat → Nat} (h : hP ky (n + 1) Q) (x : Nat) : hD ky n 0 (va_up Q 0 x) := by
  refine ⟨fun i i1 i2 i3 => ?_, fun c c1 c2 c3 c4 => by omega⟩
  rw [up_ne _ _ _ i3, up_ne _ _ _ (by omega)]
  exact h i i1 (by omega)
theorem sh1_t : ∀ k : Fin 2000, ((iI ((k.val : Nat) : Int)).toUInt32 >>> ((1 : Int32).toUInt32 &&& Int32.toUInt32 31)).toInt32 = iI ((k.val / 2 : Nat) : Int) := by decide +kernel
theorem sh1 {k : Nat} (h : k < 2000) : ((iI (k : Int)).toUInt32 >>> ((1 : Int32).toUInt32 &&& Int32.toUInt32 31)).toInt32 = iI ((k / 2 : Nat) : Int) := sh1_t ⟨k, h⟩
theorem sl1_t : ∀ k : Fin 2000, (iI ((k.val : Nat) : Int)) <<< ((1 : Int32) &&& 31) = iI ((2 * k.val : Nat) : Int) := by decide +kernel
theorem sl1 {k : Nat} (h : k < 2000) : (iI (k : Int)) <<< ((1 : Int32) &&& 31) = iI ((2 * k : Nat) : Int) := sl1_t ⟨k, h⟩
theorem sr1_t : ∀ k : Fin 2000, (iI ((k.val : Nat) : Int)) >>> ((1 : Int32) &&& 31) = iI ((k.val / 2 : Nat) : Int) := by decide +kernel
theorem sr1 {k : Nat} (h : k < 2000) : (iI (k : Int)) >>> ((1 : Int32) &&& 31) = iI ((k / 2 : Nat) : Int) := sr1_t ⟨k, h⟩
