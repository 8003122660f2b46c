set_option maxRecDepth 100000
set_option maxHeartbeats 4000000
section
variable {K : Nat → Nat → Nat}
theorem kYn.nw {N N' : NM} {x : Nat} {κ : Int} (h : kYn N x κ) (e : N' x = N x) : kYn N' x κ := by
  obtain ⟨z, w, h1, h2⟩ := h
  exact ⟨z, w, by rw [e]; exact h1, h2⟩
/-- a queued object is no array -/
theorem kYn.ar {N : NM} {x y cap : Nat} {κ : Int} {g : Nat → Option Nat} (h : kYn N x κ) (hy : N y = some (eR 8 cap g)) : x ≠ y := fun e => by
  obtain ⟨z, w, h1, h2⟩ := h
  rw [e, hy] at h1
  cases h1
theorem kYn.up {N : NM} {x y : Nat} {κ : Int} (h : kYn N x κ) (hy : x ≠ y) (e : Option NE) : kYn (va_up N y e) x κ := h.nw (up_ne _ _ _ hy)
theorem c_upn {post : Unit → NM → Prop} {N : NM} {ar cap n x : Nat} {g0 : Nat → Option Nat} {A : Nat → Prop} {ky : Nat → Int} (hN : N ar = some (eR 8 cap g0)) (hcap : n < cap) (hn : n < 1000) (hA : ∀ y, A y → kYn N y (ky y))
    (h : ∀ g Q, (∀ i, i < n + 1 → g i = some (Q i)) → hSt (n + 1) Q A → hP ky (n + 1) Q → post () (va_up N ar (some (eR 8 cap g)))) :
    ∀ (m k : Nat) (g : Nat → Option Nat) (Q : Nat → Nat), k ≤ m → k ≤ n → (∀ i, i < n + 1 → i ≠ k → g i = some (Q i)) → Q k = x → hSt (n + 1) Q A → hU ky (n + 1) k Q → wJ28_siftUpComparable_n_5 K post (m + 1) (iI (k : Nat)) ar x (va_up N ar (some (eR 8 cap g))) := by
  have hk : ∀ (y : Nat) g, A y → kYn (va_up N ar (some (eR 8 cap g))) y (ky y) := fun y g hy => (hA y hy).up ((hA y hy).ar hN) _
  have fin : ∀ (k : Nat) (g : Nat → Option Nat) (Q : Nat → Nat), k ≤ n → (∀ i, i < n + 1 → i ≠ k → g i = some (Q i)) → Q k = x → hSt (n + 1) Q A → hP ky (n + 1) Q → wJ28_siftUpComparable_n_47 K post (iI (k : Nat)) ar x (va_up N ar (some (eR 8 cap g))) := by
    intro k g Q hkn hg hx hs hp
    have hAx : A x := (hs.2 x).2 ⟨k, by omega, hx⟩
    obtain ⟨z, w, o1, -⟩ := hk x g hAx
    unfold wJ28_siftUpComparable_n_47
    refine ⟨_, _, up_eq _ _ _, iI_in (by omega) (by omega) (by omega), _, _, o1, fun N11 e11 => ?_⟩
    rw [up_up, nat_i (by omega)] at e11
    subst e11
    refine h _ Q (fun i hi => ?_) hs hp
    by_cases c : i = k
    · rw [c, up_eq, hx]
    · rw [up_ne _ _ _ c]; exact hg i hi c
  intro m
  induction m with
  | zero =>
    intro k g Q hkm hkn hg hx hs hu
    have e0 : k = 0 := by omega
    unfold wJ28_siftUpComparable_n_5
    exact b_t (by simp (disch := omega) only [iLit, lLit, iI_add, iI_sub, iI_mul, iI_neg, lI_add, lI_sub, lI_mul, lI_neg, nI_i, lI_i, iI_l, iI_nat, iI_lt, iI_le, iI_eq, lI_lt, lI_le, lI_eq] <;> omega) (fin k g Q hkn hg hx hs (hu.done (Or.inl e0)))
  | succ m ih =>
    intro k g Q hkm hkn hg hx hs hu
    unfold wJ28_siftUpComparable_n_5
    refine ⟨fun c => ?_, fun c => ?_⟩
    · have e0 : k = 0 := by
        rw [show (0 : Int32) = iI 0 from rfl, iI_le (by omega) (by omega) (by omega) (by omega)] at c; omega
      exact fin k g Q hkn hg hx hs (hu.done (Or.inl e0))
    · have k0 : 0 < k := by
        rw [show (0 : Int32) = iI 0 from rfl, iI_le (by omega) (by omega) (by omega) (by omega)] at c; omega
      have ep : ((iI (k : Int) - 1).toUInt32 >>> ((1 : Int32).toUInt32 &&& Int32.toUInt32 31)).toInt32 = iI (((k - 1) / 2 : Nat) : Int) := by
        rw [show iI (k : Int) - 1 = iI ((k - 1 : Nat) : Int) by rw [show (1 : Int32) = iI 1 from rfl, iI_sub, show ((k : Int) - 1) = ((k - 1 : Nat) : Int) by omega]]
        exact sh1 (by omega)
      rw [ep]
      generalize hpd : (k - 1) / 2 = p
      have hpk : p < k := by omega
      have hAx : A x := (hs.2 x).2 ⟨k, by omega, hx⟩
      have hAp : A (Q p) := (hs.2 _).2 ⟨p, by omega, rfl⟩
      obtain ⟨z, w, o1, -⟩ := hk x g hAx
      refine ⟨_, _, up_eq _ _ _, iI_in (by omega) (by omega) (by omega), Q p, by rw [nat_i (by omega)]; exact hg p (by omega) (by omega), _, _, o1, ?_⟩
      refine c_cmpn (hk x g hAx) (hk _ g hAp) (fun r r1 r2 => ⟨fun rc => ?_, fun rc => ?_⟩)
      · have hlt := r1.1 rc
        obtain ⟨z2, w2, o2, -⟩ := hk (Q p) g hAp
        refine ⟨_, _, up_eq _ _ _, iI_in (by omega) (by omega) (by omega), _, _, o2, fun N32 e32 => ?_⟩
        rw [up_up, nat_i (by omega)] at e32
        subst e32
        have hst := hu.step k0 (by omega) (by rw [hpd, hx]; exact hlt)
        rw [hpd] at hst
        refine ih p _ (hsw Q k p) (by omega) (by omega) (fun i i1 i2 => ?_) (by rw [hsw_j]; exact hx) (hs.sw (by omega) (by omega)) hst
        by_cases ci : i = k
        · rw [ci, up_eq, hsw_i]
        · rw [up_ne _ _ _ ci, hsw_ne Q ci i2]; exact hg i i1 ci
      · have hge : ky (Q p) ≤ ky x := by
          exact Int.not_lt.mp (fun q => rc (r1.2 q))
        exact fin k g Q hkn hg hx hs (hu.done (Or.inr (by rw [hpd, hx]; exact hge)))
theorem c_downn {post : Unit → NM → Prop} {N : NM} {ar cap n x : Nat} {g0 : Nat → Option Nat} {A : Nat → Prop} {ky : Nat → Int} (hN : N ar = some (eR 8 cap g0)) (hcap : n < cap) (hn : n < 1000) (hA : ∀ y, A y → kYn N y (ky y))
    (h : ∀ g Q, (∀ i, i < n → g i = some (Q i)) → hSt n Q A → hP ky n Q → post () (va_up N ar (some (eR 8 cap g)))) :
    ∀ (m k : Nat) (g : Nat → Option Nat) (Q : Nat → Nat), n ≤ k + m → k < n → (∀ i, i < n → i ≠ k → g i = some (Q i)) → Q k = x → hSt n Q A → hD ky n k Q → wJ28_siftDownComparable_n_11 K post (m + 1) (iI (k : Nat)) ar (iI (n : Nat)) x (iI ((n / 2 : Nat) : Int)) (va_up N ar (some (eR 8 cap g))) := by
  have hk : ∀ (y : Nat) g, A y → kYn (va_up N ar (some (eR 8 cap g))) y (ky y) := fun y g hy => (hA y hy).up ((hA y hy).ar hN) _
  have fin : ∀ (k : Nat) (g : Nat → Option Nat) (Q : Nat → Nat), k < n → (∀ i, i < n → i ≠ k → g i = some (Q i)) → Q k = x → hSt n Q A → hP ky n Q → wJ28_siftDownComparable_n_94 K post (iI (k : Nat)) ar x (va_up N ar (some (eR 8 cap g))) := by
    intro k g Q hkn hg hx hs hp
    have hAx : A x := (hs.2 x).2 ⟨k, by omega, hx⟩
    obtain ⟨z, w, o1, -⟩ := hk x g hAx
    unfold wJ28_siftDownComparable_n_94
    refine ⟨_, _, up_eq _ _ _, iI_in (by omega) (by omega) (by omega), _, _, o1, fun N11 e11 => ?_⟩
    rw [up_up, nat_i (by omega)] at e11
    subst e11
    refine h _ Q (fun i hi => ?_) hs hp
    by_cases c : i = k
    · rw [c, up_eq, hx]
    · rw [up_ne _ _ _ c]; exact hg i hi c
  intro m
  induction m with
  | zero => intro k g Q hkm hkn hg hx hs hu; omega
  | succ m ih =>
    intro k g Q hkm hkn hg hx hs hu
    unfold wJ28_siftDownComparable_n_11
    rw [iI_le (by omega) (by omega) (by omega) (by omega)]
    refine ⟨fun c => fin k g Q hkn hg hx hs (hu.done (fun d d1 d2 d3 => by omega)), fun c => ?_⟩
    have hAx : A x := (hs.2 x).2 ⟨k, by omega, hx⟩
    obtain ⟨z, w, o1, -⟩ := hk x g hAx
    have ec : iI (k : Int) <<< ((1 : Int32) &&& 31) + 1 = iI ((2 * k + 1 : Nat) : Int) := by
      rw [sl1 (by omega), show (1 : Int32) = iI 1 from rfl, iI_add]; rfl
    have er : iI ((2 * k + 1 : Nat) : Int) + 1 = iI ((2 * k + 2 : Nat) : Int) := by
      rw [show (1 : Int32) = iI 1 from rfl, iI_add]; rfl
    rw [ec, er]
    have go : ∀ c : Nat, (c = 2 * k + 1 ∨ c = 2 * k + 2) → c < n → (∀ d, 0 < d → d < n → (d - 1) / 2 = k → ky (Q c) ≤ ky (Q d)) → wJ28_siftDownComparable_n_68 K (fun x0 x2 x3 x4 x5 N => wJ28_siftDownComparable_n_11 K post (m + 1) x0 x2 x3 x4 x5 N) post (iI (k : Nat)) ar (iI (n : Nat)) x (iI ((n / 2 : Nat) : Int)) (iI (c : Nat)) (some (Q c)) (va_up N ar (some (eR 8 cap g))) := by
      intro c hc hcn hbest
      have hAc : A (Q c) := (hs.2 _).2 ⟨c, hcn, rfl⟩
      unfold wJ28_siftDownComparable_n_68
      refine ⟨_, rfl, _, _, o1, ?_⟩
      refine c_cmpn (hk x g hAx) (hk _ g hAc) (fun r r1 r2 => ⟨fun rc => ?_, fun rc => ?_⟩)
      · have hlt := r2.1 rc
        obtain ⟨z2, w2, o2, -⟩ := hk (Q c) g hAc
        refine ⟨_, _, up_eq _ _ _, iI_in (by omega) (by omega) (by omega), _, _, o2, fun N33 e33 => ?_⟩
        rw [up_up, nat_i (by omega)] at e33
        subst e33
        have hst := hu.step (c := c) (by omega) hcn (by omega) (by rw [hx]; exact hlt) hbest
        refine ih c _ (hsw Q k c) (by omega) hcn (fun i i1 i2 => ?_) (by rw [hsw_j]; exact hx) (hs.sw hkn hcn) hst
        by_cases ci : i = k
        · rw [ci, up_eq, hsw_i]
        · rw [up_ne _ _ _ ci, hsw_ne Q ci i2]; exact hg i i1 ci
      · have hge : ky x ≤ ky (Q c) := by
          exact Int.not_lt.mp (fun q => rc (r2.2 q))
        exact fin k g Q hkn hg hx hs (hu.done (fun d d1 d2 d3 => by rw [hx]; have := hbest d d1 d2 d3; omega))
    refine ⟨_, _, up_eq _ _ _, iI_in (by omega) (by omega) (by omega), ?_⟩
    have hcn : 2 * k + 1 < n := by omega
    have hA1 : A (Q (2 * k + 1)) := (hs.2 _).2 ⟨_, hcn, rfl⟩
    rw [iI_le (by omega) (by omega) (by omega) (by omega), nat_i (by omega), nat_i (by omega), hg (2 * k + 1) hcn (by omega)]
    refine ⟨fun c2 => go (2 * k + 1) (Or.inl rfl) hcn (fun d d1 d2 d3 => ?_), fun c2 => ?_⟩
    · rw [show d = 2 * k + 1 by omega]; exact Int.le_refl _
    · have hrn : 2 * k + 2 < n := by omega
      have hA2 : A (Q (2 * k + 2)) := (hs.2 _).2 ⟨_, hrn, rfl⟩
      obtain ⟨z1, w1, p1, -⟩ := hk _ g hA1
      refine ⟨_, rfl, _, _, p1, iI_in (by omega) (by omega) (by omega), _, hg (2 * k + 2) hrn (by omega), ?_⟩
      refine c_cmpn (hk _ g hA1) (hk _ g hA2) (fun r r1 r2 => ⟨fun rc => go (2 * k + 1) (Or.inl rfl) hcn (fun d d1 d2 d3 => ?_), fun rc => ?_⟩)
      · have hle : ky (Q (2 * k + 1)) ≤ ky (Q (2 * k + 2)) := by
          have : ¬ (0 < r) := fun q => absurd rc (by rw [Int32.not_le]; exact q)
          exact Int.not_lt.mp (fun q => this (r2.2 q))
        by_cases e1 : d = 2 * k + 1
        · rw [e1]; exact Int.le_refl _
        · rw [show d = 2 * k + 2 by omega]; exact hle
      · have hle : ky (Q (2 * k + 2)) ≤ ky (Q (2 * k + 1)) := by
          have := r2.1 (Int32.not_le.mp rc); omega
        refine ⟨_, _, up_eq _ _ _, iI_in (by omega) (by omega) (by omega), ?_⟩
        rw [hg (2 * k + 2) hrn (by omega)]
        refine go (2 * k + 2) (Or.inr rfl) hrn (fun d d1 d2 d3 => ?_)
        by_cases e1 : d = 2 * k + 1
        · rw [e1]; exact hle
        · rw [show d = 2 * k + 2 by omega]; exact Int.le_refl _
end
section
variable {K : Nat → Nat → Nat}
theorem kYr.nw {N N' : NM} {x : Nat} {κ : Int} (h : kYr N x κ) (e : N' x = N x) : kYr N' x κ := by
  obtain ⟨z, w, h1, h2⟩ := h
  exact ⟨z, w, by rw [e]; exact h1, h2⟩
/-- a queued object is no array -/
theorem kYr.ar {N : NM} {x y cap : Nat} {κ : Int} {g : Nat → Option Nat} (h : kYr N x κ) (hy : N y = some (eR 8 cap g)) : x ≠ y := fun e => by
  obtain ⟨z, w, h1, h2⟩ := h
  rw [e, hy] at h1
  cases h1
theorem kYr.up {N : NM} {x y : Nat} {κ : Int} (h : kYr N x κ) (hy : x ≠ y) (e : Option NE) : kYr (va_up N y e) x κ := h.nw (up_ne _ _ _ hy)
theorem c_upr {post : Unit → NM → Prop} {N : NM} {ar cap n x : Nat} {g0 : Nat → Option Nat} {A : Nat → Prop} {ky : Nat → Int} (hN : N ar = some (eR 8 cap g0)) (hcap : n < cap) (hn : n < 1000) (hA : ∀ y, A y → kYr N y (ky y))
    (h : ∀ g Q, (∀ i, i < n + 1 → g i = some (Q i)) → hSt (n + 1) Q A → hP ky (n + 1) Q → post () (va_up N ar (some (eR 8 cap g)))) :
    ∀ (m k : Nat) (g : Nat → Option Nat) (Q : Nat → Nat), k ≤ m → k ≤ n → (∀ i, i < n + 1 → i ≠ k → g i = some (Q i)) → Q k = x → hSt (n + 1) Q A → hU ky (n + 1) k Q → wJ28_siftUpComparable_r_5 K post (m + 1) (iI (k : Nat)) ar x (va_up N ar (some (eR 8 cap g))) := by
  have hk : ∀ (y : Nat) g, A y → kYr (va_up N ar (some (eR 8 cap g))) y (ky y) := fun y g hy => (hA y hy).up ((hA y hy).ar hN) _
  have fin : ∀ (k : Nat) (g : Nat → Option Nat) (Q : Nat → Nat), k ≤ n → (∀ i, i < n + 1 → i ≠ k → g i = some (Q i)) → Q k = x → hSt (n + 1) Q A → hP ky (n + 1) Q → wJ28_siftUpComparable_r_47 K post (iI (k : Nat)) ar x (va_up N ar (some (eR 8 cap g))) := by
    intro k g Q hkn hg hx hs hp
    have hAx : A x := (hs.2 x).2 ⟨k, by omega, hx⟩
    obtain ⟨z, w, o1, -⟩ := hk x g hAx
    unfold wJ28_siftUpComparable_r_47
    refine ⟨_, _, up_eq _ _ _, iI_in (by omega) (by omega) (by omega), _, _, o1, fun N11 e11 => ?_⟩
    rw [up_up, nat_i (by omega)] at e11
    subst e11
    refine h _ Q (fun i hi => ?_) hs hp
    by_cases c : i = k
    · rw [c, up_eq, hx]
    · rw [up_ne _ _ _ c]; exact hg i hi c
  intro m
  induction m with
  | zero =>
    intro k g Q hkm hkn hg hx hs hu
    have e0 : k = 0 := by omega
    unfold wJ28_siftUpComparable_r_5
    exact b_t (by simp (disch := omega) only [iLit, lLit, iI_add, iI_sub, iI_mul, iI_neg, lI_add, lI_sub, lI_mul, lI_neg, nI_i, lI_i, iI_l, iI_nat, iI_lt, iI_le, iI_eq, lI_lt, lI_le, lI_eq] <;> omega) (fin k g Q hkn hg hx hs (hu.done (Or.inl e0)))
  | succ m ih =>
    intro k g Q hkm hkn hg hx hs hu
    unfold wJ28_siftUpComparable_r_5
    refine ⟨fun c => ?_, fun c => ?_⟩
    · have e0 : k = 0 := by
        rw [show (0 : Int32) = iI 0 from rfl, iI_le (by omega) (by omega) (by omega) (by omega)] at c; omega
      exact fin k g Q hkn hg hx hs (hu.done (Or.inl e0))
    · have k0 : 0 < k := by
        rw [show (0 : Int32) = iI 0 from rfl, iI_le (by omega) (by omega) (by omega) (by omega)] at c; omega
      have ep : ((iI (k : Int) - 1).toUInt32 >>> ((1 : Int32).toUInt32 &&& Int32.toUInt32 31)).toInt32 = iI (((k - 1) / 2 : Nat) : Int) := by
        rw [show iI (k : Int) - 1 = iI ((k - 1 : Nat) : Int) by rw [show (1 : Int32) = iI 1 from rfl, iI_sub, show ((k : Int) - 1) = ((k - 1 : Nat) : Int) by omega]]
        exact sh1 (by omega)
      rw [ep]
      generalize hpd : (k - 1) / 2 = p
      have hpk : p < k := by omega
      have hAx : A x := (hs.2 x).2 ⟨k, by omega, hx⟩
      have hAp : A (Q p) := (hs.2 _).2 ⟨p, by omega, rfl⟩
      obtain ⟨z, w, o1, -⟩ := hk x g hAx
      refine ⟨_, _, up_eq _ _ _, iI_in (by omega) (by omega) (by omega), Q p, by rw [nat_i (by omega)]; exact hg p (by omega) (by omega), _, _, o1, ?_⟩
      refine c_cmpr (hk x g hAx) (hk _ g hAp) (fun r r1 r2 => ⟨fun rc => ?_, fun rc => ?_⟩)
      · have hlt := r1.1 rc
        obtain ⟨z2, w2, o2, -⟩ := hk (Q p) g hAp
        refine ⟨_, _, up_eq _ _ _, iI_in (by omega) (by omega) (by omega), _, _, o2, fun N32 e32 => ?_⟩
        rw [up_up, nat_i (by omega)] at e32
        subst e32
        have hst := hu.step k0 (by omega) (by rw [hpd, hx]; exact hlt)
        rw [hpd] at hst
        refine ih p _ (hsw Q k p) (by omega) (by omega) (fun i i1 i2 => ?_) (by rw [hsw_j]; exact hx) (hs.sw (by omega) (by omega)) hst
        by_cases ci : i = k
        · rw [ci, up_eq, hsw_i]
        · rw [up_ne _ _ _ ci, hsw_ne Q ci i2]; exact hg i i1 ci
      · have hge : ky (Q p) ≤ ky x := by
          exact Int.not_lt.mp (fun q => rc (r1.2 q))
        exact fin k g Q hkn hg hx hs (hu.done (Or.inr (by rw [hpd, hx]; exact hge)))
theorem c_downr {post : Unit → NM → Prop} {N : NM} {ar cap n x : Nat} {g0 : Nat → Option Nat} {A : Nat → Prop} {ky : Nat → Int} (hN : N ar = some (eR 8 cap g0)) (hcap : n < cap) (hn : n < 1000) (hA : ∀ y, A y → kYr N y (ky y))
    (h : ∀ g Q, (∀ i, i < n → g i = some (Q i)) → hSt n Q A → hP ky n Q → post () (va_up N ar (some (eR 8 cap g)))) :
    ∀ (m k : Nat) (g : Nat → Option Nat) (Q : Nat → Nat), n ≤ k + m → k < n → (∀ i, i < n → i ≠ k → g i = some (Q i)) → Q k = x → hSt n Q A → hD ky n k Q → wJ28_siftDownComparable_r_11 K post (m + 1) (iI (k : Nat)) ar (iI (n : Nat)) x (iI ((n / 2 : Nat) : Int)) (va_up N ar (some (eR 8 cap g))) := by
  have hk : ∀ (y : Nat) g, A y → kYr (va_up N ar (some (eR 8 cap g))) y (ky y) := fun y g hy => (hA y hy).up ((hA y hy).ar hN) _
  have fin : ∀ (k : Nat) (g : Nat → Option Nat) (Q : Nat → Nat), k < n → (∀ i, i < n → i ≠ k → g i = some (Q i)) → Q k = x → hSt n Q A → hP ky n Q → wJ28_siftDownComparable_r_94 K post (iI (k : Nat)) ar x (va_up N ar (some (eR 8 cap g))) := by
    intro k g Q hkn hg hx hs hp
    have hAx : A x := (hs.2 x).2 ⟨k, by omega, hx⟩
    obtain ⟨z, w, o1, -⟩ := hk x g hAx
    unfold wJ28_siftDownComparable_r_94
    refine ⟨_, _, up_eq _ _ _, iI_in (by omega) (by omega) (by omega), _, _, o1, fun N11 e11 => ?_⟩
    rw [up_up, nat_i (by omega)] at e11
    subst e11
    refine h _ Q (fun i hi => ?_) hs hp
    by_cases c : i = k
    · rw [c, up_eq, hx]
    · rw [up_ne _ _ _ c]; exact hg i hi c
  intro m
  induction m with
  | zero => intro k g Q hkm hkn hg hx hs hu; omega
  | succ m ih =>
    intro k g Q hkm hkn hg hx hs hu
    unfold wJ28_siftDownComparable_r_11
    rw [iI_le (by omega) (by omega) (by omega) (by omega)]
    refine ⟨fun c => fin k g Q hkn hg hx hs (hu.done (fun d d1 d2 d3 => by omega)), fun c => ?_⟩
    have hAx : A x := (hs.2 x).2 ⟨k, by omega, hx⟩
    obtain ⟨z, w, o1, -⟩ := hk x g hAx
    have ec : iI (k : Int) <<< ((1 : Int32) &&& 31) + 1 = iI ((2 * k + 1 : Nat) : Int) := by
      rw [sl1 (by omega), show (1 : Int32) = iI 1 from rfl, iI_add]; rfl
    have er : iI ((2 * k + 1 : Nat) : Int) + 1 = iI ((2 * k + 2 : Nat) : Int) := by
      rw [show (1 : Int32) = iI 1 from rfl, iI_add]; rfl
    rw [ec, er]
    have go : ∀ c : Nat, (c = 2 * k + 1 ∨ c = 2 * k + 2) → c < n → (∀ d, 0 < d → d < n → (d - 1) / 2 = k → ky (Q c) ≤ ky (Q d)) → wJ28_siftDownComparable_r_68 K (fun x0 x2 x3 x4 x5 N => wJ28_siftDownComparable_r_11 K post (m + 1) x0 x2 x3 x4 x5 N) post (iI (k : Nat)) ar (iI (n : Nat)) x (iI ((n / 2 : Nat) : Int)) (iI (c : Nat)) (some (Q c)) (va_up N ar (some (eR 8 cap g))) := by
      intro c hc hcn hbest
      have hAc : A (Q c) := (hs.2 _).2 ⟨c, hcn, rfl⟩
      unfold wJ28_siftDownComparable_r_68
      refine ⟨_, rfl, _, _, o1, ?_⟩
      refine c_cmpr (hk x g hAx) (hk _ g hAc) (fun r r1 r2 => ⟨fun rc => ?_, fun rc => ?_⟩)
      · have hlt := r2.1 rc
        obtain ⟨z2, w2, o2, -⟩ := hk (Q c) g hAc
        refine ⟨_, _, up_eq _ _ _, iI_in (by omega) (by omega) (by omega), _, _, o2, fun N33 e33 => ?_⟩
        rw [up_up, nat_i (by omega)] at e33
        subst e33
        have hst := hu.step (c := c) (by omega) hcn (by omega) (by rw [hx]; exact hlt) hbest
        refine ih c _ (hsw Q k c) (by omega) hcn (fun i i1 i2 => ?_) (by rw [hsw_j]; exact hx) (hs.sw hkn hcn) hst
        by_cases ci : i = k
        · rw [ci, up_eq, hsw_i]
        · rw [up_ne _ _ _ ci, hsw_ne Q ci i2]; exact hg i i1 ci
      · have hge : ky x ≤ ky (Q c) := by
          exact Int.not_lt.mp (fun q => rc (r2.2 q))
        exact fin k g Q hkn hg hx hs (hu.done (fun d d1 d2 d3 => by rw [hx]; have := hbest d d1 d2 d3; omega))
    refine ⟨_, _, up_eq _ _ _, iI_in (by omega) (by omega) (by omega), ?_⟩
    have hcn : 2 * k + 1 < n := by omega
    have hA1 : A (Q (2 * k + 1)) := (hs.2 _).2 ⟨_, hcn, rfl⟩
    rw [iI_le (by omega) (by omega) (by omega) (by omega), nat_i (by omega), nat_i (by omega), hg (2 * k + 1) hcn (by omega)]
    refine ⟨fun c2 => go (2 * k + 1) (Or.inl rfl) hcn (fun d d1 d2 d3 => ?_), fun c2 => ?_⟩
    · rw [show d = 2 * k + 1 by omega]; exact Int.le_refl _
    · have hrn : 2 * k + 2 < n := by omega
      have hA2 : A (Q (2 * k + 2)) := (hs.2 _).2 ⟨_, hrn, rfl⟩
      obtain ⟨z1, w1, p1, -⟩ := hk _ g hA1
      refine ⟨_, rfl, _, _, p1, iI_in (by omega) (by omega) (by omega), _, hg (2 * k + 2) hrn (by omega), ?_⟩
      refine c_cmpr (hk _ g hA1) (hk _ g hA2) (fun r r1 r2 => ⟨fun rc => go (2 * k + 1) (Or.inl rfl) hcn (fun d d1 d2 d3 => ?_), fun rc => ?_⟩)
      · have hle : ky (Q (2 * k + 1)) ≤ ky (Q (2 * k + 2)) := by
          have : ¬ (0 < r) := fun q => absurd rc (by rw [Int32.not_le]; exact q)
          exact Int.not_lt.mp (fun q => this (r2.2 q))
        by_cases e1 : d = 2 * k + 1
        · rw [e1]; exact Int.le_refl _
        · rw [show d = 2 * k + 2 by omega]; exact hle
      · have hle : ky (Q (2 * k + 2)) ≤ ky (Q (2 * k + 1)) := by
          have := r2.1 (Int32.not_le.mp rc); omega
        refine ⟨_, _, up_eq _ _ _, iI_in (by omega) (by omega) (by omega), ?_⟩
        rw [hg (2 * k + 2) hrn (by omega)]
        refine go (2 * k + 2) (Or.inr rfl) hrn (fun d d1 d2 d3 => ?_)
        by_cases e1 : d = 2 * k + 1
        · rw [e1]; exact hle
        · rw [show d = 2 * k + 2 by omega]; exact Int.le_refl _
end
