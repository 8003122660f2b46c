set_option maxRecDepth 100000
set_option maxHeartbeats 4000000
section
variable {K : Nat → Nat → Nat}
/-- a queue: object x, array ar, n queued of A -/
def pQn (N : NM) (x ar cap n : Nat) (A : Nat → Prop) (ky : Nat → Int) : Prop :=
  (∃ md : Int32, N x = some (eO 21 [va_rf (some ar), .int (iI (n : Nat)), va_rf none, .int md])) ∧ (∃ g Q, N ar = some (eR 8 cap g) ∧ (∀ i, i < n → g i = some (Q i)) ∧ hSt n Q A ∧ hP ky n Q) ∧ (∀ y, A y → kYn N y (ky y)) ∧ n ≤ cap ∧ 0 < cap ∧ cap < 400
theorem kYn.ob {N : NM} {x y : Nat} {κ : Int} {fs : List Value} (h : kYn N x κ) (hy : N y = some (eO 21 fs)) : x ≠ y := fun e => by
  obtain ⟨z, w, h1, h2⟩ := h
  rw [e, hy] at h1
  cases h1
theorem pQn.size {N : NM} {x ar cap n : Nat} {A : Nat → Prop} {ky : Nat → Int} (h : pQn N x ar cap n A ky) : N x ≠ none ∧ N ar ≠ none ∧ x ≠ ar := by
  obtain ⟨⟨md, h1⟩, ⟨g, Q, h2, -⟩, -⟩ := h
  refine ⟨by rw [h1]; exact (fun e => by cases e), by rw [h2]; exact (fun e => by cases e), fun e => ?_⟩
  rw [e, h2] at h1; cases h1
theorem c_peekn {post : Option Nat → NM → Prop} {N : NM} {x ar cap n : Nat} {A : Nat → Prop} {ky : Nat → Int} (hq : pQn N x ar cap (n + 1) A ky) (h : ∀ y, A y → (∀ z, A z → ky y ≤ ky z) → post (some y) N) : wJ28_peek_n K post N x := by
  obtain ⟨⟨md, h1⟩, ⟨g, Q, h2, h3, h4, h5⟩, h6, h7, h8, h9⟩ := hq
  unfold wJ28_peek_n
  refine ⟨_, _, _, _, h1, _, rfl, _, _, h2, by rw [show (0 : Int32) = iI 0 from rfl]; exact iI_in (by omega) (by omega) (by omega), ?_⟩
  rw [show (0 : Int32).toNatClampNeg = 0 by decide, h3 0 (by omega)]
  refine h _ ((h4.2 _).2 ⟨0, by omega, rfl⟩) (fun z hz => ?_)
  obtain ⟨i, i1, i2⟩ := (h4.2 z).1 hz
  rw [← i2]
  exact h5.top i i1
theorem c_polln {post : Option Nat → NM → Prop} {N : NM} {x ar cap n : Nat} {A : Nat → Prop} {ky : Nat → Int} (hq : pQn N x ar cap (n + 1) A ky) (h : ∀ N' y, A y → (∀ z, A z → ky y ≤ ky z) → pQn N' x ar cap n (fun z => A z ∧ z ≠ y) ky → fq x ar N N' → post (some y) N') : wJ28_poll_n K post N x := by
  have hne := hq.size
  obtain ⟨⟨md, h1⟩, ⟨g, Q, h2, h3, h4, h5⟩, h6, h7, h8, h9⟩ := hq
  unfold wJ28_poll_n
  refine ⟨_, _, _, _, h1, _, rfl, _, _, h2, by rw [show (0 : Int32) = iI 0 from rfl]; exact iI_in (by omega) (by omega) (by omega), ?_⟩
  rw [show (0 : Int32).toNatClampNeg = 0 by decide, h3 0 (by omega)]
  refine ⟨(fun e => by cases e), fun a12 _ N14 e14 N18 e18 => ?_⟩
  rw [e14, up_up] at e18
  subst e18
  rw [show iI ((n + 1 : Nat) : Int) - 1 = iI (n : Int) by rw [show (1 : Int32) = iI 1 from rfl, iI_sub, show (((n + 1 : Nat) : Int) - 1) = (n : Int) by omega], nat_i (by omega)]
  refine ⟨iI_in (by omega) (by omega) (by omega), iI_in (by omega) (by omega) (by omega), fun N22 e22 => ?_⟩
  subst e22
  have hy : A (Q 0) := (h4.2 _).2 ⟨0, by omega, rfl⟩
  have hm : ∀ z, A z → ky (Q 0) ≤ ky z := fun z hz => by
    obtain ⟨i, i1, i2⟩ := (h4.2 z).1 hz
    rw [← i2]
    exact h5.top i i1
  have hk : ∀ y e1 e2, A y → kYn (va_up (va_up N x e1) ar e2) y (ky y) := fun y e1 e2 hy => ((h6 y hy).up ((h6 y hy).ob h1) e1).up ((h6 y hy).ar h2) e2
  have hfr : ∀ e1 e2, fq x ar N (va_up (va_up N x e1) ar e2) := fun e1 e2 z e he z1 z2 => by rw [up_ne _ _ _ z2, up_ne _ _ _ z1]; exact he
  have fin : ∀ g' Q', (∀ i, i < n → g' i = some (Q' i)) → hSt n Q' (fun z => A z ∧ z ≠ Q 0) → hP ky n Q' → post (some (Q 0)) (va_up (va_up N x (some (eO 21 [va_rf (some ar), .int (iI (n : Nat)), va_rf none, .int (md + 1)]))) ar (some (eR 8 cap g'))) := by
    intro g' Q' q1 q2 q3
    refine h _ _ hy hm ⟨⟨md + 1, by rw [up_ne _ _ _ hne.2.2]; exact up_eq _ _ _⟩, ⟨g', Q', up_eq _ _ _, q1, q2, q3⟩, fun y hy => hk y _ _ hy.1, by omega, h8, h9⟩ (hfr _ _)
  rw [show (0 : Int32) = iI 0 from rfl, iI_le (by omega) (by omega) (by omega) (by omega)]
  refine ⟨fun c => ?_, fun c => ⟨fun _ => ⟨Q n, h3 n (by omega), ?_⟩, (fun a28 e => by cases e)⟩⟩
  · have e0 : n = 0 := by omega
    subst e0
    exact fin _ Q (fun i hi => by omega) ⟨fun i j hi => by omega, fun z => ⟨fun hz => by
      obtain ⟨i, i1, i2⟩ := (h4.2 z).1 hz.1
      exact absurd (by rw [← i2, show i = 0 by omega]) hz.2, fun ⟨i, hi, _⟩ => by omega⟩⟩ (fun i _ hi => by omega)
  · have hAn : A (Q n) := (h4.2 _).2 ⟨n, by omega, rfl⟩
    obtain ⟨z, w, o1, -⟩ := hk (Q n) (some (eO 21 [va_rf (some ar), .int (iI (n : Nat)), va_rf none, .int (md + 1)])) (some (eR 8 cap (va_up g n none))) hAn
    unfold wJ28_siftDownComparable_n
    refine ⟨_, _, o1, n + 1, ?_⟩
    rw [sh1 (by omega)]
    have hs := h4.pop
    refine c_downn (N := va_up N x _) (g0 := g) (A := fun z => A z ∧ z ≠ Q 0) (ky := ky) (by rw [up_ne _ _ _ (Ne.symm hne.2.2)]; exact h2) (by omega) (by omega) (fun y hy => (h6 y hy.1).up ((h6 y hy.1).ob h1) _) (fun g' Q' q1 q2 q3 => fin g' Q' q1 q2 q3) n 0 _ (va_up Q 0 (Q n)) (by omega) (by omega) (fun i i1 i2 => ?_) (up_eq _ _ _) hs (hD.first h5 _)
    rw [up_ne _ _ _ (by omega), up_ne _ _ _ i2]
    exact h3 i (by omega)
theorem c_offern_43 {post : Int32 → NM → Prop} {N : NM} {x ar cap n y mc ms : Nat} {A : Nat → Prop} {ky : Nat → Int} {κ : Int} (hq : pQn N x ar cap n A ky) (hc : n < cap) (hy : kYn N y κ) (hA : ¬ A y) (h : ∀ N', pQn N' x ar cap (n + 1) (fun z => A z ∨ z = y) (va_up ky y κ) → fq x ar N N' → post 1 N') : wJ28_offer_n_43 K post x y (iI (n : Nat)) mc ms N := by
  have hne := hq.size
  obtain ⟨⟨md, h1⟩, ⟨g, Q, h2, h3, h4, h5⟩, h6, h7, h8, h9⟩ := hq
  have hA' : ∀ z, (A z ∨ z = y) → kYn N z (va_up ky y κ z) := fun z hz => by
    by_cases e : z = y
    · rw [e, up_eq]; exact hy
    · rw [up_ne _ _ _ e]; exact h6 z (hz.resolve_right e)
  obtain ⟨z, w, o1, -⟩ := hy
  unfold wJ28_offer_n_43 wJ28_siftUp_n wJ28_siftUpComparable_n
  refine ⟨_, _, _, _, h1, _, _, _, _, h1, fun _ => ⟨_, rfl, _, _, o1, n + 1, ?_⟩, (fun a7 e => by cases e)⟩
  have hp' : hP (va_up ky y κ) n Q := fun i i1 i2 => by
    have q1 : Q ((i - 1) / 2) ≠ y := fun e => hA ((h4.2 y).2 ⟨_, by omega, e⟩)
    have q2 : Q i ≠ y := fun e => hA ((h4.2 y).2 ⟨_, i2, e⟩)
    rw [up_ne _ _ _ q1, up_ne _ _ _ q2]
    exact h5 i i1 i2
  have := c_upn (K := K) (post := fun _ N16 => ∃ f23 f24 f25 f26, N16 x = some (eO 21 [va_rf f23, .int f24, va_rf f25, .int f26]) ∧ (∀ N27, N27 = va_up N16 x (some (eO 21 [va_rf f23, .int (iI (n : Nat) + 1), va_rf f25, .int f26])) → (post 1 N27))) (x := y) h2 hc (by omega) hA' (fun g' Q' q1 q2 q3 => ?_) n n g (va_up Q n y) (Nat.le_refl _) (Nat.le_refl _) (fun i i1 i2 => by rw [up_ne _ _ _ i2]; exact h3 i (by omega)) (up_eq _ _ _) (h4.push hA) (hU.last hp' y)
  · rw [up_self h2] at this
    exact this
  · refine ⟨_, _, _, _, by rw [up_ne _ _ _ hne.2.2]; exact h1, fun N27 e27 => ?_⟩
    subst e27
    rw [show iI (n : Int) + 1 = iI ((n + 1 : Nat) : Int) by rw [show (1 : Int32) = iI 1 from rfl, iI_add]; rfl]
    refine h _ ⟨⟨md, up_eq _ _ _⟩, ⟨g', Q', by rw [up_ne _ _ _ (Ne.symm hne.2.2)]; exact up_eq _ _ _, q1, q2, q3⟩, fun z hz => ?_, by omega, h8, h9⟩ (fun z e he z1 z2 => by rw [up_ne _ _ _ z1, up_ne _ _ _ z2]; exact he)
    have hz' := hA' z hz
    exact (hz'.up (hz'.ar h2) _).up (hz'.ob h1) _
theorem c_grown {post : Unit → NM → Prop} {N : NM} {x ar cap n MC MS : Nat} {A : Nat → Prop} {ky : Nat → Int} (hq : pQn N x ar cap n A ky) (hc : n = cap) (hcap : cap ≤ 200) (hMC : 1 ≤ MC) (hMS : qG cap ≤ MS) (h : ∀ N' ar', pQn N' x ar' (qG cap) n A ky → fq x ar N N' → N ar' = none → post () N') : wJ28_grow_n K post MC MS N x (iI (n : Nat) + 1) := by
  have hne := hq.size
  obtain ⟨⟨md, h1⟩, ⟨g, Q, h2, h3, h4, h5⟩, h6, h7, h8, h9⟩ := hq
  have go : ∀ v : Nat, (v : Int) + cap = qG cap → 1 ≤ v → wJ28_grow_n_25 K post x (iI (v : Nat)) (iI (n : Nat) + 1 - nI cap) (nI cap) MC MS N := by
    intro v hv v1
    have hG : qG cap < 500 := by unfold qG; split <;> omega
    have hG2 : cap < qG cap := by omega
    unfold wJ28_grow_n_25 wJ13_newLength wJ14_max
    rw [show iI (n : Int) + 1 - nI cap = iI 1 by rw [show (1 : Int32) = iI 1 from rfl, nI_i, iI_add, iI_sub, hc, show ((cap : Int) + 1 - cap) = 1 by omega]]
    have fin : (((nI cap + iI (v : Nat)) ≤ 0) → False) ∧ (¬ ((nI cap + iI (v : Nat)) ≤ 0) → (((2147483639 < (nI cap + iI (v : Nat))) → False) ∧ (¬ (2147483639 < (nI cap + iI (v : Nat))) → (∃ f14 f15 f16 f17, N x = some (eO 21 [va_rf f14, .int f15, va_rf f16, .int f17]) ∧ (∃ a18, f14 = some a18 ∧ (∃ mc22 ms23, mc22 ≤ MC ∧ ms23 ≤ MS ∧ wJ15_copyOf_2_n K (fun r20 N21 => ∃ f27 f28 f29 f30, N21 x = some (eO 21 [va_rf f27, .int f28, va_rf f29, .int f30]) ∧ (∀ N31, N31 = va_up N21 x (some (eO 21 [va_rf (some r20), .int f28, va_rf f29, .int f30])) → (post () N31))) mc22 ms23 N a18 (nI cap + iI (v : Nat)))))))) := by
      have e1 : nI cap + iI (v : Nat) = iI (qG cap : Nat) := by rw [nI_i, iI_add, show ((cap : Int) + v) = qG cap by omega]
      rw [e1, show (0 : Int32) = iI 0 from rfl, show (2147483639 : Int32) = iI 2147483639 from rfl, iI_le (by omega) (by omega) (by omega) (by omega), iI_lt (by omega) (by omega) (by omega) (by omega)]
      refine ⟨fun c => by omega, fun _ => ⟨fun c => by omega, fun _ => ⟨_, _, _, _, h1, _, rfl, MC, MS, Nat.le_refl _, Nat.le_refl _, ?_⟩⟩⟩
      unfold wJ15_copyOf_2_n wJ15_copyOf_3_n
      have hneg : ¬ iI (qG cap : Int) < 0 := by
        rw [show (0 : Int32) = iI 0 from rfl, iI_lt (by omega) (by omega) (by omega) (by omega)]; omega
      refine ⟨_, _, h2, MC, MS, Nat.le_refl _, Nat.le_refl _, fun _ => ⟨hneg, by rw [nat_i (by omega)]; omega, hMC, by rw [nat_i (by omega)]; exact hMS, fun nq hnq N8 e8 => ?_⟩, fun c => absurd rfl c⟩
      subst e8
      rw [nat_i (by omega)]
      have n1 : ar ≠ nq := fun e => hne.2.1 (by rw [e]; exact hnq)
      have n2 : x ≠ nq := fun e => hne.1 (by rw [e]; exact hnq)
      have n3 : ∀ y, A y → y ≠ nq := fun y hy e => by obtain ⟨z, w, o1, -⟩ := h6 y hy; rw [e, hnq] at o1; cases o1
      unfold wJ15_copyOf_3_n_24 wJ14_min
      refine ⟨_, _, by rw [up_ne _ _ _ n1]; exact h2, ?_⟩
      rw [nI_i, iI_lt (by omega) (by omega) (by omega) (by omega)]
      refine ⟨fun c => by omega, fun _ => ⟨_, _, up_eq _ _ _, by decide, by decide, ?_, ?_, ?_, ?_, fun N30 e30 => ?_⟩⟩
      · rw [show (0 : Int32) = iI 0 from rfl, iI_lt (by omega) (by omega) (by omega) (by omega)]; omega
      · rw [show (0 : Int32).toNatClampNeg = 0 by decide, nat_i (by omega)]; omega
      · rw [show (0 : Int32).toNatClampNeg = 0 by decide, nat_i (by omega)]; omega
      · intro i hi y hy
        rw [show (0 : Int32).toNatClampNeg = 0 by decide, Nat.zero_add] at hy
        rw [nat_i (by omega)] at hi
        rw [h3 i (by omega)] at hy
        cases hy
        have hAi : A (Q i) := (h4.2 _).2 ⟨i, by omega, rfl⟩
        obtain ⟨z, w, o1, -⟩ := h6 _ hAi
        exact ⟨_, by rw [up_ne _ _ _ (n3 _ hAi)]; exact o1⟩
      · rw [up_up, show (0 : Int32).toNatClampNeg = 0 by decide, nat_i (by omega)] at e30
        subst e30
        refine ⟨_, _, _, _, by rw [up_ne _ _ _ n2]; exact h1, fun N31 e31 => ?_⟩
        subst e31
        refine h _ nq ⟨⟨md, up_eq _ _ _⟩, ⟨_, Q, by rw [up_ne _ _ _ (Ne.symm n2)]; exact up_eq _ _ _, fun i hi => ?_, h4, h5⟩, fun y hy => ?_, by omega, by omega, by unfold qG; split <;> omega⟩ ?_ hnq
        · unfold va_cpy
          rw [if_pos (by omega), ← h3 i hi]
          congr 1
          omega
        · exact ((h6 y hy).up (n3 y hy) _).up ((h6 y hy).ob h1) _
        · intro z e he z1 z2
          rw [up_ne _ _ _ z1, up_ne _ _ _ (fun c => by rw [c, hnq] at he; cases he)]
          exact he
    rw [iI_lt (by omega) (by omega) (by omega) (by omega)]
    refine ⟨fun c => fin, fun c => ?_⟩
    have e1 : v = 1 := by omega
    subst e1
    exact fin
  unfold wJ28_grow_n
  refine ⟨_, _, _, _, h1, _, rfl, _, _, h2, ?_⟩
  rw [nI_i, show (64 : Int32) = iI 64 from rfl, iI_le (by omega) (by omega) (by omega) (by omega), sr1 (by omega)]
  refine ⟨fun c => ?_, fun c => ?_⟩
  · have := go (cap / 2) (by unfold qG; split <;> omega) (by omega)
    exact this
  · have := go (cap + 2) (by unfold qG; split <;> omega) (by omega)
    rw [show iI (cap : Int) + 2 = iI ((cap + 2 : Nat) : Int) by rw [show (2 : Int32) = iI 2 from rfl, iI_add]; rfl]
    exact this
theorem c_addn {post : Int32 → NM → Prop} {N : NM} {x ar cap n y MC MS : Nat} {A : Nat → Prop} {ky : Nat → Int} {κ : Int} (hq : pQn N x ar cap n A ky) (hy : kYn N y κ) (hA : ¬ A y) (hcap : cap = n → cap ≤ 200 ∧ 1 ≤ MC ∧ qG cap ≤ MS)
    (h : ∀ N' ar' cap', pQn N' x ar' cap' (n + 1) (fun z => A z ∨ z = y) (va_up ky y κ) → fq x ar N N' → (ar' = ar ∨ N ar' = none) → (cap = n ∧ cap' = qG cap ∨ cap ≠ n ∧ cap' = cap) → post 1 N') : wJ28_add_n K post MC MS N x y := by
  have hne := hq.size
  have hq0 := hq
  obtain ⟨⟨md, h1⟩, ⟨g, Q, h2, h3, h4, h5⟩, h6, h7, h8, h9⟩ := hq
  unfold wJ28_add_n wJ28_offer_n
  refine ⟨_, _, _, _, h1, MC, MS, Nat.le_refl _, Nat.le_refl _, _, _, _, _, h1, fun N6 e6 => ⟨_, rfl, cap, g, by rw [e6, up_ne _ _ _ (Ne.symm hne.2.2)]; exact h2, ?_⟩⟩
  have hq6 : pQn N6 x ar cap n A ky := by
    rw [e6]
    exact ⟨⟨md + 1, up_eq _ _ _⟩, ⟨g, Q, by rw [up_ne _ _ _ (Ne.symm hne.2.2)]; exact h2, h3, h4, h5⟩, fun z hz => (h6 z hz).up ((h6 z hz).ob h1) _, h7, h8, h9⟩
  have hy6 : kYn N6 y κ := by rw [e6]; exact hy.up (hy.ob h1) _
  have f6 : fq x ar N N6 := fun z e he z1 z2 => by rw [e6, up_ne _ _ _ z1]; exact he
  rw [nI_i, iI_lt (by omega) (by omega) (by omega) (by omega)]
  refine ⟨fun c => ?_, fun c => ?_⟩
  · refine c_offern_43 hq6 (by omega) hy6 hA (fun N' k1 k2 => ⟨Or.inr rfl, ?_⟩)
    exact h N' ar cap k1 (f6.trans k2) (Or.inl rfl) (Or.inr ⟨by omega, rfl⟩)
  · obtain ⟨g1, g2, g3⟩ := hcap (by omega)
    refine ⟨MC, MS, Nat.le_refl _, Nat.le_refl _, ?_⟩
    refine c_grown hq6 (by omega) g1 g2 g3 (fun N' ar' k1 k2 k3 => ?_)
    have k3' : N ar' = none := by
      cases e : N ar' with
      | none => rfl
      | some v =>
        by_cases c1 : ar' = x
        · rw [c1] at k3; exact absurd k3 hq6.size.1
        · rw [e6, up_ne _ _ _ c1, e] at k3; cases k3
    have hy7 : kYn N' y κ := by
      obtain ⟨z, w, o1, o2⟩ := hy6
      exact ⟨z, w, k2 y _ o1 (fun e => hy.ob h1 e) (fun e => hy.ar h2 e), o2⟩
    refine c_offern_43 k1 (by unfold qG; split <;> omega) hy7 hA (fun N'' l1 l2 => ⟨Or.inr rfl, ?_⟩)
    refine h N'' ar' (qG cap) l1 (fun z e he z1 z2 => ?_) (Or.inr k3') (Or.inl ⟨by omega, rfl⟩)
    exact l2 z e (k2 z e (f6 z e he z1 z2) z1 z2) z1 (fun c => by rw [c, k3'] at he; cases he)
end
section
variable {K : Nat → Nat → Nat}
/-- a queue: object x, array ar, n queued of A -/
def pQr (N : NM) (x ar cap n : Nat) (A : Nat → Prop) (ky : Nat → Int) : Prop :=
  (∃ md : Int32, N x = some (eO 21 [va_rf (some ar), .int (iI (n : Nat)), va_rf none, .int md])) ∧ (∃ g Q, N ar = some (eR 8 cap g) ∧ (∀ i, i < n → g i = some (Q i)) ∧ hSt n Q A ∧ hP ky n Q) ∧ (∀ y, A y → kYr N y (ky y)) ∧ n ≤ cap ∧ 0 < cap ∧ cap < 400
theorem kYr.ob {N : NM} {x y : Nat} {κ : Int} {fs : List Value} (h : kYr N x κ) (hy : N y = some (eO 21 fs)) : x ≠ y := fun e => by
  obtain ⟨z, w, h1, h2⟩ := h
  rw [e, hy] at h1
  cases h1
theorem pQr.size {N : NM} {x ar cap n : Nat} {A : Nat → Prop} {ky : Nat → Int} (h : pQr N x ar cap n A ky) : N x ≠ none ∧ N ar ≠ none ∧ x ≠ ar := by
  obtain ⟨⟨md, h1⟩, ⟨g, Q, h2, -⟩, -⟩ := h
  refine ⟨by rw [h1]; exact (fun e => by cases e), by rw [h2]; exact (fun e => by cases e), fun e => ?_⟩
  rw [e, h2] at h1; cases h1
theorem c_peekr {post : Option Nat → NM → Prop} {N : NM} {x ar cap n : Nat} {A : Nat → Prop} {ky : Nat → Int} (hq : pQr N x ar cap (n + 1) A ky) (h : ∀ y, A y → (∀ z, A z → ky y ≤ ky z) → post (some y) N) : wJ28_peek_r K post N x := by
  obtain ⟨⟨md, h1⟩, ⟨g, Q, h2, h3, h4, h5⟩, h6, h7, h8, h9⟩ := hq
  unfold wJ28_peek_r
  refine ⟨_, _, _, _, h1, _, rfl, _, _, h2, by rw [show (0 : Int32) = iI 0 from rfl]; exact iI_in (by omega) (by omega) (by omega), ?_⟩
  rw [show (0 : Int32).toNatClampNeg = 0 by decide, h3 0 (by omega)]
  refine h _ ((h4.2 _).2 ⟨0, by omega, rfl⟩) (fun z hz => ?_)
  obtain ⟨i, i1, i2⟩ := (h4.2 z).1 hz
  rw [← i2]
  exact h5.top i i1
theorem c_pollr {post : Option Nat → NM → Prop} {N : NM} {x ar cap n : Nat} {A : Nat → Prop} {ky : Nat → Int} (hq : pQr N x ar cap (n + 1) A ky) (h : ∀ N' y, A y → (∀ z, A z → ky y ≤ ky z) → pQr N' x ar cap n (fun z => A z ∧ z ≠ y) ky → fq x ar N N' → post (some y) N') : wJ28_poll_r K post N x := by
  have hne := hq.size
  obtain ⟨⟨md, h1⟩, ⟨g, Q, h2, h3, h4, h5⟩, h6, h7, h8, h9⟩ := hq
  unfold wJ28_poll_r
  refine ⟨_, _, _, _, h1, _, rfl, _, _, h2, by rw [show (0 : Int32) = iI 0 from rfl]; exact iI_in (by omega) (by omega) (by omega), ?_⟩
  rw [show (0 : Int32).toNatClampNeg = 0 by decide, h3 0 (by omega)]
  refine ⟨(fun e => by cases e), fun a12 _ N14 e14 N18 e18 => ?_⟩
  rw [e14, up_up] at e18
  subst e18
  rw [show iI ((n + 1 : Nat) : Int) - 1 = iI (n : Int) by rw [show (1 : Int32) = iI 1 from rfl, iI_sub, show (((n + 1 : Nat) : Int) - 1) = (n : Int) by omega], nat_i (by omega)]
  refine ⟨iI_in (by omega) (by omega) (by omega), iI_in (by omega) (by omega) (by omega), fun N22 e22 => ?_⟩
  subst e22
  have hy : A (Q 0) := (h4.2 _).2 ⟨0, by omega, rfl⟩
  have hm : ∀ z, A z → ky (Q 0) ≤ ky z := fun z hz => by
    obtain ⟨i, i1, i2⟩ := (h4.2 z).1 hz
    rw [← i2]
    exact h5.top i i1
  have hk : ∀ y e1 e2, A y → kYr (va_up (va_up N x e1) ar e2) y (ky y) := fun y e1 e2 hy => ((h6 y hy).up ((h6 y hy).ob h1) e1).up ((h6 y hy).ar h2) e2
  have hfr : ∀ e1 e2, fq x ar N (va_up (va_up N x e1) ar e2) := fun e1 e2 z e he z1 z2 => by rw [up_ne _ _ _ z2, up_ne _ _ _ z1]; exact he
  have fin : ∀ g' Q', (∀ i, i < n → g' i = some (Q' i)) → hSt n Q' (fun z => A z ∧ z ≠ Q 0) → hP ky n Q' → post (some (Q 0)) (va_up (va_up N x (some (eO 21 [va_rf (some ar), .int (iI (n : Nat)), va_rf none, .int (md + 1)]))) ar (some (eR 8 cap g'))) := by
    intro g' Q' q1 q2 q3
    refine h _ _ hy hm ⟨⟨md + 1, by rw [up_ne _ _ _ hne.2.2]; exact up_eq _ _ _⟩, ⟨g', Q', up_eq _ _ _, q1, q2, q3⟩, fun y hy => hk y _ _ hy.1, by omega, h8, h9⟩ (hfr _ _)
  rw [show (0 : Int32) = iI 0 from rfl, iI_le (by omega) (by omega) (by omega) (by omega)]
  refine ⟨fun c => ?_, fun c => ⟨fun _ => ⟨Q n, h3 n (by omega), ?_⟩, (fun a28 e => by cases e)⟩⟩
  · have e0 : n = 0 := by omega
    subst e0
    exact fin _ Q (fun i hi => by omega) ⟨fun i j hi => by omega, fun z => ⟨fun hz => by
      obtain ⟨i, i1, i2⟩ := (h4.2 z).1 hz.1
      exact absurd (by rw [← i2, show i = 0 by omega]) hz.2, fun ⟨i, hi, _⟩ => by omega⟩⟩ (fun i _ hi => by omega)
  · have hAn : A (Q n) := (h4.2 _).2 ⟨n, by omega, rfl⟩
    obtain ⟨z, w, o1, -⟩ := hk (Q n) (some (eO 21 [va_rf (some ar), .int (iI (n : Nat)), va_rf none, .int (md + 1)])) (some (eR 8 cap (va_up g n none))) hAn
    unfold wJ28_siftDownComparable_r
    refine ⟨_, _, o1, n + 1, ?_⟩
    rw [sh1 (by omega)]
    have hs := h4.pop
    refine c_downr (N := va_up N x _) (g0 := g) (A := fun z => A z ∧ z ≠ Q 0) (ky := ky) (by rw [up_ne _ _ _ (Ne.symm hne.2.2)]; exact h2) (by omega) (by omega) (fun y hy => (h6 y hy.1).up ((h6 y hy.1).ob h1) _) (fun g' Q' q1 q2 q3 => fin g' Q' q1 q2 q3) n 0 _ (va_up Q 0 (Q n)) (by omega) (by omega) (fun i i1 i2 => ?_) (up_eq _ _ _) hs (hD.first h5 _)
    rw [up_ne _ _ _ (by omega), up_ne _ _ _ i2]
    exact h3 i (by omega)
theorem c_offerr_43 {post : Int32 → NM → Prop} {N : NM} {x ar cap n y mc ms : Nat} {A : Nat → Prop} {ky : Nat → Int} {κ : Int} (hq : pQr N x ar cap n A ky) (hc : n < cap) (hy : kYr N y κ) (hA : ¬ A y) (h : ∀ N', pQr N' x ar cap (n + 1) (fun z => A z ∨ z = y) (va_up ky y κ) → fq x ar N N' → post 1 N') : wJ28_offer_r_43 K post x y (iI (n : Nat)) mc ms N := by
  have hne := hq.size
  obtain ⟨⟨md, h1⟩, ⟨g, Q, h2, h3, h4, h5⟩, h6, h7, h8, h9⟩ := hq
  have hA' : ∀ z, (A z ∨ z = y) → kYr N z (va_up ky y κ z) := fun z hz => by
    by_cases e : z = y
    · rw [e, up_eq]; exact hy
    · rw [up_ne _ _ _ e]; exact h6 z (hz.resolve_right e)
  obtain ⟨z, w, o1, -⟩ := hy
  unfold wJ28_offer_r_43 wJ28_siftUp_r wJ28_siftUpComparable_r
  refine ⟨_, _, _, _, h1, _, _, _, _, h1, fun _ => ⟨_, rfl, _, _, o1, n + 1, ?_⟩, (fun a7 e => by cases e)⟩
  have hp' : hP (va_up ky y κ) n Q := fun i i1 i2 => by
    have q1 : Q ((i - 1) / 2) ≠ y := fun e => hA ((h4.2 y).2 ⟨_, by omega, e⟩)
    have q2 : Q i ≠ y := fun e => hA ((h4.2 y).2 ⟨_, i2, e⟩)
    rw [up_ne _ _ _ q1, up_ne _ _ _ q2]
    exact h5 i i1 i2
  have := c_upr (K := K) (post := fun _ N16 => ∃ f23 f24 f25 f26, N16 x = some (eO 21 [va_rf f23, .int f24, va_rf f25, .int f26]) ∧ (∀ N27, N27 = va_up N16 x (some (eO 21 [va_rf f23, .int (iI (n : Nat) + 1), va_rf f25, .int f26])) → (post 1 N27))) (x := y) h2 hc (by omega) hA' (fun g' Q' q1 q2 q3 => ?_) n n g (va_up Q n y) (Nat.le_refl _) (Nat.le_refl _) (fun i i1 i2 => by rw [up_ne _ _ _ i2]; exact h3 i (by omega)) (up_eq _ _ _) (h4.push hA) (hU.last hp' y)
  · rw [up_self h2] at this
    exact this
  · refine ⟨_, _, _, _, by rw [up_ne _ _ _ hne.2.2]; exact h1, fun N27 e27 => ?_⟩
    subst e27
    rw [show iI (n : Int) + 1 = iI ((n + 1 : Nat) : Int) by rw [show (1 : Int32) = iI 1 from rfl, iI_add]; rfl]
    refine h _ ⟨⟨md, up_eq _ _ _⟩, ⟨g', Q', by rw [up_ne _ _ _ (Ne.symm hne.2.2)]; exact up_eq _ _ _, q1, q2, q3⟩, fun z hz => ?_, by omega, h8, h9⟩ (fun z e he z1 z2 => by rw [up_ne _ _ _ z1, up_ne _ _ _ z2]; exact he)
    have hz' := hA' z hz
    exact (hz'.up (hz'.ar h2) _).up (hz'.ob h1) _
theorem c_growr {post : Unit → NM → Prop} {N : NM} {x ar cap n MC MS : Nat} {A : Nat → Prop} {ky : Nat → Int} (hq : pQr N x ar cap n A ky) (hc : n = cap) (hcap : cap ≤ 200) (hMC : 1 ≤ MC) (hMS : qG cap ≤ MS) (h : ∀ N' ar', pQr N' x ar' (qG cap) n A ky → fq x ar N N' → N ar' = none → post () N') : wJ28_grow_r K post MC MS N x (iI (n : Nat) + 1) := by
  have hne := hq.size
  obtain ⟨⟨md, h1⟩, ⟨g, Q, h2, h3, h4, h5⟩, h6, h7, h8, h9⟩ := hq
  have go : ∀ v : Nat, (v : Int) + cap = qG cap → 1 ≤ v → wJ28_grow_r_25 K post x (iI (v : Nat)) (iI (n : Nat) + 1 - nI cap) (nI cap) MC MS N := by
    intro v hv v1
    have hG : qG cap < 500 := by unfold qG; split <;> omega
    have hG2 : cap < qG cap := by omega
    unfold wJ28_grow_r_25 wJ13_newLength wJ14_max
    rw [show iI (n : Int) + 1 - nI cap = iI 1 by rw [show (1 : Int32) = iI 1 from rfl, nI_i, iI_add, iI_sub, hc, show ((cap : Int) + 1 - cap) = 1 by omega]]
    have fin : (((nI cap + iI (v : Nat)) ≤ 0) → False) ∧ (¬ ((nI cap + iI (v : Nat)) ≤ 0) → (((2147483639 < (nI cap + iI (v : Nat))) → False) ∧ (¬ (2147483639 < (nI cap + iI (v : Nat))) → (∃ f14 f15 f16 f17, N x = some (eO 21 [va_rf f14, .int f15, va_rf f16, .int f17]) ∧ (∃ a18, f14 = some a18 ∧ (∃ mc22 ms23, mc22 ≤ MC ∧ ms23 ≤ MS ∧ wJ15_copyOf_2_r K (fun r20 N21 => ∃ f27 f28 f29 f30, N21 x = some (eO 21 [va_rf f27, .int f28, va_rf f29, .int f30]) ∧ (∀ N31, N31 = va_up N21 x (some (eO 21 [va_rf (some r20), .int f28, va_rf f29, .int f30])) → (post () N31))) mc22 ms23 N a18 (nI cap + iI (v : Nat)))))))) := by
      have e1 : nI cap + iI (v : Nat) = iI (qG cap : Nat) := by rw [nI_i, iI_add, show ((cap : Int) + v) = qG cap by omega]
      rw [e1, show (0 : Int32) = iI 0 from rfl, show (2147483639 : Int32) = iI 2147483639 from rfl, iI_le (by omega) (by omega) (by omega) (by omega), iI_lt (by omega) (by omega) (by omega) (by omega)]
      refine ⟨fun c => by omega, fun _ => ⟨fun c => by omega, fun _ => ⟨_, _, _, _, h1, _, rfl, MC, MS, Nat.le_refl _, Nat.le_refl _, ?_⟩⟩⟩
      unfold wJ15_copyOf_2_r wJ15_copyOf_3_r
      have hneg : ¬ iI (qG cap : Int) < 0 := by
        rw [show (0 : Int32) = iI 0 from rfl, iI_lt (by omega) (by omega) (by omega) (by omega)]; omega
      refine ⟨_, _, h2, MC, MS, Nat.le_refl _, Nat.le_refl _, fun _ => ⟨hneg, by rw [nat_i (by omega)]; omega, hMC, by rw [nat_i (by omega)]; exact hMS, fun nq hnq N8 e8 => ?_⟩, fun c => absurd rfl c⟩
      subst e8
      rw [nat_i (by omega)]
      have n1 : ar ≠ nq := fun e => hne.2.1 (by rw [e]; exact hnq)
      have n2 : x ≠ nq := fun e => hne.1 (by rw [e]; exact hnq)
      have n3 : ∀ y, A y → y ≠ nq := fun y hy e => by obtain ⟨z, w, o1, -⟩ := h6 y hy; rw [e, hnq] at o1; cases o1
      unfold wJ15_copyOf_3_r_24 wJ14_min
      refine ⟨_, _, by rw [up_ne _ _ _ n1]; exact h2, ?_⟩
      rw [nI_i, iI_lt (by omega) (by omega) (by omega) (by omega)]
      refine ⟨fun c => by omega, fun _ => ⟨_, _, up_eq _ _ _, by decide, by decide, ?_, ?_, ?_, ?_, fun N30 e30 => ?_⟩⟩
      · rw [show (0 : Int32) = iI 0 from rfl, iI_lt (by omega) (by omega) (by omega) (by omega)]; omega
      · rw [show (0 : Int32).toNatClampNeg = 0 by decide, nat_i (by omega)]; omega
      · rw [show (0 : Int32).toNatClampNeg = 0 by decide, nat_i (by omega)]; omega
      · intro i hi y hy
        rw [show (0 : Int32).toNatClampNeg = 0 by decide, Nat.zero_add] at hy
        rw [nat_i (by omega)] at hi
        rw [h3 i (by omega)] at hy
        cases hy
        have hAi : A (Q i) := (h4.2 _).2 ⟨i, by omega, rfl⟩
        obtain ⟨z, w, o1, -⟩ := h6 _ hAi
        exact ⟨_, by rw [up_ne _ _ _ (n3 _ hAi)]; exact o1⟩
      · rw [up_up, show (0 : Int32).toNatClampNeg = 0 by decide, nat_i (by omega)] at e30
        subst e30
        refine ⟨_, _, _, _, by rw [up_ne _ _ _ n2]; exact h1, fun N31 e31 => ?_⟩
        subst e31
        refine h _ nq ⟨⟨md, up_eq _ _ _⟩, ⟨_, Q, by rw [up_ne _ _ _ (Ne.symm n2)]; exact up_eq _ _ _, fun i hi => ?_, h4, h5⟩, fun y hy => ?_, by omega, by omega, by unfold qG; split <;> omega⟩ ?_ hnq
        · unfold va_cpy
          rw [if_pos (by omega), ← h3 i hi]
          congr 1
          omega
        · exact ((h6 y hy).up (n3 y hy) _).up ((h6 y hy).ob h1) _
        · intro z e he z1 z2
          rw [up_ne _ _ _ z1, up_ne _ _ _ (fun c => by rw [c, hnq] at he; cases he)]
          exact he
    rw [iI_lt (by omega) (by omega) (by omega) (by omega)]
    refine ⟨fun c => fin, fun c => ?_⟩
    have e1 : v = 1 := by omega
    subst e1
    exact fin
  unfold wJ28_grow_r
  refine ⟨_, _, _, _, h1, _, rfl, _, _, h2, ?_⟩
  rw [nI_i, show (64 : Int32) = iI 64 from rfl, iI_le (by omega) (by omega) (by omega) (by omega), sr1 (by omega)]
  refine ⟨fun c => ?_, fun c => ?_⟩
  · have := go (cap / 2) (by unfold qG; split <;> omega) (by omega)
    exact this
  · have := go (cap + 2) (by unfold qG; split <;> omega) (by omega)
    rw [show iI (cap : Int) + 2 = iI ((cap + 2 : Nat) : Int) by rw [show (2 : Int32) = iI 2 from rfl, iI_add]; rfl]
    exact this
theorem c_addr {post : Int32 → NM → Prop} {N : NM} {x ar cap n y MC MS : Nat} {A : Nat → Prop} {ky : Nat → Int} {κ : Int} (hq : pQr N x ar cap n A ky) (hy : kYr N y κ) (hA : ¬ A y) (hcap : cap = n → cap ≤ 200 ∧ 1 ≤ MC ∧ qG cap ≤ MS)
    (h : ∀ N' ar' cap', pQr N' x ar' cap' (n + 1) (fun z => A z ∨ z = y) (va_up ky y κ) → fq x ar N N' → (ar' = ar ∨ N ar' = none) → (cap = n ∧ cap' = qG cap ∨ cap ≠ n ∧ cap' = cap) → post 1 N') : wJ28_add_r K post MC MS N x y := by
  have hne := hq.size
  have hq0 := hq
  obtain ⟨⟨md, h1⟩, ⟨g, Q, h2, h3, h4, h5⟩, h6, h7, h8, h9⟩ := hq
  unfold wJ28_add_r wJ28_offer_r
  refine ⟨_, _, _, _, h1, MC, MS, Nat.le_refl _, Nat.le_refl _, _, _, _, _, h1, fun N6 e6 => ⟨_, rfl, cap, g, by rw [e6, up_ne _ _ _ (Ne.symm hne.2.2)]; exact h2, ?_⟩⟩
  have hq6 : pQr N6 x ar cap n A ky := by
    rw [e6]
    exact ⟨⟨md + 1, up_eq _ _ _⟩, ⟨g, Q, by rw [up_ne _ _ _ (Ne.symm hne.2.2)]; exact h2, h3, h4, h5⟩, fun z hz => (h6 z hz).up ((h6 z hz).ob h1) _, h7, h8, h9⟩
  have hy6 : kYr N6 y κ := by rw [e6]; exact hy.up (hy.ob h1) _
  have f6 : fq x ar N N6 := fun z e he z1 z2 => by rw [e6, up_ne _ _ _ z1]; exact he
  rw [nI_i, iI_lt (by omega) (by omega) (by omega) (by omega)]
  refine ⟨fun c => ?_, fun c => ?_⟩
  · refine c_offerr_43 hq6 (by omega) hy6 hA (fun N' k1 k2 => ⟨Or.inr rfl, ?_⟩)
    exact h N' ar cap k1 (f6.trans k2) (Or.inl rfl) (Or.inr ⟨by omega, rfl⟩)
  · obtain ⟨g1, g2, g3⟩ := hcap (by omega)
    refine ⟨MC, MS, Nat.le_refl _, Nat.le_refl _, ?_⟩
    refine c_growr hq6 (by omega) g1 g2 g3 (fun N' ar' k1 k2 k3 => ?_)
    have k3' : N ar' = none := by
      cases e : N ar' with
      | none => rfl
      | some v =>
        by_cases c1 : ar' = x
        · rw [c1] at k3; exact absurd k3 hq6.size.1
        · rw [e6, up_ne _ _ _ c1, e] at k3; cases k3
    have hy7 : kYr N' y κ := by
      obtain ⟨z, w, o1, o2⟩ := hy6
      exact ⟨z, w, k2 y _ o1 (fun e => hy.ob h1 e) (fun e => hy.ar h2 e), o2⟩
    refine c_offerr_43 k1 (by unfold qG; split <;> omega) hy7 hA (fun N'' l1 l2 => ⟨Or.inr rfl, ?_⟩)
    refine h N'' ar' (qG cap) l1 (fun z e he z1 z2 => ?_) (Or.inr k3') (Or.inl ⟨by omega, rfl⟩)
    exact l2 z e (k2 z e (f6 z e he z1 z2) z1 z2) z1 (fun c => by rw [c, k3'] at he; cases he)
end
