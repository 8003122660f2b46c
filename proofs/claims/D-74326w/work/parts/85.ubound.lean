set_option maxRecDepth 100000
set_option maxHeartbeats 4000000
/-! how many unlike ways there may be -/
abbrev msB (w : Int → Int) (M : Int) : Prop := ∀ a, uI (-15000) a w ≤ M
theorem uI_before {w : Int → Int} {A : Int} (h : ∀ z, z < A → w z = 0) (z : Int) : uI A z w = uI A (z - 1) w + w z := by
  by_cases e : A ≤ z
  · have := uI_end (lo := A) (hi := z - 1) w (by omega)
    rw [show z - 1 + 1 = z by omega] at this
    exact this
  · rw [uI_none w (by omega), uI_none w (by omega), h z (by omega)]; rfl
theorem uI_mono {w : Int → Int} {A : Int} (h : ∀ z, z < A → w z = 0) (hn : ∀ z, 0 ≤ w z) (a : Int) : ∀ d : Nat, uI A (a - d) w ≤ uI A a w
  | 0 => by rw [show a - ((0 : Nat) : Int) = a by omega]; exact Int.le_refl _
  | d + 1 => by
    have h1 := uI_mono h hn a d
    have h2 := uI_before h (a - d)
    have h3 := hn (a - d)
    rw [show a - ((d + 1 : Nat) : Int) = a - d - 1 by omega]
    omega
/-- falling by steps -/
theorem sum_fall {w : Int → Int} {A : Int} (h : ∀ z, z < A → w z = 0) (hn : ∀ z, 0 ≤ w z) {f : Nat} (hf : 1 ≤ f) : ∀ (n : Nat) (a : Int), uN (fun j : Nat => w (a - f * j)) n ≤ uI A a w
  | 0, a => uI_nn (fun x _ _ => hn x)
  | n + 1, a => by
    have h1 := sum_fall h hn hf n (a - f)
    have e := uN_shift (fun j : Nat => w (a - f * j)) n
    have e1 : uN (fun j : Nat => (fun j : Nat => w (a - f * j)) (j + 1)) n = uN (fun j : Nat => w (a - f - f * j)) n := uN_congr n (fun j _ => by
      show w (a - f * ((j + 1 : Nat) : Int)) = w (a - f - f * j)
      congr 1
      rw [Int.natCast_add, Int.mul_add]
      simp only [Int.natCast_one, Int.mul_one]
      omega)
    rw [e1] at e
    have e2 : w (a - f * ((0 : Nat) : Int)) = w a := by simp
    have h2 := uI_mono h hn (a - 1) (f - 1)
    rw [show a - 1 - ((f - 1 : Nat) : Int) = a - f by omega] at h2
    have h3 := uI_before h a
    show uN _ n + w (a - f * (n : Int)) ≤ _
    have e3 : uN (fun j : Nat => w (a - f * j)) n + w (a - f * (n : Int)) = uN (fun j : Nat => w (a - f - f * j)) n + w (a - f * ((0 : Nat) : Int)) := by omega
    rw [e3, e2]
    omega
theorem sum_rise {w : Int → Int} {A : Int} (h : ∀ z, z < A → w z = 0) (hn : ∀ z, 0 ≤ w z) : ∀ (n : Nat) (a : Int), uN (fun j : Nat => w (a + j)) n ≤ uI A (a + n - 1) w
  | 0, a => uI_nn (fun x _ _ => hn x)
  | n + 1, a => by
    have h1 := sum_rise h hn n a
    have h2 := uI_before h (a + n)
    show uN (fun j : Nat => w (a + j)) n + w (a + (n : Int)) ≤ _
    rw [show a + ((n + 1 : Nat) : Int) - 1 = a + n by omega]
    omega
theorem Wy_low {ts : List tm} (h : vF ts) : ∀ z, z < -15000 → Wy ts z = 0 := fun z hz => Wy_sup5 h (by omega)
theorem Wy_ms : ∀ ts : List tm, vF ts → msB (Wy ts) (6003 ^ ts.length)
  | [], _, a => by
    have : uI (-15000) a (Wy []) ≤ 1 := by
      have hn := Wy_nn []
      have hz : ∀ z, z < -15000 → Wy [] z = 0 := Wy_low ⟨by simp, fun t ht => by cases ht⟩
      -- up to nought none, then one
      have h1 : ∀ d : Nat, uI (-15000) (-1 - d) (Wy []) = 0 := fun d => uI_zero (fun x _ h2 => by unfold Wy; rw [if_neg (by omega)])
      have h2 : ∀ d : Nat, uI (-15000) (d : Int) (Wy []) = 1 := fun d => by
        induction d with
        | zero =>
          have := uI_before hz 0
          rw [show (((0 : Nat)) : Int) = 0 from rfl, this, show (0 : Int) - 1 = -1 - ((0 : Nat) : Int) by omega, h1]
          rfl
        | succ d ih =>
          have := uI_before hz ((d + 1 : Nat) : Int)
          rw [this, show ((d + 1 : Nat) : Int) - 1 = d by omega, ih]
          unfold Wy
          rw [if_neg (by omega)]
          rfl
      by_cases e : a < 0
      · have := h1 (-1 - a).toNat
        rw [show -1 - (((-1 - a).toNat : Nat) : Int) = a by omega] at this
        omega
      · have := h2 a.toNat
        rw [show ((a.toNat : Nat) : Int) = a by omega] at this
        omega
    exact this
  | t :: ts, h, a => by
    have ih := Wy_ms ts h.tail
    have hp : (0 : Int) ≤ 6003 ^ ts.length := Int.pow_nonneg (by omega)
    have hz := Wy_low h.tail
    have hn := Wy_nn ts
    have e1 : uI (-15000) a (Wy (t :: ts)) = uN (fun i => uN (fun j => Wy ts (-15000 + (j : Int) - t.1 * kV t.2.1 (t.2.2.1 + i))) (a - -15000 + 1).toNat) (t.2.2.2 - t.2.2.1 + 1).toNat := by
      unfold uI
      rw [uN_swap]
      exact uN_congr _ (fun j _ => Wy_cons ..)
    rw [e1]
    have h1 : ∀ i, i < (t.2.2.2 - t.2.2.1 + 1).toNat → uN (fun j : Nat => Wy ts (-15000 + (j : Int) - t.1 * kV t.2.1 (t.2.2.1 + i))) (a - -15000 + 1).toNat ≤ 6003 ^ ts.length := fun i _ => by
      have e2 : uN (fun j : Nat => Wy ts (-15000 + (j : Int) - t.1 * kV t.2.1 (t.2.2.1 + i))) (a - -15000 + 1).toNat = uN (fun j : Nat => Wy ts ((-15000 - t.1 * kV t.2.1 (t.2.2.1 + i)) + j)) (a - -15000 + 1).toNat := uN_congr _ (fun j _ => by congr 1; omega)
      rw [e2]
      exact Int.le_trans (sum_rise hz hn _ _) (ih _)
    have h2 := uN_le _ h1
    have ht := h.head.lo
    have h3 : (((t.2.2.2 - t.2.2.1 + 1).toNat : Nat) : Int) ≤ 6003 := by omega
    have h4 := Int.mul_le_mul_of_nonneg_right h3 hp
    rw [List.length_cons, Int.pow_succ, Int.mul_comm (6003 ^ ts.length)]
    exact Int.le_trans h2 h4
/-- of a line no sum comes twice -/
theorem Wy_line {t : tm} {ts : List tm} (h : vF (t :: ts)) (hk : t.2.1 = 0) (s : Int) : Wy (t :: ts) s ≤ 6003 ^ ts.length := by
  have ih := Wy_ms ts h.tail
  have ht := h.head
  have e1 : Wy (t :: ts) s = uN (fun j : Nat => Wy ts ((s - t.1 * t.2.2.1) - (t.1.toNat : Int) * j)) (t.2.2.2 - t.2.2.1 + 1).toNat := by
    rw [Wy_cons]
    unfold uI
    refine uN_congr _ (fun j _ => ?_)
    have hp : ((t.1.toNat : Nat) : Int) = t.1 := by have := ht.1; omega
    rw [hp]
    show Wy ts (s - t.1 * kV t.2.1 (t.2.2.1 + j)) = _
    unfold kV
    rw [if_pos hk]
    congr 1
    rw [Int.mul_add]; omega
  rw [e1]
  exact Int.le_trans (sum_fall (Wy_low h.tail) (Wy_nn ts) (by have := ht.1; omega) _ _) (ih _)
theorem kV_far {k x : Int} (hk : 1 ≤ k) (h : 80 ≤ x) : 3000 < kV k x := by
  have a2 : 80 * 80 ≤ x * x := mul_mono (by omega) h (by omega) h
  have a3 : 80 * 80 * 80 ≤ x * x * x := mul_mono (by omega) a2 (by omega) h
  have a4 : 80 * 80 * 80 * 80 ≤ x * x * x * x := mul_mono (by omega) a3 (by omega) h
  have b2 : 80 * 81 ≤ x * (x + 1) := mul_mono (by omega) h (by omega) (by omega)
  unfold kV
  split
  · omega
  split
  · omega
  split
  · omega
  split
  · omega
  · omega
theorem kV_farN {k x : Int} (hk : 1 ≤ k) (h : x ≤ -80) : ¬ (-3000 ≤ kV k x ∧ kV k x ≤ 3000) := by
  rcases kV_turn (k := k) (x := x) (by omega) with (e | e) | e
  · have := kV_far (k := k) (x := -x) hk (by omega); omega
  · have := kV_far (k := k) (x := -x) hk (by omega); omega
  · rw [kV_four e]
    have b2 : 79 * 80 ≤ (-(x + 1)) * (-x) := mul_mono (by omega) (by omega) (by omega) (by omega)
    rw [Int.neg_mul_neg] at b2
    have b3 : (x + 1) * x = x * (x + 1) := Int.mul_comm _ _
    omega
theorem few {t : tm} (h : vT t) (hk : t.2.1 ≠ 0) : (((t.2.2.2 - t.2.2.1 + 1).toNat : Nat) : Int) ≤ 160 := by
  have h0 := h.lo
  have hf := h.1
  have hk1 := h.2.2.1
  have one : ∀ x, t.2.2.1 ≤ x → x ≤ t.2.2.2 → -3000 ≤ kV t.2.1 x ∧ kV t.2.1 x ≤ 3000 := fun x h1 h2 => by
    have hx := h.tv h1 h2
    unfold tv at hx
    have m1 : kV t.2.1 x ≤ t.1 * kV t.2.1 x ∨ kV t.2.1 x ≤ 0 := by
      by_cases q : 0 ≤ kV t.2.1 x
      · left
        have := Int.mul_le_mul_of_nonneg_right hf q
        omega
      · right; omega
    have m2 : t.1 * kV t.2.1 x ≤ kV t.2.1 x ∨ 0 ≤ kV t.2.1 x := by
      by_cases q : 0 ≤ kV t.2.1 x
      · right; exact q
      · left
        have := Int.mul_le_mul_of_nonneg_right hf (show 0 ≤ -(kV t.2.1 x) by omega)
        rw [Int.one_mul, Int.mul_neg] at this
        omega
    omega
  have a1 := one _ (Int.le_refl _) h0.2.1
  have a2 := one _ h0.2.1 (Int.le_refl _)
  have b1 : ¬ t.2.2.1 ≤ -80 := fun q => kV_farN (k := t.2.1) (by omega) q a1
  have b2 : ¬ 80 ≤ t.2.2.2 := fun q => by have := kV_far (k := t.2.1) (by omega) q; omega
  omega
theorem Wy_few {t : tm} {ts : List tm} {B : Int} (h : vF (t :: ts)) (hk : t.2.1 ≠ 0) (hB : ∀ s, Wy ts s ≤ B) (hB0 : 0 ≤ B) (s : Int) : Wy (t :: ts) s ≤ 160 * B := by
  rw [Wy_cons]
  have h1 := uI_le (lo := t.2.2.1) (hi := t.2.2.2) (f := fun x => Wy ts (s - t.1 * kV t.2.1 x)) (B := B) (fun x _ _ => hB _)
  exact Int.le_trans h1 (Int.mul_le_mul_of_nonneg_right (few h.head hk) hB0)
theorem pow_le_d (a : Nat) : ∀ d : Nat, (6003 : Int) ^ a ≤ 6003 ^ (a + d)
  | 0 => Int.le_refl _
  | d + 1 => by
    have h1 := pow_le_d a d
    have h2 : (0 : Int) ≤ 6003 ^ (a + d) := Int.pow_nonneg (by omega)
    show _ ≤ (6003 : Int) ^ (a + d + 1)
    rw [Int.pow_succ]; omega
theorem pow_le_p {a b : Nat} (h : a ≤ b) : (6003 : Int) ^ a ≤ 6003 ^ b := by
  have := pow_le_d a (b - a)
  rw [show a + (b - a) = b by omega] at this
  exact this
/-- none has more -/
theorem Wy_cap {ts : List tm} (h : vF ts) (s : Int) : Wy ts s ≤ 6000000000000000 := by
  have h5 := h.1
  match ts, h, h5 with
  | [], h, _ => exact Int.le_trans (Wy_le [] h.2 s) (show (6003 : Int) ^ 0 ≤ 6000000000000000 by decide)
  | [t], h, _ => exact Int.le_trans (Wy_le [t] h.2 s) (show (6003 : Int) ^ 1 ≤ 6000000000000000 by decide)
  | t :: u :: r, h, h5 =>
    rw [List.length_cons, List.length_cons] at h5
    by_cases k1 : t.2.1 = 0
    · refine Int.le_trans (Wy_line h k1 s) ?_
      refine Int.le_trans (pow_le_p (b := 4) (by rw [List.length_cons]; omega)) (by decide)
    · by_cases k2 : u.2.1 = 0
      · have hB : ∀ s, Wy (u :: r) s ≤ 6003 ^ 3 := fun s => Int.le_trans (Wy_line h.tail k2 s) (pow_le_p (by omega))
        exact Int.le_trans (Wy_few h k1 hB (by decide) s) (by decide)
      · have hB0 : ∀ s, Wy r s ≤ 6003 ^ 3 := fun s => Int.le_trans (Wy_le r h.tail.tail.2 s) (pow_le_p (by omega))
        have hB : ∀ s, Wy (u :: r) s ≤ 160 * 6003 ^ 3 := fun s => Wy_few h.tail k2 hB0 (by decide) s
        exact Int.le_trans (Wy_few h k1 hB (by decide) s) (by decide)
/-! unlike ways are not more than ways of some terms -/
theorem tOp_1 (t : tm) (w : Int → Int) : tOp t 1 w = Ly t.1 t.2.1 t.2.2.1 t.2.2.2 w := by
  rw [← Ly_op, Int.one_mul]
theorem oP_le {v : Int → Int} {lo : Int} {m : Nat} {k : Int} {u u' : Int → Int} (h : ∀ s, u s ≤ u' s) (s : Int) : oP v lo m k u s ≤ oP v lo m k u' s := uN_le2 m (fun _ _ => h _)
theorem hM_many {t : tm} {w : Int → Int} {L : List tm} (hw : ∀ s, 0 ≤ w s) (hL : ∀ s, w s ≤ wR L s) : ∀ (c : Nat) (s : Int), hM (tv t) t.2.2.1 w (tcnt t) c s ≤ wR (List.replicate c t ++ L) s
  | 0, s => by rw [hM_0]; exact hL s
  | c + 1, s => by
    refine Int.le_trans (hM_le hw (tcnt t) c s) (Int.le_trans (oP_le (hM_many hw hL c) s) ?_)
    show _ ≤ wR (t :: (List.replicate c t ++ L)) s
    rw [wR_cons, ← tOp_1]
    exact Int.le_refl _
theorem unW_cap {ts : List tm} (hv : ∀ t ∈ ts, vT t) : ∀ i : Nat, i ≤ ts.length → (∀ s, 0 ≤ unW ts w0R i s) ∧ ∃ L : List tm, L.length = lnS (pat ts) i ∧ (∀ t ∈ L, vT t) ∧ ∀ s, unW ts w0R i s ≤ wR L s
  | 0, _ => ⟨fun s => (okW_0.1 s).1, [], rfl, fun t ht => (by cases ht), fun s => by
    show w0R s ≤ wR [] s
    rw [wR_nil]; exact Int.le_refl _⟩
  | i + 1, hi => by
    obtain ⟨n1, L, l1, l2, l3⟩ := unW_cap hv i (by omega)
    obtain ⟨t, ht⟩ : ∃ t, ts[i]? = some t := ⟨_, List.getElem?_eq_getElem (by omega)⟩
    unfold unW lnS
    rw [ht, pat_at ht]
    simp only []
    by_cases e : ts.idxOf t = i
    · rw [if_pos e, if_pos e]
      refine ⟨fun s => hM_nn n1 _ _ s, List.replicate (ts.count t) t ++ L, ?_, fun u hu => ?_, hM_many n1 l3 _⟩
      · rw [List.length_append, List.length_replicate, l1, count_pat ht e]
      · rcases List.mem_append.mp hu with q | q
        · rw [(List.mem_replicate.mp q).2]; exact hv t (List.mem_of_getElem? ht)
        · exact l2 u q
    · rw [if_neg e, if_neg e]
      exact ⟨n1, L, l1, l2, l3⟩
/-- the unlike ways of a form -/
def unS (ts : List tm) (n : Int) : Int := unW ts w0R ts.length (n + 15000)
theorem unS_in {ts : List tm} (h : vF ts) (h1 : ts ≠ []) (n : Int) : 0 ≤ unS ts n ∧ unS ts n ≤ 6000000000000000 := by
  obtain ⟨n1, L, l1, l2, l3⟩ := unW_cap h.2 ts.length (Nat.le_refl _)
  obtain ⟨ks, -, -, -, -, -, -, -, h5⟩ := pat_ok h1 h.1
  exact ⟨n1 _, Int.le_trans (l3 _) (Wy_cap ⟨by omega, l2⟩ _)⟩
