set_option maxRecDepth 100000
set_option maxHeartbeats 4000000
/-! sums, kinds, ways: plain numbers -/
def uN (f : Nat → Int) : Nat → Int
  | 0 => 0
  | n + 1 => uN f n + f n
def uI (lo hi : Int) (f : Int → Int) : Int := uN (fun j => f (lo + j)) (hi - lo + 1).toNat
theorem uN_congr {f g : Nat → Int} : ∀ n : Nat, (∀ j, j < n → f j = g j) → uN f n = uN g n
  | 0, _ => rfl
  | n + 1, h => by
    show uN f n + f n = uN g n + g n
    rw [uN_congr n (fun j hj => h j (by omega)), h n (by omega)]
theorem uN_shift (f : Nat → Int) : ∀ n : Nat, uN (fun j => f (j + 1)) n = uN f n + f n - f 0
  | 0 => by show (0 : Int) = 0 + f 0 - f 0; omega
  | n + 1 => by
    show uN (fun j => f (j + 1)) n + f (n + 1) = uN f n + f n + f (n + 1) - f 0
    rw [uN_shift f n]; omega
theorem uN_zero {f : Nat → Int} : ∀ n : Nat, (∀ j, j < n → f j = 0) → uN f n = 0
  | 0, _ => rfl
  | n + 1, h => by
    show uN f n + f n = 0
    rw [uN_zero n (fun j hj => h j (by omega)), h n (by omega)]; rfl
theorem uN_nn {f : Nat → Int} : ∀ n : Nat, (∀ j, j < n → 0 ≤ f j) → 0 ≤ uN f n
  | 0, _ => Int.le_refl 0
  | n + 1, h => by
    show 0 ≤ uN f n + f n
    have := uN_nn n (fun j hj => h j (by omega)); have := h n (by omega); omega
theorem uN_le {f : Nat → Int} {B : Int} : ∀ n : Nat, (∀ j, j < n → f j ≤ B) → uN f n ≤ n * B
  | 0, _ => by show (0 : Int) ≤ _; simp
  | n + 1, h => by
    show uN f n + f n ≤ ((n + 1 : Nat) : Int) * B
    have h1 := uN_le n (fun j hj => h j (by omega)); have h2 := h n (by omega)
    rw [Int.natCast_add, Int.add_mul]; simp only [Int.natCast_one, Int.one_mul]; omega
theorem uN_pos {f : Nat → Int} : ∀ n : Nat, (∀ j, j < n → 0 ≤ f j) → ∀ k, k < n → 0 < f k → 0 < uN f n
  | 0, _, k, hk, _ => by omega
  | n + 1, h, k, hk, hp => by
    show 0 < uN f n + f n
    have h0 := uN_nn n (fun j hj => h j (by omega))
    have h1 := h n (by omega)
    by_cases e : k = n
    · subst e; omega
    · have := uN_pos n (fun j hj => h j (by omega)) k (by omega) hp; omega
theorem uN_ex {f : Nat → Int} : ∀ n : Nat, uN f n ≠ 0 → ∃ j, j < n ∧ f j ≠ 0
  | 0, h => absurd rfl h
  | n + 1, h => by
    by_cases e : f n = 0
    · have h1 : uN f n ≠ 0 := fun z => h (by show uN f n + f n = 0; omega)
      obtain ⟨j, hj, hf⟩ := uN_ex n h1
      exact ⟨j, by omega, hf⟩
    · exact ⟨n, by omega, e⟩
theorem uN_add (f g : Nat → Int) : ∀ n : Nat, uN (fun j => f j + g j) n = uN f n + uN g n
  | 0 => rfl
  | n + 1 => by show uN (fun j => f j + g j) n + (f n + g n) = (uN f n + f n) + (uN g n + g n); rw [uN_add f g n]; omega
theorem uN_mul (c : Int) (f : Nat → Int) : ∀ n : Nat, uN (fun j => c * f j) n = c * uN f n
  | 0 => by show (0 : Int) = c * 0; omega
  | n + 1 => by show uN _ n + _ = _; rw [uN_mul c f n]; show _ = c * (uN f n + f n); rw [Int.mul_add]
theorem uN_swap (f : Nat → Nat → Int) (m : Nat) : ∀ n : Nat, uN (fun i => uN (fun j => f i j) m) n = uN (fun j => uN (fun i => f i j) n) m
  | 0 => (uN_zero m (fun _ _ => rfl)).symm
  | n + 1 => by
    show uN (fun i => uN (fun j => f i j) m) n + uN (fun j => f n j) m = _
    rw [uN_swap f m n, ← uN_add]
    exact uN_congr m (fun j _ => rfl)
theorem uI_congr {lo hi : Int} {f g : Int → Int} (h : ∀ x, lo ≤ x → x ≤ hi → f x = g x) : uI lo hi f = uI lo hi g := uN_congr _ (fun j hj => h _ (by omega) (by omega))
theorem uI_zero {lo hi : Int} {f : Int → Int} (h : ∀ x, lo ≤ x → x ≤ hi → f x = 0) : uI lo hi f = 0 := uN_zero _ (fun j hj => h _ (by omega) (by omega))
theorem uI_nn {lo hi : Int} {f : Int → Int} (h : ∀ x, lo ≤ x → x ≤ hi → 0 ≤ f x) : 0 ≤ uI lo hi f := uN_nn _ (fun j hj => h _ (by omega) (by omega))
theorem uI_le {lo hi B : Int} {f : Int → Int} (h : ∀ x, lo ≤ x → x ≤ hi → f x ≤ B) : uI lo hi f ≤ (hi - lo + 1).toNat * B := uN_le _ (fun j hj => h _ (by omega) (by omega))
theorem uI_pos {lo hi : Int} {f : Int → Int} (h : ∀ x, lo ≤ x → x ≤ hi → 0 ≤ f x) {x : Int} (h1 : lo ≤ x) (h2 : x ≤ hi) (h3 : 0 < f x) : 0 < uI lo hi f :=
  uN_pos _ (fun j hj => h _ (by omega) (by omega)) (x - lo).toNat (by omega) (by rw [show lo + (((x - lo).toNat : Nat) : Int) = x by omega]; exact h3)
theorem uI_ex {lo hi : Int} {f : Int → Int} (h : uI lo hi f ≠ 0) : ∃ x, lo ≤ x ∧ x ≤ hi ∧ f x ≠ 0 := by
  obtain ⟨j, hj, hf⟩ := uN_ex _ h
  exact ⟨lo + j, by omega, by omega, hf⟩
theorem uI_end {lo hi : Int} (f : Int → Int) (h : lo ≤ hi + 1) : uI lo (hi + 1) f = uI lo hi f + f (hi + 1) := by
  unfold uI
  rw [show (hi + 1 - lo + 1).toNat = (hi - lo + 1).toNat + 1 by omega]
  show _ + f (lo + (((hi - lo + 1).toNat : Nat) : Int)) = _
  rw [show lo + (((hi - lo + 1).toNat : Nat) : Int) = hi + 1 by omega]
theorem uI_step {lo hi : Int} (w : Int → Int) (f s : Int) (h : lo ≤ hi + 1) : uI lo hi (fun x => w (s - f * x)) = uI lo hi (fun x => w (s - f - f * x)) + w (s - f * lo) - w (s - f * (hi + 1)) := by
  show uN (fun j : Nat => w (s - f * (lo + j))) (hi - lo + 1).toNat = uN (fun j : Nat => w (s - f - f * (lo + j))) (hi - lo + 1).toNat + w (s - f * lo) - w (s - f * (hi + 1))
  have e := uN_shift (fun j : Nat => w (s - f * (lo + j))) (hi - lo + 1).toNat
  have e2 : uN (fun j : Nat => (fun j : Nat => w (s - f * (lo + j))) (j + 1)) (hi - lo + 1).toNat = uN (fun j : Nat => w (s - f - f * (lo + j))) (hi - lo + 1).toNat := uN_congr _ (fun j _ => by
    show w (s - f * (lo + ((j + 1 : Nat) : Int))) = w (s - f - f * (lo + j))
    congr 1
    rw [Int.natCast_add, ← Int.add_assoc, Int.mul_add f (lo + j)]
    simp only [Int.natCast_one, Int.mul_one]
    omega)
  rw [e2] at e
  have e3 : lo + (((hi - lo + 1).toNat : Nat) : Int) = hi + 1 := by omega
  simp only [e3, Int.natCast_zero, Int.add_zero] at e
  omega
/-- what a kind makes of x -/
def kV (k x : Int) : Int := if k = 0 then x else if k = 1 then x * x else if k = 2 then x * x * x else if k = 3 then x * x * x * x else x * (x + 1) / 2
abbrev tm : Type := Int × Int × Int × Int
def tv (t : tm) (x : Int) : Int := t.1 * kV t.2.1 x
/-- one layer more: of each x that far on -/
def Ly (f k lo hi : Int) (w : Int → Int) (s : Int) : Int := uI lo hi (fun x => w (s - f * kV k x))
def Wy : List tm → Int → Int
  | [], s => if s = 0 then 1 else 0
  | t :: ts, s => Ly t.1 t.2.1 t.2.2.1 t.2.2.2 (Wy ts) s
theorem mul_self_nn (x : Int) : 0 ≤ x * x := by
  rcases Int.le_total 0 x with h | h
  · exact Int.mul_nonneg h h
  · have := Int.mul_nonneg (show 0 ≤ -x by omega) (show 0 ≤ -x by omega)
    rw [Int.neg_mul_neg] at this; exact this
theorem x_x1_nn (x : Int) : 0 ≤ x * (x + 1) := by
  rcases Int.le_total 0 x with h | h
  · exact Int.mul_nonneg h (by omega)
  · by_cases e : x = 0
    · subst e; omega
    · have := Int.mul_nonneg (show 0 ≤ -x by omega) (show 0 ≤ -(x + 1) by omega)
      rw [Int.neg_mul_neg] at this; exact this
theorem abs_mul_le {a b A B : Int} (h1 : -A ≤ a) (h2 : a ≤ A) (h3 : -B ≤ b) (h4 : b ≤ B) : -(A * B) ≤ a * b ∧ a * b ≤ A * B := by
  have hA : 0 ≤ A := by omega
  have hB : 0 ≤ B := by omega
  have e1 := Int.mul_nonneg (show 0 ≤ A - a by omega) (show 0 ≤ B + b by omega)
  have e2 := Int.mul_nonneg (show 0 ≤ A + a by omega) (show 0 ≤ B - b by omega)
  have e3 := Int.mul_nonneg (show 0 ≤ A + a by omega) (show 0 ≤ B + b by omega)
  have e4 := Int.mul_nonneg (show 0 ≤ A - a by omega) (show 0 ≤ B - b by omega)
  simp only [Int.add_mul, Int.sub_mul, Int.mul_add, Int.mul_sub] at e1 e2 e3 e4
  have c : a * B = B * a := Int.mul_comm _ _
  constructor <;> omega
/-- x is not far: its kinds fit the machine's long numbers -/
theorem kV_le {k x : Int} (h1 : -20000 ≤ x) (h2 : x ≤ 20000) : -200000000000000000 ≤ kV k x ∧ kV k x ≤ 200000000000000000 := by
  have a2 := abs_mul_le h1 h2 h1 h2
  have a3 := abs_mul_le a2.1 a2.2 h1 h2
  have a4 := abs_mul_le a3.1 a3.2 h1 h2
  have b2 := abs_mul_le h1 h2 (show -20001 ≤ x + 1 by omega) (show x + 1 ≤ 20001 by omega)
  unfold kV
  split
  · omega
  split
  · omega
  split
  · omega
  split
  · omega
  · omega
theorem kV_le4 {k x : Int} (h1 : -4100 ≤ x) (h2 : x ≤ 4100) : -300000000000000 ≤ kV k x ∧ kV k x ≤ 300000000000000 := by
  have a2 := abs_mul_le h1 h2 h1 h2
  have a3 := abs_mul_le a2.1 a2.2 h1 h2
  have a4 := abs_mul_le a3.1 a3.2 h1 h2
  have b2 := abs_mul_le h1 h2 (show -4101 ≤ x + 1 by omega) (show x + 1 ≤ 4101 by omega)
  unfold kV
  split
  · omega
  split
  · omega
  split
  · omega
  split
  · omega
  · omega
theorem kV_leN {k x : Int} (h1 : -10000 ≤ x) (h2 : x ≤ 10000) : -10000000000000000 ≤ kV k x ∧ kV k x ≤ 10000000000000000 := by
  have a2 := abs_mul_le h1 h2 h1 h2
  have a3 := abs_mul_le a2.1 a2.2 h1 h2
  have a4 := abs_mul_le a3.1 a3.2 h1 h2
  have b2 := abs_mul_le h1 h2 (show -10001 ≤ x + 1 by omega) (show x + 1 ≤ 10001 by omega)
  unfold kV
  split
  · omega
  split
  · omega
  split
  · omega
  split
  · omega
  · omega
theorem lI_half {z : Int} (h0 : 0 ≤ z) (h1 : z < 9223372036854775808) : lI z / lI 2 = lI (z / 2) := by
  have h := Int64.ofInt_tdiv (a := z) (b := 2) (by show (-9223372036854775808 : Int) ≤ z; omega) (by show z ≤ 9223372036854775807; omega) (by decide) (by decide)
  rw [Int.tdiv_eq_ediv_of_nonneg h0] at h
  exact h.symm
