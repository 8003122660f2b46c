set_option maxRecDepth 100000
set_option maxHeartbeats 4000000
/-- a number as the machine holds it -/
def iI (z : Int) : Int32 := Int32.ofInt z
def lI (z : Int) : Int64 := Int64.ofInt z
theorem iI_add (a b : Int) : iI a + iI b = iI (a + b) := (Int32.ofInt_add a b).symm
theorem iI_sub (a b : Int) : iI a - iI b = iI (a - b) := (Int32.ofInt_sub a b).symm
theorem iI_mul (a b : Int) : iI a * iI b = iI (a * b) := (Int32.ofInt_mul a b).symm
theorem iI_neg (a : Int) : -iI a = iI (-a) := (Int32.ofInt_neg a).symm
theorem lI_add (a b : Int) : lI a + lI b = lI (a + b) := (Int64.ofInt_add a b).symm
theorem lI_sub (a b : Int) : lI a - lI b = lI (a - b) := (Int64.ofInt_sub a b).symm
theorem lI_mul (a b : Int) : lI a * lI b = lI (a * b) := (Int64.ofInt_mul a b).symm
theorem lI_neg (a : Int) : -lI a = lI (-a) := (Int64.ofInt_neg a).symm
theorem iLit (n : Nat) : (no_index (OfNat.ofNat n) : Int32) = iI (OfNat.ofNat n) := rfl
theorem lLit (n : Nat) : (no_index (OfNat.ofNat n) : Int64) = lI (OfNat.ofNat n) := rfl
theorem nI_i (n : Nat) : nI n = iI n := rfl
theorem iI_toInt {z : Int} (h1 : -2147483648 ≤ z) (h2 : z < 2147483648) : (iI z).toInt = z := Int32.toInt_ofInt_of_le h1 h2
theorem lI_toInt {z : Int} (h1 : -9223372036854775808 ≤ z) (h2 : z < 9223372036854775808) : (lI z).toInt = z := Int64.toInt_ofInt_of_le h1 h2
theorem iI_l {z : Int} (h1 : -2147483648 ≤ z) (h2 : z < 2147483648) : (iI z).toInt64 = lI z := by
  apply Int64.toInt_inj.mp
  rw [Int32.toInt_toInt64, iI_toInt h1 h2, lI_toInt (by omega) (by omega)]
theorem lI_i (z : Int) : (lI z).toInt32 = iI z := Int64.toInt32_ofInt
theorem iI_nat {z : Int} (h1 : -2147483648 ≤ z) (h2 : z < 2147483648) : (iI z).toNatClampNeg = z.toNat := by
  show (iI z).toInt.toNat = z.toNat
  rw [iI_toInt h1 h2]
theorem iI_lt {a b : Int} (h1 : -2147483648 ≤ a) (h2 : a < 2147483648) (h3 : -2147483648 ≤ b) (h4 : b < 2147483648) : (iI a < iI b) ↔ a < b := by
  rw [Int32.lt_iff_toInt_lt, iI_toInt h1 h2, iI_toInt h3 h4]
theorem iI_le {a b : Int} (h1 : -2147483648 ≤ a) (h2 : a < 2147483648) (h3 : -2147483648 ≤ b) (h4 : b < 2147483648) : (iI a ≤ iI b) ↔ a ≤ b := by
  rw [Int32.le_iff_toInt_le, iI_toInt h1 h2, iI_toInt h3 h4]
theorem iI_eq {a b : Int} (h1 : -2147483648 ≤ a) (h2 : a < 2147483648) (h3 : -2147483648 ≤ b) (h4 : b < 2147483648) : (iI a = iI b) ↔ a = b := by
  rw [← Int32.toInt_inj, iI_toInt h1 h2, iI_toInt h3 h4]
theorem lI_lt {a b : Int} (h1 : -9223372036854775808 ≤ a) (h2 : a < 9223372036854775808) (h3 : -9223372036854775808 ≤ b) (h4 : b < 9223372036854775808) : (lI a < lI b) ↔ a < b := by
  rw [Int64.lt_iff_toInt_lt, lI_toInt h1 h2, lI_toInt h3 h4]
theorem lI_le {a b : Int} (h1 : -9223372036854775808 ≤ a) (h2 : a < 9223372036854775808) (h3 : -9223372036854775808 ≤ b) (h4 : b < 9223372036854775808) : (lI a ≤ lI b) ↔ a ≤ b := by
  rw [Int64.le_iff_toInt_le, lI_toInt h1 h2, lI_toInt h3 h4]
theorem lI_eq {a b : Int} (h1 : -9223372036854775808 ≤ a) (h2 : a < 9223372036854775808) (h3 : -9223372036854775808 ≤ b) (h4 : b < 9223372036854775808) : (lI a = lI b) ↔ a = b := by
  rw [← Int64.toInt_inj, lI_toInt h1 h2, lI_toInt h3 h4]
theorem iI_in {z : Int} {n : Nat} (h1 : 0 ≤ z) (h2 : z < n) (h3 : z < 2147483648) : vp_in (iI z) n := by
  rintro (h | h)
  · rw [show (0 : Int32) = iI 0 from rfl, iI_lt (by omega) h3 (by omega) (by omega)] at h
    omega
  · rw [iI_nat (by omega) h3] at h
    omega
theorem i32_iI (x : Int32) : x = iI x.toInt := (Int32.ofInt_toInt x).symm
theorem i64_lI (x : Int64) : x = lI x.toInt := (Int64.ofInt_toInt x).symm
theorem i32_ex (x : Int32) : ∃ z : Int, x = iI z ∧ -2147483648 ≤ z ∧ z < 2147483648 := ⟨x.toInt, i32_iI x, Int32.le_toInt x, Int32.toInt_lt x⟩
theorem i64_ex (x : Int64) : ∃ z : Int, x = lI z ∧ -9223372036854775808 ≤ z ∧ z < 9223372036854775808 := ⟨x.toInt, i64_lI x, Int64.le_toInt x, Int64.toInt_lt x⟩
theorem b_t {C P Q : Prop} (h : C) (p : P) : (C → P) ∧ (¬ C → Q) := ⟨fun _ => p, fun n => absurd h n⟩
theorem b_f {C P Q : Prop} (h : ¬ C) (q : Q) : (C → P) ∧ (¬ C → Q) := ⟨fun n => absurd n h, fun _ => q⟩
theorem mB_mB (S : MS) (k : Nat) (f g : Nat → Int64) : mB (mB S k f) k g = mB S k g := by
  unfold mB
  congr 3
  funext j
  unfold va_up
  split
  · rfl
  · rename_i h
    show (if j = k then _ else _) = _
    rw [if_neg h]
theorem mA_mA (S : MS) (k : Nat) (f g : Nat → Int32) : mA (mA S k f) k g = mA S k g := by
  unfold mA
  congr 3
  funext j
  unfold va_up
  split
  · rfl
  · rename_i h
    show (if j = k then _ else _) = _
    rw [if_neg h]
theorem mI_mI (S : MS) (k : Nat) (f g : Int32) : mI (mI S k f) k g = mI S k g := by
  unfold mI
  congr 1
  funext j
  unfold va_up
  split
  · rfl
  · rename_i h
    show (if j = k then _ else _) = _
    rw [if_neg h]
theorem up_eq {α : Type} (f : Nat → α) (k : Nat) (v : α) : va_up f k v k = v := by unfold va_up; rw [if_pos rfl]
theorem up_ne {α : Type} (f : Nat → α) (k : Nat) (v : α) {j : Nat} (h : j ≠ k) : va_up f k v j = f j := by unfold va_up; rw [if_neg h]
