set_option maxRecDepth 100000
set_option maxHeartbeats 4000000
/-! sums, differences, products that may go beyond -/
theorem msb64 (x : Int64) : x.toBitVec.msb = decide (x.toInt < 0) := by
  rw [BitVec.msb_eq_toInt]; rfl
theorem nn64 (x : Int64) : ((0 : Int64) ≤ x) ↔ x.toBitVec.msb = false := by
  rw [msb64, Int64.le_iff_toInt_le]
  simp
theorem wrap64 (z : Int) : (lI z).toInt = z.bmod 18446744073709551616 := Int64.toInt_ofInt
theorem wrapN {z : Int} (h1 : -20000000000000000000 ≤ z) (h2 : z ≤ 20000000000000000000) : z.bmod 18446744073709551616 = if z < -9223372036854775808 then z + 18446744073709551616 else if 9223372036854775808 ≤ z then z - 18446744073709551616 else z := by
  unfold Int.bmod
  simp only []
  split <;> split <;> (try split) <;> omega
theorem plus_nn {a b : Int} (ha : i64 a) (hb : i64 b) : ((0 : Int64) ≤ ((lI a ^^^ (lI a + lI b)) &&& (lI b ^^^ (lI a + lI b)))) ↔ i64 (a + b) := by
  rw [nn64, lI_add]
  simp only [Int64.toBitVec_and, Int64.toBitVec_xor, BitVec.msb_and, BitVec.msb_xor, msb64, wrap64]
  have h1 : a.bmod 18446744073709551616 = a := by rw [Int.bmod_eq_of_le] <;> omega
  have h2 : b.bmod 18446744073709551616 = b := by rw [Int.bmod_eq_of_le] <;> omega
  rw [h1, h2]
  have h3 : (a + b).bmod 18446744073709551616 = if a + b < -9223372036854775808 then a + b + 18446744073709551616 else if 9223372036854775808 ≤ a + b then a + b - 18446744073709551616 else a + b := by
    exact wrapN (by omega) (by omega)
  rw [h3]
  split
  · have e1 : decide (a < 0) = true := by simp; omega
    have e2 : decide (b < 0) = true := by simp; omega
    have e3 : decide (a + b + 18446744073709551616 < 0) = false := by simp; omega
    rw [e1, e2, e3]; simp; omega
  split
  · have e1 : decide (a < 0) = false := by simp; omega
    have e2 : decide (b < 0) = false := by simp; omega
    have e3 : decide (a + b - 18446744073709551616 < 0) = true := by simp; omega
    rw [e1, e2, e3]; simp; omega
  · by_cases e1 : a < 0 <;> by_cases e2 : b < 0 <;> by_cases e3 : a + b < 0 <;> simp [e1, e2, e3] <;> omega
theorem minus_nn {a b : Int} (ha : i64 a) (hb : i64 b) : ((0 : Int64) ≤ ((lI a ^^^ lI b) &&& (lI a ^^^ (lI a - lI b)))) ↔ i64 (a - b) := by
  rw [nn64, lI_sub]
  simp only [Int64.toBitVec_and, Int64.toBitVec_xor, BitVec.msb_and, BitVec.msb_xor, msb64, wrap64]
  have h1 : a.bmod 18446744073709551616 = a := by rw [Int.bmod_eq_of_le] <;> omega
  have h2 : b.bmod 18446744073709551616 = b := by rw [Int.bmod_eq_of_le] <;> omega
  rw [h1, h2, wrapN (z := a - b) (by omega) (by omega)]
  split
  · have e1 : decide (a < 0) = true := by simp; omega
    have e2 : decide (b < 0) = false := by simp; omega
    have e3 : decide (a - b + 18446744073709551616 < 0) = false := by simp; omega
    rw [e1, e2, e3]; simp; omega
  split
  · have e1 : decide (a < 0) = false := by simp; omega
    have e2 : decide (b < 0) = true := by simp; omega
    have e3 : decide (a - b - 18446744073709551616 < 0) = true := by simp; omega
    rw [e1, e2, e3]; simp; omega
  · by_cases e1 : a < 0 <;> by_cases e2 : b < 0 <;> by_cases e3 : a - b < 0 <;> simp [e1, e2, e3] <;> omega
theorem m_plus {post : Int64 → MS → Prop} {S : MS} {a b : Int} (ha : i64 a) (hb : i64 b) (h1 : i64 (a + b) → post (lI (a + b)) S) (h0 : ¬ i64 (a + b) → post (lI (a + b)) (mI S 44 1)) : wX1_plus post S (lI a) (lI b) := by
  unfold wX1_plus
  rw [plus_nn ha hb, lI_add]
  exact ⟨h1, h0⟩
theorem m_minus {post : Int64 → MS → Prop} {S : MS} {a b : Int} (ha : i64 a) (hb : i64 b) (h1 : i64 (a - b) → post (lI (a - b)) S) (h0 : ¬ i64 (a - b) → post (lI (a - b)) (mI S 44 1)) : wX1_minus post S (lI a) (lI b) := by
  unfold wX1_minus
  rw [minus_nn ha hb, lI_sub]
  exact ⟨h1, h0⟩
