set_option maxRecDepth 100000
set_option maxHeartbeats 4000000
/-! products that may go beyond -/
theorem lI_wrap (z : Int) : lI z = lI (z.bmod 18446744073709551616) := by
  apply Int64.toInt_inj.mp
  rw [wrap64, wrap64, Int.bmod_bmod]
theorem bm_in (z : Int) : i64 (z.bmod 18446744073709551616) ∧ ∃ k : Int, z.bmod 18446744073709551616 = z - 18446744073709551616 * k := by
  refine ⟨⟨?_, ?_⟩, ?_⟩
  · have := @Int.le_bmod z 18446744073709551616 (by decide); omega
  · have := @Int.bmod_lt z 18446744073709551616 (by decide); omega
  · unfold Int.bmod
    simp only []
    split
    · exact ⟨z / 18446744073709551616, by omega⟩
    · exact ⟨z / 18446744073709551616 + 1, by omega⟩
theorem div64 {v a : Int} (hv : i64 v) (ha : i64 a) : lI v / lI a = lI (v.tdiv a) := (Int64.ofInt_tdiv (a := v) (b := a) (by show (-9223372036854775808 : Int) ≤ v; omega) (by show v ≤ 9223372036854775807; omega) (by show (-9223372036854775808 : Int) ≤ a; omega) (by show a ≤ 9223372036854775807; omega)).symm
theorem times_no {a b : Int} (ha : i64 a) (hb : i64 b) (h0 : a ≠ 0) (hn : ¬ i64 (a * b)) (h : lI (a * b) / lI a = lI b) : a = -1 ∧ b = -9223372036854775808 := by
  obtain ⟨hv, k, hk⟩ := bm_in (a * b)
  rw [lI_wrap (a * b)] at h
  obtain ⟨v, ev⟩ : ∃ v, v = (a * b).bmod 18446744073709551616 := ⟨_, rfl⟩
  rw [← ev] at hv hk h
  rw [div64 hv ha] at h
  obtain ⟨c, ec⟩ : ∃ c, c = a * b := ⟨_, rfl⟩
  rw [← ec] at hk hn
  have hk0 : k ≠ 0 := fun q => hn (by rw [q] at hk; omega)
  by_cases hq : i64 (v.tdiv a)
  · exfalso
    rw [lI_eq (by omega) (by omega) (by omega) (by omega)] at h
    have e := Int.mul_tdiv_add_tmod v a
    have m := Int.natAbs_tmod v a
    have l := Nat.mod_lt v.natAbs (show 0 < a.natAbs by omega)
    rw [← m] at l
    rw [h, ← ec] at e
    omega
  · by_cases a1 : a = 1
    · exfalso; rw [a1, Int.tdiv_one] at hq; exact hq hv
    · by_cases a2 : a = -1
      · refine ⟨a2, ?_⟩
        rw [a2, Int.tdiv_neg, Int.tdiv_one] at hq
        rw [a2] at ec
        omega
      · exfalso
        have d : (v.tdiv a).natAbs = v.natAbs / a.natAbs := Int.natAbs_tdiv v a
        have q2 : v.natAbs / a.natAbs ≤ v.natAbs / 2 := Nat.div_le_div_left (by omega) (by omega)
        omega
theorem m_times {post : Int64 → MS → Prop} {S : MS} {a b : Int} (ha : i64 a) (hb : i64 b) (h1 : i64 (a * b) → post (lI (a * b)) S) (h0 : ¬ i64 (a * b) → post (lI (a * b)) (mI S 44 1)) : wX1_times post S (lI a) (lI b) := by
  unfold wX1_times wX1_times_36
  rw [lI_mul, show (0 : Int64) = lI 0 from rfl, show (-1 : Int64) = lI (-1) from rfl, show (-9223372036854775808 : Int64) = lI (-9223372036854775808) from rfl, lI_eq (by omega) (by omega) (by omega) (by omega), lI_eq (by omega) (by omega) (by omega) (by omega), lI_eq (by omega) (by omega) (by omega) (by omega)]
  refine ⟨fun c => h1 (by rw [c, Int.zero_mul]; omega), fun c => ⟨c, ?_⟩⟩
  by_cases g : i64 (a * b)
  · have e : lI (a * b) / lI a = lI b := by rw [div64 g ha, Int.mul_tdiv_cancel_left _ c]
    refine b_t e ⟨fun c1 => b_f (fun c2 => ?_) (h1 g), fun _ => h1 g⟩
    rw [c1, c2] at g
    exact absurd g (by decide)
  · refine ⟨fun e => ?_, fun _ => h0 g⟩
    obtain ⟨e1, e2⟩ := times_no ha hb c g e
    exact b_t e1 (b_t e2 (h0 g))
