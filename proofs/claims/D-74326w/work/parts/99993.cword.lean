set_option maxRecDepth 100000
set_option maxHeartbeats 4000000
/-! a word seen is a text -/
theorem snL_at (T : Nat → Int) (n : Nat) : ∀ (m q : Nat), snL T n m q = (List.range (min m (runE isL T n m q - q))).map (fun j => T (q + j))
  | 0, q => by unfold snL runE; simp
  | m + 1, q => by
    unfold snL runE
    by_cases c : isL (chr T n q) = true
    · rw [if_pos c, if_pos c, snL_at T n m (q + 1)]
      have := runE_le isL T n m (q + 1)
      rw [show min (m + 1) (runE isL T n m (q + 1) - q) = min m (runE isL T n m (q + 1) - (q + 1)) + 1 by omega, List.range_succ_eq_map, List.map_cons, List.map_map]
      refine congr (congrArg List.cons ?_) (List.map_congr_left (fun j _ => ?_))
      · rw [Nat.add_zero]
      · show T (q + 1 + j) = T (q + (j + 1))
        rw [show q + 1 + j = q + (j + 1) by omega]
    · rw [if_neg c, if_neg c]; simp
/-- a run looked at for m signs alone -/
theorem runE_min (P : Int → Bool) (T : Nat → Int) (n : Nat) (hP : P (-1) = false) : ∀ (m k q : Nat), n ≤ q + k → min m (runE P T n m q - q) = min m (runE P T n k q - q)
  | 0, k, q, _ => by omega
  | m + 1, 0, q, h => by
    unfold runE
    rw [if_neg (by unfold chr; rw [if_neg (by omega), hP]; decide)]
  | m + 1, k + 1, q, h => by
    have e1 : runE P T n (m + 1) q = if P (chr T n q) = true then runE P T n m (q + 1) else q := rfl
    have e2 : runE P T n (k + 1) q = if P (chr T n q) = true then runE P T n k (q + 1) else q := rfl
    rw [e1, e2]
    by_cases c : P (chr T n q) = true
    · rw [if_pos c, if_pos c]
      have h1 := runE_min P T n hP m k (q + 1) (by omega)
      have h2 := runE_le P T n m (q + 1)
      have h3 := runE_le P T n k (q + 1)
      omega
    · rw [if_neg c, if_neg c]
