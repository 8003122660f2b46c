set_option maxRecDepth 100000
set_option maxHeartbeats 4000000
theorem srt1 {T : Nat → Int} {n p : Nat} : srt T n p = 1 ↔ isL (chr T n p) = true := by
  unfold srt chr
  by_cases c : n ≤ p
  · rw [if_pos c, if_neg (by omega)]
    exact ⟨fun e => by omega, fun e => absurd e (by decide)⟩
  · rw [if_neg c, if_pos (show p < n by omega)]
    by_cases c1 : isL (T p) = true
    · rw [if_pos c1]; exact ⟨fun _ => c1, fun _ => rfl⟩
    · rw [if_neg c1]
      refine ⟨fun e => ?_, fun e => absurd e c1⟩
      split at e <;> omega
theorem wL_rng {t : Nat} (ht : t < 12) : wL t = (List.range (sLen.getD t 0)).map (fun j => sC t j) := by
  have : ∀ t : Fin 12, wL t.val = (List.range (sLen.getD t.val 0)).map (fun j => sC t.val j) := by decide +kernel
  exact this ⟨t, ht⟩
/-- the word at p is the text t: what is seen is the text -/
theorem wd_iff {T : Nat → Int} {n p t : Nat} (ht : t < 12) (h1 : 1 ≤ sLen.getD t 0) (h6 : sLen.getD t 0 ≤ 6) : snL T n 8 p = wL t ↔ wdIs T n p t := by
  rw [wL_rng ht, snL_at, runE_min isL T n (by decide) 8 (n - p) p (by omega)]
  by_cases c : isL (chr T n p) = true
  · have hs := srt1.2 c
    have hq := chr_of (P := isL) (by decide) c
    have he : ende T n p = runE isL T n (n - p) p := by
      unfold ende
      rw [if_neg (by omega), if_pos (by rw [← hq.2]; exact c)]
    have hle := runE_le isL T n (n - p) p
    rw [← he] at hle ⊢
    refine ⟨fun e => ?_, fun e => ?_⟩
    · have el := congrArg List.length e
      simp only [List.length_map, List.length_range] at el
      refine ⟨hs, by omega, fun j hj => ?_⟩
      have := congrArg (fun L => L[j]?) e
      simp only [List.getElem?_map] at this
      rw [List.getElem?_range (by omega), List.getElem?_range hj] at this
      exact Option.some.inj this
    · rw [show min 8 (ende T n p - p) = sLen.getD t 0 by have := e.2.1; omega]
      exact List.map_congr_left (fun j hj => e.2.2 j (List.mem_range.mp hj))
  · have hs : ¬ srt T n p = 1 := fun e => c (srt1.1 e)
    have he : runE isL T n (n - p) p = p := by
      cases n - p with
      | zero => rfl
      | succ k => unfold runE; rw [if_neg c]
    rw [he]
    refine ⟨fun e => ?_, fun e => absurd e.1 hs⟩
    have el := congrArg List.length e
    simp only [List.length_map, List.length_range] at el
    omega
