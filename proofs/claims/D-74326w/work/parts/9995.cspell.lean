set_option maxRecDepth 100000
set_option maxHeartbeats 4000000
/-! the component: spell -/
theorem gtR_is {f k : Int} : ∀ (m : Nat) (x H : Int), x ≤ H → H < x + m → (∀ z, x < z → z ≤ H → f * kV k z ≤ 3000) → 3000 < f * kV k (H + 1) → gtR f k m x = H
  | 0, x, H, h1, h2, _, _ => by omega
  | m + 1, x, H, h1, h2, h3, h4 => by
    unfold gtR
    by_cases c : x = H
    · rw [c]
      first | rw [if_pos h4] | rw [if_neg (by omega)]
    · have := h3 (x + 1) (by omega) (by omega)
      first | rw [if_neg (by omega)] | rw [if_pos (by omega)]
      exact gtR_is m (x + 1) H (by omega) (by omega) (fun z z1 z2 => h3 z (by omega) z2) h4
/-- the greatest of a plain term, told by what comes next -/
theorem gtS_iff {t : tm} (h : vT t) (h0 : t.2.2.1 = 0) : t.2.2.2 = gtS t.1 t.2.1 ↔ 3000 < tv t (t.2.2.2 + 1) := by
  obtain ⟨a1, a2, a3, a4, a5, a6, a7, a8⟩ := h
  have hup : ∀ z, 3001 ≤ z → 3000 < t.1 * kV t.2.1 z := fun z hz => by
    have h1 := kV_ge (k := t.2.1) (x := z) (by omega)
    have h2 : 1 * kV t.2.1 z ≤ t.1 * kV t.2.1 z := Int.mul_le_mul_of_nonneg_right a1 (by omega)
    omega
  -- the greatest as such
  have ex : ∀ n : Nat, (∀ z : Int, 0 < z → z ≤ (3001 - n : Int) → 0 ≤ z → t.1 * kV t.2.1 z ≤ 3000) → n ≤ 3001 → ∃ H : Int, 0 ≤ H ∧ H ≤ 3000 ∧ (∀ z, 0 < z → z ≤ H → t.1 * kV t.2.1 z ≤ 3000) ∧ 3000 < t.1 * kV t.2.1 (H + 1) := by
    intro n
    induction n with
    | zero => intro hz _; have := hup 3001 (by omega); have := hz 3001 (by omega) (by omega) (by omega); omega
    | succ n ih =>
      intro hz hn
      by_cases c : 3000 < t.1 * kV t.2.1 ((3001 - (n + 1 : Nat) : Int) + 1)
      · exact ⟨3001 - (n + 1 : Nat), by omega, by omega, fun z z1 z2 => hz z z1 z2 (by omega), c⟩
      · refine ih (fun z z1 z2 z3 => ?_) (by omega)
        by_cases e : z = (3001 - (n + 1 : Nat) : Int) + 1
        · rw [e]; omega
        · exact hz z z1 (by omega) z3
  obtain ⟨H, H0, H1, H2, H3⟩ := ex 3001 (fun z z1 z2 => by omega) (by omega)
  have hg : gtS t.1 t.2.1 = H := by unfold gtS; exact gtR_is 3001 0 H H0 (by omega) H2 H3
  rw [hg]
  unfold tv at a8 ⊢
  refine ⟨fun e => by rw [e]; exact H3, fun e => ?_⟩
  have b1 : ¬ H < t.2.2.2 := fun c => by
    have := (a8 (H + 1) (by omega) (by omega)).2; omega
  have b2 : ¬ t.2.2.2 < H := fun c => by
    have := H2 (t.2.2.2 + 1) (by omega) (by omega); omega
  omega
section
variable {K : Nat → Nat → Nat} {a : Nat → Nat}
/-- a builder beside the component's cells that change -/
theorem sBd.kp {S0 : CS} {N0 N N' : NM} {x bc bs : Nat} {L : List Int} (hL0 : cL K a S0 N0) (h : sBd N0 N x L bc bs) (hk : kp a N N') (hd : dm N0 N') : sBd N0 N' x L bc bs := by
  obtain ⟨y, cap, f, hh, x0, y0, -, h1, h2, h3⟩ := h
  exact ⟨y, cap, f, hh, x0, y0, hd, hk _ _ h1 (hL0.outN x0), hk _ _ h2 (hL0.outN y0), h3⟩
theorem sBd.dm {N0 N : NM} {x bc bs : Nat} {L : List Int} (h : sBd N0 N x L bc bs) : dm N0 N := by
  obtain ⟨y, cap, f, hh, x0, y0, hd, -⟩ := h
  exact hd
/-- where the terms of a spelled form lie -/
def spI (K : Nat → Nat → Nat) (a : Nat → Nat) (S0 : CS) (N0 : NM) (S : CS) (N : NM) (x : Nat) (L : List Int) (mc ms : Nat) : Prop := cQ K a S0 N0 S N ∧ ∃ bc bs, sBd N0 N x L bc bs ∧ bc + 2 ≤ mc ∧ bs + 2310 ≤ ms
theorem c_sp_123 {K23 : Nat → Option Nat → Nat → Int32 → Nat → Nat → NM → Prop} {post : Int32 → NM → Prop} {S0 S : CS} {N0 N : NM} {x mc ms z q : Nat} {t : tm} {x4 v : Int32} {L : List Int} (hL0 : cL K a S0 N0) (ht : vT t) (hz : N0 z = some (oTm K t)) (hI : spI K a S0 N0 S N x L mc ms) (hl : L.length ≤ 2270) (hv : v = 0 ∨ v = 1) (h : ∀ N' mc' ms', spI K a S0 N0 S N' x (L ++ (if v = 0 then wL 6 ++ (numS t.2.2.1 ++ (wL 7 ++ numS t.2.2.2)) else [])) mc' ms' → K23 (a 0) (some q) x (x4 + 1) mc' ms' N') : wX0_spell_123 K K23 post (a 0) (some q) x x4 (some z) v mc ms N := by
  obtain ⟨hQ, bc, bs, hB, hc, hs⟩ := hI
  obtain ⟨b1, b2, b3, b4, b5, b6, b7, -⟩ := ht
  unfold wX0_spell_123
  rcases hv with e | e
  · subst e
    rw [if_pos rfl] at h
    refine b_t rfl ?_
    have hw6 := wL_len 6 (by omega)
    have hw7 := wL_len 7 (by omega)
    have hn1 := numS_len t.2.2.1
    obtain ⟨f1, f2, f3, f4, o1⟩ := hB.x
    refine ⟨_, _, _, _, o1, ?_⟩
    obtain ⟨uc, us, bc1, bs1, u1, u2, hA⟩ := c_appS (K := K) (t := 6) hB (by omega) (by omega)
    refine ⟨uc, us, by omega, by omega, hA uc us (Nat.le_refl _) (Nat.le_refl _) _ (fun N1 hB1 hf1 => ?_)⟩
    have hQ1 := hQ.fb hL0 hf1
    have oz : ∀ {N' : NM} {S' : CS}, cQ K a S0 N0 S' N' → N' z = some (oTm K t) := fun {N' S'} hq => hq.2.1 z _ hz (hL0.out hz rfl)
    obtain ⟨g1, g2, g3, g4, o2⟩ := hB1.x
    refine ⟨z, rfl, _, _, _, _, oz hQ1, _, _, _, _, o2, ?_⟩
    obtain ⟨uc2, us2, bc2, bs2, v1, v2, hA2⟩ := c_appI (K := K) (v := t.2.2.1) hB1 (by omega) (by rw [List.length_append]; omega)
    refine ⟨uc2, us2, by omega, by omega, hA2 uc2 us2 (Nat.le_refl _) (Nat.le_refl _) _ (fun N2 hB2 hf2 => ?_)⟩
    have hQ2 := hQ1.fb hL0 hf2
    obtain ⟨g1, g2, g3, g4, o3⟩ := hB2.x
    refine ⟨_, _, _, _, o3, ?_⟩
    obtain ⟨uc3, us3, bc3, bs3, w1, w2, hA3⟩ := c_appS (K := K) (t := 7) hB2 (by omega) (by simp only [List.length_append]; omega)
    refine ⟨uc3, us3, by omega, by omega, hA3 uc3 us3 (Nat.le_refl _) (Nat.le_refl _) _ (fun N3 hB3 hf3 => ?_)⟩
    have hQ3 := hQ2.fb hL0 hf3
    obtain ⟨g1, g2, g3, g4, o4⟩ := hB3.x
    refine ⟨_, _, _, _, oz hQ3, _, _, _, _, o4, ?_⟩
    obtain ⟨uc4, us4, bc4, bs4, x1, x2, hA4⟩ := c_appI (K := K) (v := t.2.2.2) hB3 (by omega) (by simp only [List.length_append]; omega)
    refine ⟨uc4, us4, by omega, by omega, hA4 uc4 us4 (Nat.le_refl _) (Nat.le_refl _) _ (fun N4 hB4 hf4 => ?_)⟩
    have hQ4 := hQ3.fb hL0 hf4
    unfold wX0_spell_160
    refine h N4 _ _ ⟨hQ4, bc4, bs4, ?_, by omega, by omega⟩
    simp only [List.append_assoc] at hB4
    exact hB4
  · subst e
    rw [if_neg (by decide), List.append_nil] at h
    refine b_f (by decide) ?_
    unfold wX0_spell_160
    exact h N mc ms ⟨hQ, bc, bs, hB, hc, hs⟩
end
