set_option maxRecDepth 100000
set_option maxHeartbeats 4000000
/-! all of a proof -/
theorem wyRd_k {T : Nat → Int} {n : Nat} {L : List tm} {z k i' : Int} {q : Nat} : ∀ (m i p : Nat) (sum : Int), wyRd T n L z m i p sum = .inl (k, q, i') → 1 ≤ k ∧ k ≤ 9
  | 0, i, p, sum, h => by cases h; omega
  | m + 1, i, p, sum, h => by
    unfold wyRd at h
    split at h
    · cases h; omega
    split at h
    · cases h; omega
    split at h
    · cases h; omega
    split at h
    · cases h; omega
    split at h
    · exact wyRd_k m _ _ _ h
    split at h
    · cases h; omega
    split at h
    · cases h; omega
    · cases h
theorem lnE_k {T : Nat → Int} {n q q' : Nat} {z k i : Int} (h : lnE T n z q = .inl (k, q', i)) : 1 ≤ k ∧ k ≤ 9 := by
  unfold lnE at h
  split at h
  · cases h; omega
  · cases h
theorem lnC_k {T : Nat → Int} {n p q : Nat} {L : List tm} {z k i : Int} (h : lnC T n L z p = .inl (k, q, i)) : 1 ≤ k ∧ k ≤ 9 := by
  unfold lnC at h
  split at h
  · split at h
    · cases h; omega
    · exact lnE_k h
  · split at h
    · cases h; omega
    · cases e : wyRd T n L z 6 0 (nxT T n p) 0 with
      | inl x =>
        rw [e] at h
        cases h
        exact wyRd_k _ _ _ _ e
      | inr p3 =>
        rw [e] at h
        exact lnE_k h
theorem lnRd_k {T : Nat → Int} {n p q : Nat} {L : List tm} {P : List Int} {k i : Int} (h : lnRd T n L P p = .inl (k, q, i)) : 1 ≤ k ∧ k ≤ 9 := by
  unfold lnRd at h
  split at h
  · cases h; omega
  split at h
  · split at h <;> (cases h; omega)
  split at h
  · cases h; omega
  split at h
  · cases h; omega
  exact lnC_k h
theorem m_prove_32 {post : Int32 → MS → Prop} {S0 : MS} {F : Nat → List tm} {T : Nat → Int} {n s : Nat} (hF : mForms S0 F) (hT : mTp S0 T n) (hs : s < 4) (hne : F s ≠ []) : ∀ (m p : Nat) (P : List Int) (S : MS) (o i : Int), p ≤ n → P.length + m = 61 → P.length ≤ 60 → prI S0 F P S → mTok S T n p → going S o i → prO post S0 F (prRd T n (F s) m P p) → wX1_prove_32 post (m + 1) (iI s) (iI 1) (iI 1) S
  | 0, p, P, S, o, i, _, hl, hv, _, _, _, _ => by omega
  | m + 1, p, P, S, o, i, hp, hl, hv, hr, hk, hg, hO => by
    unfold wX1_prove_32
    refine b_f (by decide) ?_
    rw [hr.2.2.2.1, show (-1 : Int32) = iI (-1) from rfl]
    unfold prRd at hO
    have r1 : prI S0 F P (mI (mI S 18 (iI (P.length : Nat))) 19 (iI (-1))) := hr.rd (((rdEq.refl S).I 18 (by omega) _).I 19 (by omega) _)
    refine m_readLine (S0 := S0) (S := mI (mI S 18 (iI (P.length : Nat))) 19 (iI (-1))) (P := P) (o := (P.length : Nat)) hF hT hs hne hp r1 hk ((hg.out _).inn _) ⟨?_, ?_⟩
    · intro k q i S' e b r
      rw [e] at hO
      have hkk := lnRd_k e
      refine b_t rfl ?_
      unfold wX1_prove_68 wX1_prove_69
      exact m_prove_end (by omega) r b (fun _ S'' t => hO.1 k q P.length i S'' rfl t) (fun c => by omega)
    · intro z p' S' e k g r
      rw [e] at hO
      have hle := lnRd_le hp e
      have len : (P ++ [z]).length = P.length + 1 := by rw [List.length_append]; rfl
      refine b_f (by decide) ?_
      rw [k.1, show (0 : Int32) = iI 0 from rfl, iI_eq (by unfold srt; split <;> (try split) <;> (try split) <;> omega) (by unfold srt; split <;> (try split) <;> (try split) <;> omega) (by omega) (by omega)]
      refine ⟨fun c => ?_, fun c => ?_⟩
      · simp only [if_pos c] at hO
        unfold wX1_prove_68 wX1_prove_69
        exact m_prove_end (by omega) r g.bad (fun c => absurd rfl c) (fun _ S'' t => hO.2 (P ++ [z]) S'' rfl t)
      · simp only [if_neg c] at hO
        unfold wX1_prove_69
        exact m_prove_32 hF hT hs hne m p' (P ++ [z]) S' _ _ hle.1 (by rw [len]; omega) (by rw [len]; omega) r k g hO
theorem m_prove {post : Int32 → MS → Prop} {S : MS} {F : Nat → List tm} {T : Nat → Int} {n : Nat} {a : Int} (hF : mForms S F) (hL : mLaid S F) (hT : mTp S T n) (ha : i32 a) (h0 : ¬ (0 ≤ a ∧ a ≤ 3 ∧ F a.toNat ≠ []) → ∀ S', toldP S S' F 0 (-1) (-1) (-1) → post (iI (-2)) S') (h1 : ∀ d : Nat, d < 4 → a = d → F d ≠ [] → prO post S F (prR T n (F d))) : wX1_prove post S (iI a) := by
  unfold wX1_prove
  refine m_begins hT (fun S1 r e k g => ?_)
  have hr : prI S F [] (mI S1 32 (0 : Int32)) := by
    refine ⟨⟨fun q _ => by show S1.2.2.2 q = _; rw [r.1], fun q a b c => ?_, fun q a _ => r.2.2.1 q a, r.2.2.2.1, r.2.2.2.2⟩, hL.rd (r.2.1 21 (by omega)) (by show S1.2.2.2 22 = _; rw [r.1]), by decide, rfl, fun i x hx => by cases hx⟩
    show va_up S1.1 32 _ q = _
    rw [up_ne _ _ _ c]; exact r.2.1 q a
  have k2 : mTok (mI S1 32 (0 : Int32)) T n (sk T n 0) := k
  have g2 : going (mI S1 32 (0 : Int32)) 0 (-1) := g
  refine m_isForm (hr.1.forms hF) ha (fun s hs es hne => b_f (by decide) ?_) (fun c => b_t rfl ?_)
  · have hO := h1 s hs es hne
    unfold prR at hO
    rw [k2.1, show (0 : Int32) = iI 0 from rfl, iI_eq (by unfold srt; split <;> (try split) <;> (try split) <;> omega) (by unfold srt; split <;> (try split) <;> (try split) <;> omega) (by omega) (by omega), es]
    refine ⟨fun c => ?_, fun c => ?_⟩
    · rw [if_pos c] at hO
      exact ⟨1, m_prove_end (by omega) hr g2.bad (fun c => absurd rfl c) (fun _ S'' t => hO.2 [] S'' rfl t)⟩
    · rw [if_neg c] at hO
      exact ⟨62, m_prove_32 hF hT hs hne 61 _ [] _ _ _ (sk_le (T := T) (n := n) (p := 0) (by omega)).2 rfl (by decide) hr k2 g2 hO⟩
  · refine ⟨1, ?_⟩
    unfold wX1_prove_32
    exact b_t rfl (m_isRead (k := 0) (by omega) (rdEq.refl _) g2.bad (fun S' t _ _ => b_t rfl (h0 c S' (told.pr hr t))))
