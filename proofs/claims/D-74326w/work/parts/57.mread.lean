set_option maxRecDepth 100000
set_option maxHeartbeats 4000000
/-! the model reads a term -/
theorem upd_ne (f : Nat → Int32) (k : Nat) (x : Int32) {j : Nat} (h : j ≠ k) : upd f k x j = f j := if_neg h
theorem upd_eq (f : Nat → Int32) (k : Nat) (x : Int32) : upd f k x k = x := if_pos rfl
theorem m_rd_322 {post : Int32 → MS → Prop} {S : MS} {i : Nat} (hi : i < 5) (h4 : S.2.2.1 0 4 = iI i) (h : ∀ f : Nat → Int32, (∀ q, q < 4 → f q = S.2.2.1 0 q) → f 4 = iI ((i + 1 : Nat) : Int) → post 1 (mA S 0 f)) : wX1_readTerm_322 post S := by
  unfold wX1_readTerm_322
  refine ⟨iI_in (z := 4) (by omega) (by omega) (by omega), iI_in (z := 4) (by omega) (by omega) (by omega), ?_⟩
  rw [show Int32.toNatClampNeg 4 = 4 from rfl, h4]
  refine h _ (fun q hq => upd_ne _ _ _ (by omega)) ?_
  rw [upd_eq]; exact iI_add _ 1
/-- what a term's reading owes -/
abbrev owes (post : Int32 → MS → Prop) (S : MS) (T : Nat → Int) (n i : Nat) (o j : Int) (R : (Int × Nat) ⊕ (tm × Nat)) : Prop :=
  (∀ (k : Int) (q : Nat) (S' : MS), R = .inl (k, q) → mBad S' k q o j → rdEq S S' → post 0 S') ∧
  (∀ (t : tm) (p' : Nat) (S' : MS), R = .inr (t, p') → mTok S' T n p' → going S' o j → rdEq S S' → S'.2.2.1 0 4 = iI ((i + 1 : Nat) : Int) → rTm (S'.2.2.1 1) 4 i t → (∀ q, q < 4 * (5 * 4 + i) → S'.2.2.1 1 q = S.2.2.1 1 q) → post 1 S')
theorem m_rd_fail {post : Int32 → MS → Prop} {S S' : MS} {T : Nat → Int} {n i p : Nat} {o j : Int} {R : (Int × Nat) ⊕ (tm × Nat)} (hO : owes post S T n i o j R) (hr : rdEq S S') (hg : going S' o j) (hk : mTok S' T n p) (k : Int) (e : R = .inl (k, p)) : wX1_fails (fun r S46 => isB r ∧ post r S46) S' (iI k) :=
  m_fails (p := p) hg.1 hk.2.1 hg.2.1 hg.2.2.1 ⟨isB_0, hO.1 k p _ e (badS_bad _ _ _ _ _) (hr.bad _ _ _ _)⟩
theorem m_rdB {post : Int32 → MS → Prop} {S S0 : MS} {T : Nat → Int} {n i p1 : Nat} {f o j : Int} (hT : mTp S0 T n) (hp : p1 ≤ n) (hi : i < 5) (hf : 1 ≤ f ∧ f ≤ 99) (hr : rdEq S0 S) (hk : mTok S T n p1) (hg : going S o j) (h4 : S.2.2.1 0 4 = iI i) (hff : S.2.2.1 1 (4 * (5 * 4 + i)) = iI f) (hlow : ∀ q, q < 4 * (5 * 4 + i) → S.2.2.1 1 q = S0.2.2.1 1 q) (hO : owes post S0 T n i o j (tmB T n f p1)) : wX1_readTerm_117 post (iI i) (iI (4 * (5 * 4 + i) : Nat)) S := by
  have hn := hT.1
  have hTS := hr.tape hT
  unfold wX1_readTerm_117
  refine m_kindHere hk hn hp ?_
  have hkd := kdAt_in T n p1
  obtain ⟨k, ek⟩ : ∃ k, k = kdAt T n p1 := ⟨_, rfl⟩
  rw [← ek] at hkd ⊢
  simp (disch := omega) only [iLit, lLit, iI_add, iI_sub, iI_mul, iI_neg, lI_add, lI_sub, lI_mul, lI_neg, nI_i, lI_i, iI_eq]
  refine ⟨fun c => m_rd_fail hO hr hg hk 1 (by unfold tmB; rw [if_pos (by rw [← ek]; exact c)]), fun c => ?_⟩
  refine ⟨iI_in (by omega) (by omega) (by omega), iI_in (by omega) (by omega) (by omega), iI_in (by omega) (by omega) (by omega), ?_⟩
  simp (disch := omega) only [iI_nat, mA_mA]
  rw [show ((4 * (5 * 4 + i) : Nat) + 1 : Int).toNat = 4 * (5 * 4 + i) + 1 by omega, show ((4 * (5 * 4 + i) : Nat) + 2 : Int).toNat = 4 * (5 * 4 + i) + 2 by omega, show ((4 * (5 * 4 + i) : Nat) + 0 : Int).toNat = 4 * (5 * 4 + i) by omega, show ((4 * (5 * 4 + i) : Nat) + 3 : Int).toNat = 4 * (5 * 4 + i) + 3 by omega]
  rw [upd_ne _ _ _ (by omega), upd_ne _ _ _ (by omega), hff]
  refine m_greatest hf (by omega) ⟨iI_in (by omega) (by omega) (by omega), ?_⟩
  obtain ⟨F, eF⟩ : ∃ F, F = upd (upd (upd (S.2.2.1 1) (4 * (5 * 4 + i) + 1) (iI k)) (4 * (5 * 4 + i) + 2) (iI 0)) (4 * (5 * 4 + i) + 3) (iI (gtS f k)) := ⟨_, rfl⟩
  rw [← eF]
  have F0 : rTm F 4 i (f, k, 0, gtS f k) := by
    rw [eF]
    refine ⟨?_, ?_, ?_, ?_⟩
    · rw [upd_ne _ _ _ (by omega), upd_ne _ _ _ (by omega), upd_ne _ _ _ (by omega)]; exact hff
    · rw [upd_ne _ _ _ (by omega), upd_ne _ _ _ (by omega), upd_eq]
    · rw [upd_ne _ _ _ (by omega), upd_eq]
    · rw [upd_eq]
  have Flow : ∀ q, q < 4 * (5 * 4 + i) → F q = S0.2.2.1 1 q := fun q hq => by rw [eF, upd_ne _ _ _ (by omega), upd_ne _ _ _ (by omega), upd_ne _ _ _ (by omega)]; exact hlow q hq
  have rA : ∀ (S1 : MS) (G : Nat → Int32), rdEq S0 S1 → (∀ q, q < 4 * (5 * 4 + i) → G q = S0.2.2.1 1 q) → rdEq S0 (mA S1 1 G) := fun S1 G a b => a.A1 G (fun q hq => by rw [b q (by omega)]; exact (a.2.2.2.2 q hq).symm)
  have r1 := rA S F hr Flow
  refine m_nextT (S := mA S 1 F) (r1.tape hT) hp hk (fun S1 t1 k1 => ?_)
  have rr1 := r1.trans t1.rd
  have g1 : going S1 o j := t1.going hg
  have a1 : S1.2.2.1 1 = F := by rw [t1.1]; exact mA_at S 1 F
  have b1 : S1.2.2.1 0 4 = iI i := by rw [t1.1]; exact h4
  have q1 := (nxT_le (T := T) hp).2
  have w : ∀ t, t ∈ [0, 1, 2, 3, 4, 9, 10, 11] → sWd t := sWd_ok
  have ne1 : ¬ kdAt T n p1 = -1 := by rw [← ek]; exact c
  refine m_isWord k1 hn q1 (w 9 (by decide)) (fun wf => b_f (by decide) ?_) (fun wf => b_t rfl ?_)
  · -- bounds are told
    have eB : tmB T n f p1 = tmC T n f k (nxT T n (nxT T n p1)) := by unfold tmB; rw [if_neg ne1, if_neg (fun z => z wf), ← ek]
    rw [eB] at hO
    refine m_nextT (rr1.tape hT) q1 k1 (fun S2 t2 k2 => ?_)
    have rr2 := rr1.trans t2.rd
    have g2 : going S2 o j := t2.going g1
    have a2 : S2.2.2.1 1 = F := by rw [t2.1]; exact a1
    have b2 : S2.2.2.1 0 4 = iI i := by rw [t2.1]; exact b1
    have q2 := (nxT_le (T := T) q1).2
    obtain ⟨p3, ep3⟩ : ∃ p3, p3 = nxT T n (nxT T n p1) := ⟨_, rfl⟩
    rw [← ep3] at k2 q2 hO
    have hlo := whV_in (T := T) (n := n) (p := p3)
    refine m_comes (rr2.tape hT) q2 k2 g2 (fun S3 nb k3 g3 r3 e3 l3 => b_f (by decide) ?_) (fun S3 nb bd r3 => b_t rfl (hO.1 1 (whA T n p3) S3 (by unfold tmC; rw [if_pos nb]) bd (rr2.trans r3)))
    have rr3 := rr2.trans r3
    have a3 : S3.2.2.1 1 = F := by rw [e3]; exact a2
    have b3 : S3.2.2.1 0 4 = iI i := by rw [e3]; exact b2
    have q3 := (whA_le (T := T) q2).2
    refine m_wholeV k3 l3 ?_
    simp (disch := omega) only [iI_l]
    have hbk := kV_le (k := k) (x := whV T n p3) (by omega) (by omega)
    have hbk2 := abs_mul_le (show -40 ≤ 40 by omega) (show (40 : Int) ≤ 40 by omega) hbk.1 hbk.2
    have fb : i64 (f * kV k (whV T n p3)) := by
      have z1 := kV_leN (k := k) (x := whV T n p3) (by omega) (by omega)
      have z2 := abs_mul_le (show -99 ≤ f by omega) hf.2 z1.1 z1.2
      omega
    refine m_valueRd (k := k) hi hf (by omega) (by rw [a3]; exact F0.1) (by rw [a3]; exact F0.2.1) (by omega) (by omega) ?_
    refine m_isSmall fb (fun s1 s2 => b_f (by decide) ?_) (fun s => b_t rfl (m_rd_fail hO rr3 g3 k3 3 (by unfold tmC; rw [if_neg (fun z => z nb), if_pos s])))
    refine m_wholeV k3 l3 ⟨iI_in (by omega) (by omega) (by omega), ?_⟩
    rw [a3]
    have Glow : ∀ q, q < 4 * (5 * 4 + i) → upd F (4 * (5 * 4 + i) + 2) (iI (whV T n p3)) q = S0.2.2.1 1 q := fun q hq => by rw [upd_ne _ _ _ (by omega)]; exact Flow q hq
    have r4 := rA S3 _ rr3 Glow
    refine m_nextT (S := mA S3 1 _) (r4.tape hT) q3 k3 (fun S5 t5 k5 => ?_)
    have rr5 := r4.trans t5.rd
    have g5 : going S5 o j := t5.going g3
    have a5 : S5.2.2.1 1 = upd F (4 * (5 * 4 + i) + 2) (iI (whV T n p3)) := by rw [t5.1]; exact mA_at S3 1 _
    have b5 : S5.2.2.1 0 4 = iI i := by rw [t5.1]; exact b3
    have q5 := (nxT_le (T := T) q3).2
    refine m_isWord k5 hn q5 (w 10 (by decide)) (fun wt => b_f (by decide) ?_) (fun wt => b_t rfl (m_rd_fail hO rr5 g5 k5 1 (by unfold tmC; rw [if_neg (fun z => z nb), if_neg (fun z => z ⟨s1, s2⟩), if_pos wt])))
    refine m_nextT (rr5.tape hT) q5 k5 (fun S6 t6 k6 => ?_)
    have rr6 := rr5.trans t6.rd
    have g6 : going S6 o j := t6.going g5
    have a6 : S6.2.2.1 1 = upd F (4 * (5 * 4 + i) + 2) (iI (whV T n p3)) := by rw [t6.1]; exact a5
    have b6 : S6.2.2.1 0 4 = iI i := by rw [t6.1]; exact b5
    have q6 := (nxT_le (T := T) q5).2
    obtain ⟨p5, ep5⟩ : ∃ p5, p5 = nxT T n (nxT T n (whA T n p3)) := ⟨_, rfl⟩
    rw [← ep5] at k6 q6
    have hhi := whV_in (T := T) (n := n) (p := p5)
    refine m_comes (rr6.tape hT) q6 k6 g6 (fun S7 nb7 k7 g7 r7 e7 l7 => b_f (by decide) ?_) (fun S7 nb7 bd r7 => b_t rfl (hO.1 1 (whA T n p5) S7 (by unfold tmC; rw [if_neg (fun z => z nb), if_neg (fun z => z ⟨s1, s2⟩), if_neg (fun z => z wt), ← ep5, if_pos nb7]) bd (rr6.trans r7)))
    have rr7 := rr6.trans r7
    have a7 : S7.2.2.1 1 = upd F (4 * (5 * 4 + i) + 2) (iI (whV T n p3)) := by rw [e7]; exact a6
    have b7 : S7.2.2.1 0 4 = iI i := by rw [e7]; exact b6
    have q7 := (whA_le (T := T) q6).2
    refine m_wholeV k7 l7 ⟨iI_in (by omega) (by omega) (by omega), ?_⟩
    rw [a7, upd_eq]
    unfold wX1_readTerm_300
    rw [iI_lt (by omega) (by omega) (by omega) (by omega)]
    have tail : tmC T n f k p3 = if whV T n p5 < whV T n p3 ∨ ¬ (-3000 ≤ f * kV k (whV T n p5) ∧ f * kV k (whV T n p5) ≤ 3000) then .inl (3, whA T n p5) else .inr ((f, k, whV T n p3, whV T n p5), nxT T n (whA T n p5)) := by
      unfold tmC; rw [if_neg (fun z => z nb), if_neg (fun z => z ⟨s1, s2⟩), if_neg (fun z => z wt), ← ep5, if_neg (fun z => z nb7)]
    refine ⟨fun c1 => m_rd_fail hO rr7 g7 k7 3 (by rw [tail, if_pos (Or.inl c1)]), fun c1 => ?_⟩
    refine m_wholeV k7 l7 ?_
    simp (disch := omega) only [iI_l]
    have fb2 : i64 (f * kV k (whV T n p5)) := by
      have z1 := kV_leN (k := k) (x := whV T n p5) (by omega) (by omega)
      have z2 := abs_mul_le (show -99 ≤ f by omega) hf.2 z1.1 z1.2
      omega
    refine m_valueRd (k := k) hi hf (by omega) (by rw [a7, upd_ne _ _ _ (by omega)]; exact F0.1) (by rw [a7, upd_ne _ _ _ (by omega)]; exact F0.2.1) (by omega) (by omega) ?_
    refine m_isSmall fb2 (fun s3 s4 => b_f (by decide) ?_) (fun s => b_t rfl (m_rd_fail hO rr7 g7 k7 3 (by rw [tail, if_pos (Or.inr s)])))
    refine m_wholeV k7 l7 ⟨iI_in (by omega) (by omega) (by omega), ?_⟩
    rw [a7]
    obtain ⟨G, eG⟩ : ∃ G, G = upd (upd F (4 * (5 * 4 + i) + 2) (iI (whV T n p3))) (4 * (5 * 4 + i) + 3) (iI (whV T n p5)) := ⟨_, rfl⟩
    rw [← eG]
    have G0 : rTm G 4 i (f, k, whV T n p3, whV T n p5) := by
      rw [eG]
      refine ⟨?_, ?_, ?_, ?_⟩
      · rw [upd_ne _ _ _ (by omega), upd_ne _ _ _ (by omega)]; exact F0.1
      · rw [upd_ne _ _ _ (by omega), upd_ne _ _ _ (by omega)]; exact F0.2.1
      · rw [upd_ne _ _ _ (by omega), upd_eq]
      · rw [upd_eq]
    have Hlow : ∀ q, q < 4 * (5 * 4 + i) → G q = S0.2.2.1 1 q := fun q hq => by rw [eG, upd_ne _ _ _ (by omega)]; exact Glow q hq
    have r8 := rA S7 G rr7 Hlow
    refine m_nextT (S := mA S7 1 G) (r8.tape hT) q7 k7 (fun S9 t9 k9 => ?_)
    have rr9 := r8.trans t9.rd
    have a9 : S9.2.2.1 1 = G := by rw [t9.1]; exact mA_at S7 1 G
    refine m_rd_322 hi (by rw [t9.1]; exact b7) (fun f0 z1 z2 => ?_)
    refine hO.2 (f, k, whV T n p3, whV T n p5) _ _ (by rw [tail, if_neg (fun z => z.elim (fun z => c1 z) (fun z => z ⟨s3, s4⟩))]) k9 (t9.going g7) (rr9.A0 f0 z1) (by rw [mA_at]; exact z2) ?_ (fun q hq => ?_)
    · show rTm (S9.2.2.1 1) 4 i _
      rw [a9]; exact G0
    · show S9.2.2.1 1 q = _
      rw [a9]; exact Hlow q hq
  · have eB : tmB T n f p1 = .inr ((f, k, 0, gtS f k), nxT T n p1) := by unfold tmB; rw [if_neg ne1, if_pos wf, ← ek]
    refine m_rd_322 hi b1 (fun f0 z1 z2 => ?_)
    refine hO.2 (f, k, 0, gtS f k) _ _ eB k1 g1 (rr1.A0 f0 z1) (by rw [mA_at]; exact z2) ?_ (fun q hq => ?_)
    · show rTm (S1.2.2.1 1) 4 i _
      rw [a1]; exact F0
    · show S1.2.2.1 1 q = _
      rw [a1]; exact Flow q hq
