set_option maxRecDepth 100000
set_option maxHeartbeats 4000000
/-! the model reads an identity's sides -/
def idE2 (S S' : MS) : Prop := S'.2.2.2 = S.2.2.2 ∧ (∀ k, (k < 8 ∨ 20 < k) → k ≠ 36 → k ≠ 38 → k ≠ 40 → S'.1 k = S.1 k) ∧ (∀ k, 2 ≤ k → k ≠ 33 → k ≠ 34 → k ≠ 35 → S'.2.2.1 k = S.2.2.1 k) ∧ (∀ q, q < 4 → S'.2.2.1 0 q = S.2.2.1 0 q) ∧ (∀ q, q < 80 → S'.2.2.1 1 q = S.2.2.1 1 q) ∧ (∀ q, q < 900 → S'.2.2.1 33 q = S.2.2.1 33 q) ∧ (∀ q, q < 900 → S'.2.2.1 34 q = S.2.2.1 34 q) ∧ (∀ q, q < 2 → S'.2.2.1 35 q = S.2.2.1 35 q)
theorem idEq.two {S S' : MS} (h : idEq S S') : idE2 S S' := ⟨h.1, h.2.1, fun k a b c _ => h.2.2.1 k a b c, h.2.2.2.1, h.2.2.2.2.1, h.2.2.2.2.2.1, h.2.2.2.2.2.2, fun q _ => by rw [h.2.2.1 35 (by omega) (by omega) (by omega)]⟩
theorem idE2.trans {S S' S'' : MS} (h : idE2 S S') (g : idE2 S' S'') : idE2 S S'' := ⟨g.1.trans h.1, fun k a b c d => (g.2.1 k a b c d).trans (h.2.1 k a b c d), fun k a b c d => (g.2.2.1 k a b c d).trans (h.2.2.1 k a b c d), fun q a => (g.2.2.2.1 q a).trans (h.2.2.2.1 q a), fun q a => (g.2.2.2.2.1 q a).trans (h.2.2.2.2.1 q a), fun q a => (g.2.2.2.2.2.1 q a).trans (h.2.2.2.2.2.1 q a), fun q a => (g.2.2.2.2.2.2.1 q a).trans (h.2.2.2.2.2.2.1 q a), fun q a => (g.2.2.2.2.2.2.2 q a).trans (h.2.2.2.2.2.2.2 q a)⟩
theorem idE2.tape {S S' : MS} {T : Nat → Int} {n : Nat} (h : idE2 S S') (hT : mTp S T n) : mTp S' T n := ⟨hT.1, by rw [h.2.1 3 (by omega) (by omega) (by omega) (by omega)]; exact hT.2.1, fun k hk => by rw [h.2.2.1 2 (by omega) (by omega) (by omega) (by omega)]; exact hT.2.2 k hk⟩
theorem idE2.side {S : MS} {k : Nat} {v : Int32} (hk : 2 ≤ k) : idE2 S (mA S 35 (upd (S.2.2.1 35) k v)) := ⟨rfl, fun _ _ _ _ _ => rfl, fun q _ _ _ d => by
  show va_up S.2.2.1 35 _ q = _
  exact up_ne _ _ _ d, fun _ _ => rfl, fun _ _ => rfl, fun _ _ => rfl, fun _ _ => rfl, fun q hq => by rw [mA_at]; exact upd_ne _ _ _ (by omega)⟩
abbrev idO (post : Int32 → MS → Prop) (S0 : MS) (R : (Int × Nat × Nat × Int) ⊕ (Nat × xst)) : Prop :=
  (∀ (k : Int) (q o : Nat) (i : Int) (S' : MS), R = .inl (k, q, o, i) → mBad S' k q o i → idE2 S0 S' → post 0 S') ∧
  (∀ (e : Nat) (s : xst) (S' : MS), R = .inr (e, s) → mBad S' 0 (-1) (-1) (-1) → idE2 S0 S' → mXs S' s → S'.2.2.1 35 2 = iI e → S'.2.2.1 35 3 = iI (s.2.1.length : Nat) → post 1 S')
theorem m_readIdentity {post : Int32 → MS → Prop} {S : MS} {T : Nat → Int} {n : Nat} (hT : mTp S T n) (hk : mTok S T n (sk T n 0)) (hg : going S 0 0) (hx : mXs S (sk T n 0, [], 0, 0)) (hO : idO post S (idR T n)) : wX1_readIdentity post S := by
  unfold wX1_readIdentity
  unfold idR at hO
  have ok0 : xOk n (sk T n 0, [], 0, 0) := ⟨(sk_le (T := T) (n := n) (p := 0) (by omega)).2, show 0 ≤ 60 by decide, show ([] : List (Int × Int)).length ≤ 3 * 0 by decide, show 0 < 64 by decide, fun c hc => nomatch hc⟩
  refine m_sum (S0 := S) (o := 0) hT 8 0 _ (sk T n 0, [], 0, 0) S (by omega) (by omega) ok0 (rdEq.refl S).id hk hg hx ⟨?_, ?_⟩
  · intro k q i S' eR b r
    rw [eR] at hO
    exact b_t rfl (hO.1 k q 0 i S' rfl b r.two)
  · intro s S2 eR k2 g2 r2 x2
    rw [eR] at hO
    simp only [] at hO
    have gr := sxR_gr 8 0 _ _ ok0 eR
    have hlen := gr.1.2.2.1
    have hpt := gr.1.2.1
    refine b_f (by decide) ⟨iI_in (z := 2) (by omega) (by omega) (by omega), ?_⟩
    rw [show Int32.toNatClampNeg 2 = 2 from rfl, show Int32.toNatClampNeg 3 = 3 from rfl, x2.1]
    obtain ⟨S3, eS3⟩ : ∃ S3, S3 = mA S2 35 (upd (S2.2.2.1 35) 2 (iI (s.2.1.length : Nat))) := ⟨_, rfl⟩
    rw [← eS3]
    have r3 : idE2 S S3 := by rw [eS3]; exact r2.two.trans (idE2.side (by omega))
    have k3 : mTok S3 T n s.1 := by rw [eS3]; exact k2
    have g3 : going S3 0 0 := by rw [eS3]; exact g2
    have x3 : mXs S3 s := by rw [eS3]; exact x2
    have a3 : S3.2.2.1 35 2 = iI (s.2.1.length : Nat) := by rw [eS3, mA_at, upd_eq]
    refine m_takesSign (c := 61) k3 (r3.tape hT) gr.1.1 (by omega) g3.1 g3.2.1 g3.2.2.1 (fun e S4 t4 k4 => b_f (by decide) ?_) (fun e => b_t rfl ?_)
    · rw [if_neg (fun q => q e)] at hO
      rw [← nxT_sg e] at k4
      have r5 : rdEq S3 (mI S4 18 (iI 1)) := t4.rd.I 18 (by omega) _
      have r5' : idE2 S (mI S4 18 (iI 1)) := r3.trans r5.id.two
      have ok5 := gr.1.at (p := nxT T n s.1) (nxT_le gr.1.1).2
      refine m_sum (S0 := mI S4 18 (iI 1)) (o := 1) (r5'.tape hT) 8 0 _ (nxT T n s.1, s.2) _ (by omega) (by omega) ok5 (rdEq.refl _).id k4 ((t4.going g3).out 1) ((x3.rd r5).at _) ⟨?_, ?_⟩
      · intro k q i S' eR2 b r
        rw [eR2] at hO
        exact b_t rfl (hO.1 k q 1 i S' rfl b (r5'.trans r.two))
      · intro s' S6 eR2 k6 g6 r6 x6
        rw [eR2] at hO
        simp only [] at hO
        have gr2 := sxR_gr 8 0 _ _ ok5 eR2
        have rr6 := r5'.trans r6.two
        refine b_f (by decide) ⟨iI_in (z := 3) (by omega) (by omega) (by omega), ?_⟩
        rw [x6.1]
        obtain ⟨S7, eS7⟩ : ∃ S7, S7 = mA S6 35 (upd (S6.2.2.1 35) 3 (iI (s'.2.1.length : Nat))) := ⟨_, rfl⟩
        rw [← eS7]
        have r7 : idE2 S S7 := by rw [eS7]; exact rr6.trans (idE2.side (by omega))
        have k7 : mTok S7 T n s'.1 := by rw [eS7]; exact k6
        have g7 : going S7 1 0 := by rw [eS7]; exact g6
        have x7 : mXs S7 s' := by rw [eS7]; exact x6
        have a7 : S7.2.2.1 35 3 = iI (s'.2.1.length : Nat) := by rw [eS7, mA_at, upd_eq]
        have b7 : S7.2.2.1 35 2 = iI (s.2.1.length : Nat) := by rw [eS7, mA_at, upd_ne _ _ _ (by omega), r6.2.2.1 35 (by omega) (by omega) (by omega), r5.2.2.1 35 (by omega)]; exact a3
        rw [k6.1, show (0 : Int32) = iI 0 from rfl, iI_eq (by unfold srt; split <;> (try split) <;> (try split) <;> omega) (by unfold srt; split <;> (try split) <;> (try split) <;> omega) (by omega) (by omega)]
        refine ⟨fun c => ?_, fun c => ?_⟩
        · rw [if_neg (fun q => q c)] at hO
          unfold wX1_readIdentity_69
          exact hO.2 _ _ S7 rfl g7.bad r7 x7 b7 a7
        · rw [if_pos c] at hO
          refine m_fails (k := 1) (p := s'.1) g7.1 k7.2.1 g7.2.1 g7.2.2.1 (b_t rfl ?_)
          exact hO.1 1 s'.1 1 0 _ rfl (badS_bad _ _ _ _ _) (r7.trans ((rdEq.refl S7).bad _ _ _ _).id.two)
    · rw [if_pos e] at hO
      exact hO.1 1 s.1 0 0 _ rfl (badS_bad _ _ _ _ _) (r3.trans ((rdEq.refl S3).bad _ _ _ _).id.two)
/-! codes that are read stay: what is read goes behind them -/
abbrev rcPr (rc : Nat → xst → xR) : Prop := ∀ j s s', rc j s = .inr s' → s.2.1 <+: s'.2.1
theorem ptR_pr {T : Nat → Int} {n : Nat} {rc : Nat → xst → xR} {j : Nat} {s s' : xst} (hrc : rcPr rc) (h : ptR T n rc j s = .inr s') : s.2.1 <+: s'.2.1 := by
  unfold ptR at h
  split at h
  · cases h
  split at h
  · cases h
  split at h
  · cases h
  split at h
  · cases e : rc (j + 1) (nxT T n s.1, s.2.1, s.2.2.1 + 1, s.2.2.2) with
    | inl x => rw [e] at h; cases h
    | inr s1 =>
      rw [e] at h
      have g := hrc _ _ _ e
      unfold ptC at h
      simp only [] at h
      split at h
      · cases h
      · cases h; exact g
  split at h
  · cases h; exact List.prefix_append _ _
  · cases h; exact List.prefix_append _ _
theorem pwR_pr {T : Nat → Int} {n : Nat} {rc : Nat → xst → xR} {j : Nat} {s s' : xst} (hrc : rcPr rc) (h : pwR T n rc j s = .inr s') : s.2.1 <+: s'.2.1 := by
  unfold pwR at h
  cases e : ptR T n rc j s with
  | inl x => rw [e] at h; cases h
  | inr s1 =>
    rw [e] at h
    have g := ptR_pr hrc e
    unfold pwC at h
    simp only [] at h
    split at h
    · cases h; exact g
    split at h
    · cases h
    split at h
    · cases h
    · cases h; exact g.trans (List.prefix_append _ _)
theorem pdL_pr {T : Nat → Int} {n : Nat} {rc : Nat → xst → xR} {j : Nat} (hrc : rcPr rc) : ∀ (m : Nat) (s s' : xst), pdL T n rc j m s = .inr s' → s.2.1 <+: s'.2.1
  | 0, s, s', h => by cases h; exact List.prefix_rfl
  | m + 1, s, s', h => by
    unfold pdL at h
    split at h
    · cases h; exact List.prefix_rfl
    · obtain ⟨s1, e1, e2⟩ := xBind_inr h
      have g : s.2.1 <+: s1.2.1 := pwR_pr (s := (nxT T n s.1, s.2)) hrc e1
      exact g.trans ((List.prefix_append _ _).trans (pdL_pr hrc m (xPut 42 s1) _ e2))
theorem pdR_pr {T : Nat → Int} {n : Nat} {rc : Nat → xst → xR} {j : Nat} {s s' : xst} (hrc : rcPr rc) (h : pdR T n rc j s = .inr s') : s.2.1 <+: s'.2.1 := by
  obtain ⟨s1, e1, e2⟩ := xBind_inr h
  exact (pwR_pr hrc e1).trans (pdL_pr hrc _ _ _ e2)
theorem smL_pr {T : Nat → Int} {n : Nat} {rc : Nat → xst → xR} {j : Nat} (hrc : rcPr rc) : ∀ (m : Nat) (s s' : xst), smL T n rc j m s = .inr s' → s.2.1 <+: s'.2.1
  | 0, s, s', h => by cases h; exact List.prefix_rfl
  | m + 1, s, s', h => by
    unfold smL at h
    split at h
    · cases h; exact List.prefix_rfl
    · obtain ⟨s1, e1, e2⟩ := xBind_inr h
      have g : s.2.1 <+: s1.2.1 := pdR_pr (s := (nxT T n s.1, s.2)) hrc e1
      exact g.trans ((List.prefix_append _ _).trans (smL_pr hrc m (xPut _ s1) _ e2))
theorem sxR_pr {T : Nat → Int} {n : Nat} : ∀ d, rcPr (sxR T n d)
  | 0 => fun j s s' h => by cases h
  | d + 1 => fun j s s' h => by
    obtain ⟨s1, e1, e2⟩ := xBind_inr h
    exact (pdR_pr (sxR_pr d) e1).trans (smL_pr (sxR_pr d) _ _ _ e2)
