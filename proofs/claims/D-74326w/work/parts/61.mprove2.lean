set_option maxRecDepth 100000
set_option maxHeartbeats 4000000
/-! a proof's lines, and all of a proof -/
def prEq (S S' : MS) : Prop := (∀ k, k ≠ 22 → S'.2.2.2 k = S.2.2.2 k) ∧ (∀ k, (k < 8 ∨ 20 < k) → k ≠ 21 → k ≠ 32 → S'.1 k = S.1 k) ∧ (∀ k, 2 ≤ k → k ≠ 31 → S'.2.2.1 k = S.2.2.1 k) ∧ (∀ q, q < 4 → S'.2.2.1 0 q = S.2.2.1 0 q) ∧ ∀ q, q < 80 → S'.2.2.1 1 q = S.2.2.1 1 q
theorem rdEq.pr {S S' : MS} (h : rdEq S S') : prEq S S' := ⟨fun k _ => by rw [h.1], fun k a _ _ => h.2.1 k a, fun k a _ => h.2.2.1 k a, h.2.2.2.1, h.2.2.2.2⟩
theorem prEq.trans {S S' S'' : MS} (h : prEq S S') (g : prEq S' S'') : prEq S S'' := ⟨fun k a => (g.1 k a).trans (h.1 k a), fun k a b c => (g.2.1 k a b c).trans (h.2.1 k a b c), fun k a b => (g.2.2.1 k a b).trans (h.2.2.1 k a b), fun q a => (g.2.2.2.1 q a).trans (h.2.2.2.1 q a), fun q a => (g.2.2.2.2 q a).trans (h.2.2.2.2 q a)⟩
theorem prEq.tape {S S' : MS} {T : Nat → Int} {n : Nat} (h : prEq S S') (hT : mTp S T n) : mTp S' T n := ⟨hT.1, by rw [h.2.1 3 (by omega) (by omega) (by omega)]; exact hT.2.1, fun k hk => by rw [h.2.2.1 2 (by omega) (by omega)]; exact hT.2.2 k hk⟩
theorem prEq.forms {S S' : MS} {F : Nat → List tm} (h : prEq S S') (hF : mForms S F) : mForms S' F := hF.told h.2.2.2.1 h.2.2.2.2
theorem mLaid.rd {S S' : MS} {F : Nat → List tm} (h : mLaid S F) (a : S'.1 21 = S.1 21) (b : S'.2.2.2 22 = S.2.2.2 22) : mLaid S' F := by
  unfold mLaid laidAt at *
  rw [a, b]; exact h
theorem mPrv.rd {S S' : MS} {P : List Int} (h : mPrv S P) (a : S'.1 32 = S.1 32) (b : S'.2.2.1 31 = S.2.2.1 31) : mPrv S' P := by
  unfold mPrv at *
  rw [a, b]; exact h
/-- what holds all along a proof -/
def prI (S0 : MS) (F : Nat → List tm) (P : List Int) (S : MS) : Prop := prEq S0 S ∧ mLaid S F ∧ mPrv S P
theorem prI.rd {S0 S S' : MS} {F : Nat → List tm} {P : List Int} (h : prI S0 F P S) (r : rdEq S S') : prI S0 F P S' := ⟨h.1.trans r.pr, h.2.1.rd (r.2.1 21 (by omega)) (by rw [r.1]), h.2.2.rd (r.2.1 32 (by omega)) (r.2.2.1 31 (by omega))⟩
def lnE (T : Nat → Int) (n : Nat) (z : Int) (q : Nat) : (Int × Nat × Int) ⊕ (Int × Nat) := if ¬ sgIs T n q 59 then .inl (1, q, -1) else .inr (z, nxT T n q)
def lnW (T : Nat → Int) (n : Nat) (z : Int) : ((Int × Nat × Int) ⊕ Nat) → (Int × Nat × Int) ⊕ (Int × Nat)
  | .inl x => .inl x
  | .inr p => lnE T n z p
def lnC (T : Nat → Int) (n : Nat) (L : List tm) (z : Int) (p : Nat) : (Int × Nat × Int) ⊕ (Int × Nat) :=
  if wdIs T n p 11 then (if 0 < Wy L z then .inl (8, p, -1) else lnE T n z (nxT T n p))
  else lnW T n z (if ¬ sgIs T n p 61 then .inl (1, p, -1) else wyRd T n L z 6 0 (nxT T n p) 0)
/-- a line from p on, behind the numbers P: a fault (kind, place, inner) or the number and the place behind the line -/
def lnRd (T : Nat → Int) (n : Nat) (L : List tm) (P : List Int) (p : Nat) : (Int × Nat × Int) ⊕ (Int × Nat) :=
  if ¬ (isNb T n p ∨ sgIs T n p 45) then .inl (1, p, -1)
  else if P.length = 60 then .inl (if isNb T n p ∧ outP P (numV T n p) then 5 else 9, p, -1)
  else if ¬ isNb T n (whA T n p) then .inl (1, whA T n p, -1)
  else if outP P (whV T n p) then .inl (5, whA T n p, -1)
  else lnC T n L (whV T n p) (nxT T n (whA T n p))
abbrev owesL (post : Int32 → MS → Prop) (S : MS) (F : Nat → List tm) (P : List Int) (T : Nat → Int) (n : Nat) (o : Int) (R : (Int × Nat × Int) ⊕ (Int × Nat)) : Prop :=
  (∀ (k : Int) (q : Nat) (i : Int) (S' : MS), R = .inl (k, q, i) → mBad S' k q o i → prI S F P S' → post 0 S') ∧
  (∀ (z : Int) (p' : Nat) (S' : MS), R = .inr (z, p') → mTok S' T n p' → going S' o (-1) → prI S F (P ++ [z]) S' → post 1 S')
theorem m_ln_fail {post : Int32 → MS → Prop} {S0 S : MS} {F : Nat → List tm} {P : List Int} {T : Nat → Int} {n p : Nat} {o i : Int} {R : (Int × Nat × Int) ⊕ (Int × Nat)} (hO : owesL post S0 F P T n o R) (hr : prI S0 F P S) (hg : going S o i) (hk : mTok S T n p) (k : Int) (e : R = .inl (k, p, i)) : wX1_fails (fun r S46 => isB r ∧ post r S46) S (iI k) :=
  m_fails (p := p) hg.1 hk.2.1 hg.2.1 hg.2.2.1 ⟨isB_0, hO.1 k p i _ e (badS_bad _ _ _ _ _) (hr.rd ((rdEq.refl S).bad _ _ _ _))⟩
theorem m_ln_152 {post : Int32 → MS → Prop} {S0 S : MS} {F : Nat → List tm} {P : List Int} {T : Nat → Int} {n p : Nat} {o z : Int} (hT : mTp S0 T n) (hp : p ≤ n) (hP : P.length < 60) (hz : -20000 ≤ z ∧ z ≤ 20000) (hr : prI S0 F P S) (hk : mTok S T n p) (hg : going S o (-1)) (hO : owesL post S0 F P T n o (lnE T n z p)) : wX1_readLine_152 post (iI z) S := by
  unfold wX1_readLine_152
  unfold lnE at hO
  refine m_takesSign (c := 59) hk (hr.1.tape hT) hp (by omega) hg.1 hg.2.1 hg.2.2.1 (fun e S' t k => b_f (by decide) ?_) (fun e => b_t rfl ?_)
  · rw [if_neg (fun q => q e), nxT_sg e] at hO
    have r1 := hr.rd t.rd
    obtain ⟨hl, e32, hx⟩ := r1.2.2
    rw [e32]
    refine ⟨iI_in (by omega) (by omega) (by omega), ?_⟩
    simp (disch := omega) only [iI_nat]
    rw [show (P.length : Int).toNat = P.length by omega, show (1 : Int32) = iI 1 from rfl, iI_add]
    refine hO.2 z _ _ rfl k (t.going hg) ⟨?_, ?_, ?_⟩
    · refine ⟨r1.1.1, fun q a b c => ?_, fun q a b => ?_, fun q a => r1.1.2.2.2.1 q a, fun q a => r1.1.2.2.2.2 q a⟩
      · show va_up S'.1 32 _ q = _
        rw [up_ne _ _ _ c]; exact r1.1.2.1 q a b c
      · show va_up S'.2.2.1 31 _ q = _
        rw [up_ne _ _ _ b]; exact r1.1.2.2.1 q a b
    · exact r1.2.1.rd rfl rfl
    · refine ⟨by rw [List.length_append]; simp only [List.length_cons, List.length_nil]; omega, by rw [List.length_append]; rfl, fun i x hi => ?_⟩
      show (mA S' 31 (upd (S'.2.2.1 31) P.length (iI z))).2.2.1 31 i = _ ∧ _
      rw [mA_at]
      rcases (show i < P.length ∨ i = P.length ∨ P.length < i by omega) with c | c | c
      · rw [List.getElem?_append_left c] at hi
        rw [upd_ne _ _ _ (by omega)]; exact hx i x hi
      · rw [c, List.getElem?_append_right (by omega), Nat.sub_self] at hi
        cases hi
        rw [c, upd_eq]; exact ⟨rfl, hz⟩
      · rw [List.getElem?_eq_none (by rw [List.length_append]; simp only [List.length_cons, List.length_nil]; omega)] at hi
        cases hi
  · rw [if_pos e] at hO
    exact hO.1 1 p (-1) _ rfl (badS_bad _ _ _ _ _) (hr.rd ((rdEq.refl S).bad _ _ _ _))
theorem wyRd_le {T : Nat → Int} {n : Nat} {L : List tm} {z : Int} {p' : Nat} : ∀ (m i p : Nat) (sum : Int), p ≤ n → wyRd T n L z m i p sum = .inr p' → p' ≤ n
  | 0, i, p, sum, _, h => by cases h
  | m + 1, i, p, sum, hp, h => by
    have a1 := (whA_le (T := T) hp).2
    have a2 := (nxT_le (T := T) a1).2
    have a3 := (nxT_le (T := T) a2).2
    unfold wyRd at h
    split at h
    · cases h
    split at h
    · cases h
    split at h
    · cases h
    split at h
    · cases h
    split at h
    · exact wyRd_le m _ _ _ a3 h
    split at h
    · cases h
    split at h
    · cases h
    · cases h; exact a2
theorem lnE_le {T : Nat → Int} {n q p' : Nat} {z z' : Int} (hq : q ≤ n) (h : lnE T n z q = .inr (z', p')) : p' ≤ n ∧ z' = z := by
  unfold lnE at h
  split at h
  · cases h
  · cases h; exact ⟨(nxT_le hq).2, rfl⟩
theorem lnC_le {T : Nat → Int} {n p p' : Nat} {L : List tm} {z z' : Int} (hp : p ≤ n) (h : lnC T n L z p = .inr (z', p')) : p' ≤ n ∧ z' = z := by
  unfold lnC at h
  split at h
  · split at h
    · cases h
    · exact lnE_le (nxT_le hp).2 h
  · split at h
    · cases h
    · rename_i e2
      cases e : wyRd T n L z 6 0 (nxT T n p) 0 with
      | inl x => rw [e] at h; cases h
      | inr p3 =>
        rw [e] at h
        exact lnE_le (wyRd_le _ _ _ _ (nxT_le hp).2 e) h
theorem lnRd_le {T : Nat → Int} {n p p' : Nat} {L : List tm} {P : List Int} {z : Int} (hp : p ≤ n) (h : lnRd T n L P p = .inr (z, p')) : p' ≤ n ∧ P.length ≠ 60 ∧ ¬ outP P z := by
  unfold lnRd at h
  split at h
  · cases h
  split at h
  · cases h
  rename_i c
  split at h
  · cases h
  split at h
  · cases h
  rename_i a
  have q := lnC_le (nxT_le (whA_le hp).2).2 h
  exact ⟨q.1, c, by rw [q.2]; exact a⟩
theorem m_ln_16 {post : Int32 → MS → Prop} {S0 S : MS} {F : Nat → List tm} {P : List Int} {T : Nat → Int} {n p s : Nat} {o : Int} (hF : mForms S0 F) (hT : mTp S0 T n) (hs : s < 4) (hne : F s ≠ []) (hp : p ≤ n) (hr : prI S0 F P S) (hk : mTok S T n p) (hg : going S o (-1)) (hB : isNb T n p ∨ sgIs T n p 45) (hO : owesL post S0 F P T n o (lnRd T n (F s) P p)) : wX1_readLine_16 post (iI s) S := by
  have hn := hT.1
  have hTS := hr.1.tape hT
  have hPr := hr.2.2
  have hl := hPr.1
  unfold lnRd at hO
  rw [if_neg (fun q => q hB)] at hO
  unfold wX1_readLine_16 wX1_readLine_21
  refine b_f (by decide) ?_
  rw [hPr.2.1, show (60 : Int32) = iI 60 from rfl, iI_eq (by omega) (by omega) (by omega) (by omega)]
  refine ⟨fun c => ?_, fun c => ?_⟩
  · rw [if_pos (by omega)] at hO
    refine m_isNumber hk hn hp (fun e => b_f (by decide) ?_) (fun e => b_t rfl ?_)
    · have hv := numV_in (T := T) (n := n) (p := p)
      rw [hk.2.2.2.2.1]
      refine m_isOut hPr (by omega) (fun a => b_f (by decide) ?_) (fun a => b_t rfl ?_)
      · unfold wX1_readLine_66
        exact m_ln_fail hO hr hg hk 5 (by rw [if_pos ⟨e, a⟩])
      · unfold wX1_readLine_64 wX1_readLine_66
        exact m_ln_fail hO hr hg hk 9 (by rw [if_neg (fun q => a q.2)])
    · unfold wX1_readLine_64 wX1_readLine_66
      exact m_ln_fail hO hr hg hk 9 (by rw [if_neg (fun q => e q.1)])
  rw [if_neg (by omega)] at hO
  have hw := whV_in (T := T) (n := n) (p := p)
  refine m_comes hTS hp hk hg (fun S1 nb k1 g1 r1 e1 l1 => b_f (by decide) ?_) (fun S1 nb b1 r1 => b_t rfl (hO.1 1 _ (-1) S1 (by rw [if_pos nb]) b1 (hr.rd r1)))
  rw [if_neg (fun q => q nb)] at hO
  have rr1 := hr.rd r1
  refine m_wholeV k1 l1 (m_isOut rr1.2.2 (by omega) (fun a => b_f (by decide) (m_ln_fail hO rr1 g1 k1 5 (by rw [if_pos a]))) (fun a => b_t rfl ?_))
  rw [if_neg a] at hO
  have q1 := (whA_le (T := T) hp).2
  have q2 := (nxT_le (T := T) q1).2
  obtain ⟨z, ez⟩ : ∃ z, z = whV T n p := ⟨_, rfl⟩
  obtain ⟨p2, ep2⟩ : ∃ p2, p2 = nxT T n (whA T n p) := ⟨_, rfl⟩
  have hz3 : -3000 ≤ z ∧ z ≤ 3000 := by rw [ez]; exact Classical.byContradiction (fun q => a (Or.inr q))
  rw [← ez, ← ep2] at hO
  rw [← ez]
  refine m_nextT (rr1.1.tape hT) q1 k1 (fun S2 t2 k2 => ?_)
  rw [← ep2] at k2 q2
  have rr2 := rr1.rd t2.rd
  have g2 := t2.going g1
  unfold lnC at hO
  refine m_isWord k2 hn q2 (sWd_ok 11 (by decide)) (fun e => b_f (by decide) ?_) (fun e => b_t rfl ?_)
  · rw [if_pos e] at hO
    refine m_lays (rr2.1.forms hF) rr2.2.1 hs hne (fun g hgr => ?_)
    have rr3 : prI S0 F P (mI (mB S2 22 g) 21 (iI s)) := by
      refine ⟨rr2.1.trans ⟨fun k a => ?_, fun k _ b _ => ?_, fun _ _ _ => rfl, fun _ _ => rfl, fun _ _ => rfl⟩, Or.inr ⟨s, hs, rfl, ?_⟩, rr2.2.2.rd rfl rfl⟩
      · show va_up S2.2.2.2 22 g k = _
        exact if_neg a
      · show va_up S2.1 21 _ k = _
        exact up_ne _ _ _ b
      · exact ⟨hne, fun i hi => by
          show rowW ((mB S2 22 g).2.2.2 22) i _
          rw [mB_at]; exact hgr i hi⟩
    have k3 : mTok (mI (mB S2 22 g) 21 (iI s)) T n p2 := k2
    have g3 : going (mI (mB S2 22 g) 21 (iI s)) o (-1) := g2
    refine m_ways_t (ts := F s) (S := mI (mB S2 22 g) 21 (iI s)) (hF s hs).2.1 ?_ (by omega) (fun r er r0 r9 => ?_)
    · have := hgr 0 (by omega)
      rw [List.drop_zero] at this
      show rowW ((mB S2 22 g).2.2.2 22) 0 _
      rw [mB_at]; exact this
    rw [show (0 : Int64) = lI 0 from rfl, lI_le (by omega) (by omega) (by omega) (by omega)]
    refine ⟨fun c => ?_, fun c => m_ln_fail hO rr3 g3 k3 8 (by rw [if_pos (by rw [← er]; omega)])⟩
    rw [if_neg (by rw [← er]; omega)] at hO
    refine m_nextT (rr3.1.tape hT) q2 k3 (fun S4 t4 k4 => ?_)
    exact m_ln_152 hT (nxT_le q2).2 (by omega) (by omega) (rr3.rd t4.rd) k4 (t4.going g3) hO
  · rw [if_neg e] at hO
    refine m_readWay (rr2.1.forms hF) (rr2.1.tape hT) hs (by omega) q2 k2 g2 ⟨?_, ?_⟩
    · intro k q i S' eR b r
      rw [eR] at hO
      exact b_t rfl (hO.1 k q i S' rfl b (rr2.rd r))
    · intro p3 S' eR k g r
      rw [eR] at hO
      refine b_f (by decide) (m_ln_152 hT ?_ (by omega) (by omega) (rr2.rd r) k g hO)
      split at eR
      · cases eR
      · exact wyRd_le _ _ _ _ (nxT_le q2).2 eR
theorem m_readLine {post : Int32 → MS → Prop} {S0 S : MS} {F : Nat → List tm} {P : List Int} {T : Nat → Int} {n p s : Nat} {o : Int} (hF : mForms S0 F) (hT : mTp S0 T n) (hs : s < 4) (hne : F s ≠ []) (hp : p ≤ n) (hr : prI S0 F P S) (hk : mTok S T n p) (hg : going S o (-1)) (hO : owesL post S0 F P T n o (lnRd T n (F s) P p)) : wX1_readLine post S (iI s) := by
  unfold wX1_readLine
  refine m_isNumber hk hT.1 hp (fun e => b_f (by decide) (m_ln_16 hF hT hs hne hp hr hk hg (Or.inl e) hO)) (fun e => b_t rfl ?_)
  refine m_isSign (c := 45) hk (hr.1.tape hT) (by omega) (fun e2 => b_f (by decide) (m_ln_16 hF hT hs hne hp hr hk hg (Or.inr e2) hO)) (fun e2 => b_t rfl ?_)
  unfold wX1_readLine_21
  refine b_t rfl (m_ln_fail hO hr hg hk 1 ?_)
  unfold lnRd
  rw [if_pos (fun q => q.elim e e2)]
/-- lines from p on, behind the numbers P: a fault (kind, place, line, inner) or all numbers -/
def prRd (T : Nat → Int) (n : Nat) (L : List tm) : Nat → List Int → Nat → (Int × Nat × Nat × Int) ⊕ List Int
  | 0, P, p => .inl (9, p, P.length, -1)
  | m + 1, P, p => match lnRd T n L P p with
    | .inl (k, q, i) => .inl (k, q, P.length, i)
    | .inr (z, p') => if srt T n p' = 0 then .inr (P ++ [z]) else prRd T n L m (P ++ [z]) p'
def prR (T : Nat → Int) (n : Nat) (L : List tm) : (Int × Nat × Nat × Int) ⊕ List Int := if srt T n (sk T n 0) = 0 then .inr [] else prRd T n L 61 [] (sk T n 0)
/-- behind a proof's reading -/
abbrev toldP (S S' : MS) (F : Nat → List tm) (k p o i : Int) : Prop := mLaid S' F ∧ (∀ k, k ≠ 22 → S'.2.2.2 k = S.2.2.2 k) ∧ (∀ q, (q < 3 ∨ 20 < q) → q ≠ 21 → q ≠ 32 → S'.1 q = S.1 q) ∧ (∀ q, 2 ≤ q → q ≠ 31 → S'.2.2.1 q = S.2.2.1 q) ∧ (∀ q, q < 4 → S'.2.2.1 0 q = S.2.2.1 0 q) ∧ (∀ q, q < 80 → S'.2.2.1 1 q = S.2.2.1 1 q) ∧ S'.1 3 = iI 0 ∧ S'.1 4 = iI k ∧ S'.1 5 = iI p ∧ S'.1 6 = iI o ∧ S'.1 7 = iI i
theorem told.pr {S0 S S' : MS} {F : Nat → List tm} {P : List Int} {k p o i : Int} (hr : prI S0 F P S) (t : told S S' k p o i) : toldP S0 S' F k p o i :=
  ⟨hr.2.1.rd (t.2.1 21 (by omega)) (by rw [t.1]), fun k a => by rw [t.1]; exact hr.1.1 k a, fun q a b c => (t.2.1 q a).trans (hr.1.2.1 q (by omega) b c), fun q a b => (t.2.2.1 q a).trans (hr.1.2.2.1 q a b), fun q a => (t.2.2.2.1 q a).trans (hr.1.2.2.2.1 q a), fun q a => (t.2.2.2.2.1 q a).trans (hr.1.2.2.2.2 q a), t.2.2.2.2.2⟩
theorem m_prove_end {post : Int32 → MS → Prop} {S0 S : MS} {F : Nat → List tm} {P : List Int} {m : Nat} {x : Int32} {k p o i : Int} (hk : 0 ≤ k ∧ k ≤ 9) (hr : prI S0 F P S) (hb : mBad S k p o i) (h : k ≠ 0 → ∀ S', toldP S0 S' F k p o i → post (iI (-1)) S') (h2 : k = 0 → ∀ S', toldP S0 S' F k p o i → post (iI (P.length : Nat)) S') : wX1_prove_32 post (m + 1) x (iI 1) (iI 0) S := by
  unfold wX1_prove_32
  refine b_t rfl (m_isRead (by omega) (rdEq.refl S) hb (fun S' t e8 _ => b_f (by decide) ?_))
  have tt := told.pr hr t
  rw [e8, show (0 : Int32) = iI 0 from rfl, iI_eq (by omega) (by omega) (by omega) (by omega)]
  refine ⟨fun c => ?_, fun c => h c S' tt⟩
  rw [t.2.1 32 (by omega), hr.2.2.2.1]
  exact h2 c S' tt
abbrev prO (post : Int32 → MS → Prop) (S : MS) (F : Nat → List tm) (R : (Int × Nat × Nat × Int) ⊕ List Int) : Prop :=
  (∀ k q o i S', R = .inl (k, q, o, i) → toldP S S' F k q o i → post (iI (-1)) S') ∧ (∀ P S', R = .inr P → toldP S S' F 0 (-1) (-1) (-1) → post (iI (P.length : Nat)) S')
