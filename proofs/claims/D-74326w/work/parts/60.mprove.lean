set_option maxRecDepth 100000
set_option maxHeartbeats 4000000
/-! a proof is read -/
theorem nxT_sg {T : Nat → Int} {n p : Nat} {c : Int} (h : sgIs T n p c) : nxT T n p = sk T n (p + 1) := by
  have e1 := h.1
  unfold nxT
  have : ende T n p = p + 1 := by
    unfold srt at e1
    unfold ende
    split at e1
    · omega
    · rename_i q1
      split at e1
      · omega
      · rename_i q2
        split at e1
        · omega
        · rename_i q3
          rw [if_neg q1, if_neg q2, if_neg q3]
  rw [this]
/-- a number's way from p on: a fault (kind, place, which value) or the place behind it -/
def wyRd (T : Nat → Int) (n : Nat) (L : List tm) (z : Int) : Nat → Nat → Nat → Int → (Int × Nat × Int) ⊕ Nat
  | 0, i, p, _ => .inl (1, p, i)
  | m + 1, i, p, sum =>
    if ¬ (isNb T n p ∨ sgIs T n p 45) then .inl (1, p, i)
    else match L[i]? with
      | none => .inl (7, p, i)
      | some t => if ¬ isNb T n (whA T n p) then .inl (1, whA T n p, i)
        else if ¬ (t.2.2.1 ≤ whV T n p ∧ whV T n p ≤ t.2.2.2) then .inl (6, whA T n p, i)
        else if sgIs T n (nxT T n (whA T n p)) 44 then wyRd T n L z m (i + 1) (nxT T n (nxT T n (whA T n p))) (sum + tv t (whV T n p))
        else if sgIs T n (nxT T n (whA T n p)) 59 ∧ i + 1 < L.length then .inl (7, nxT T n (whA T n p), -1)
        else if sgIs T n (nxT T n (whA T n p)) 59 ∧ sum + tv t (whV T n p) ≠ z then .inl (8, nxT T n (whA T n p), -1)
        else .inr (nxT T n (whA T n p))
/-- what a reading of a proof's piece owes -/
abbrev owesW {α : Type} (post : Int32 → MS → Prop) (S : MS) (T : Nat → Int) (n : Nat) (o : Int) (pl : α → Nat) (R : (Int × Nat × Int) ⊕ α) : Prop :=
  (∀ (k : Int) (q : Nat) (i : Int) (S' : MS), R = .inl (k, q, i) → mBad S' k q o i → rdEq S S' → post 0 S') ∧
  (∀ (a : α) (S' : MS), R = .inr a → mTok S' T n (pl a) → going S' o (-1) → rdEq S S' → post 1 S')
theorem m_wy_fail {α : Type} {post : Int32 → MS → Prop} {S S' : MS} {T : Nat → Int} {n p : Nat} {o i : Int} {pl : α → Nat} {R : (Int × Nat × Int) ⊕ α} (hO : owesW post S T n o pl R) (hr : rdEq S S') (hg : going S' o i) (hk : mTok S' T n p) (k : Int) (e : R = .inl (k, p, i)) : wX1_fails (fun r S46 => isB r ∧ post r S46) S' (iI k) :=
  m_fails (p := p) hg.1 hk.2.1 hg.2.1 hg.2.2.1 ⟨isB_0, hO.1 k p i _ e (badS_bad _ _ _ _ _) (hr.bad _ _ _ _)⟩
theorem going.inn {S : MS} {o i : Int} (h : going S o i) (i' : Int) : going (mI S 19 (iI i')) o i' := ⟨h.1, h.2.1, rfl, h.2.2.2.1, h.2.2.2.2.1, h.2.2.2.2.2⟩
theorem rdEq.many {S S' : MS} {F : Nat → List tm} (h : rdEq S S') (hF : mForms S F) : mForms S' F := hF.told h.2.2.2.1 h.2.2.2.2
/-- behind a value: the end of a way -/
theorem m_wy_end {post : Int32 → MS → Prop} {S0 S : MS} {F : Nat → List tm} {T : Nat → Int} {n m i p s : Nat} {o sum z : Int} (hF : mForms S0 F) (hT : mTp S0 T n) (hs : s < 4) (hi : i < 5) (hz : i32 z) (hsum : -30000 ≤ sum ∧ sum ≤ 30000) (hr : rdEq S0 S) (hk : mTok S T n p) (hg : going S o (-1)) (hO : owesW post S0 T n o id (if sgIs T n p 59 ∧ i + 1 < (F s).length then .inl (7, p, -1) else if sgIs T n p 59 ∧ sum ≠ z then .inl (8, p, -1) else .inr p)) : wX1_readWay_19 post (m + 1) (iI s) (iI z) (lI sum) (iI (i + 1 : Nat)) (iI 0) S := by
  have hTS := hr.tape hT
  have hlen := ((hr.many hF) s hs).1
  have hvl := ((hr.many hF) s hs).2.1.1
  have tail : ¬ (sgIs T n p 59 ∧ i + 1 < (F s).length) → wX1_readWay_201 post (iI z) (lI sum) S := by
    intro nc
    rw [if_neg nc] at hO
    unfold wX1_readWay_201
    refine m_isSign (c := 59) hk hTS (by omega) (fun e => b_f (by decide) ?_) (fun e => b_t rfl ?_)
    · rw [iI_l (by omega) (by omega), lI_eq (by omega) (by omega) (by omega) (by omega)]
      refine ⟨fun c => ?_, fun c => ?_⟩
      · rw [if_neg (fun q => q.2 c)] at hO
        exact hO.2 p S rfl hk hg hr
      · rw [if_pos ⟨e, c⟩] at hO
        exact m_fails (k := 8) (p := p) hg.1 hk.2.1 hg.2.1 hg.2.2.1 (b_t rfl (hO.1 8 p (-1) _ rfl (badS_bad _ _ _ _ _) (hr.bad _ _ _ _)))
    · rw [if_neg (fun q => e q.1)] at hO
      exact hO.2 p S rfl hk hg hr
  unfold wX1_readWay_19
  refine b_t rfl (m_isSign (c := 59) hk hTS (by omega) (fun e => b_f (by decide) ⟨iI_in (by omega) (by omega) (by omega), ?_⟩) (fun e => b_t rfl (tail (fun q => e q.1))))
  simp (disch := omega) only [iI_nat]
  rw [show (s : Int).toNat = s by omega, hlen, iI_le (by omega) (by omega) (by omega) (by omega)]
  refine ⟨fun c => tail (fun q => by omega), fun c => ?_⟩
  rw [if_pos ⟨e, by omega⟩] at hO
  exact m_wy_fail hO hr hg hk 7 rfl
theorem m_way_51 {post : Int32 → MS → Prop} {S0 S : MS} {F : Nat → List tm} {T : Nat → Int} {n m i p s : Nat} {o sum z : Int} (hF : mForms S0 F) (hT : mTp S0 T n) (hs : s < 4) (hp : p ≤ n) (hi : i ≤ (F s).length) (hz : i32 z) (hsum : -3000 * (i : Int) ≤ sum ∧ sum ≤ 3000 * (i : Int)) (hr : rdEq S0 S) (hk : mTok S T n p) (hg : going S o i) (hB : isNb T n p ∨ sgIs T n p 45) (hO : owesW post S0 T n o id (wyRd T n (F s) z (m + 1) i p sum))
    (ih : ∀ (p : Nat) (sum : Int) (S : MS), p ≤ n → i + 1 ≤ (F s).length → (-3000 * ((i + 1 : Nat) : Int) ≤ sum ∧ sum ≤ 3000 * ((i + 1 : Nat) : Int)) → rdEq S0 S → mTok S T n p → going S o (-1) → owesW post S0 T n o id (wyRd T n (F s) z m (i + 1) p sum) → wX1_readWay_19 post (m + 1) (iI s) (iI z) (lI sum) (iI (i + 1 : Nat)) (iI 1) S) : wX1_readWay_46 (fun x1 x2 x3 x5 x6 S => wX1_readWay_19 post (m + 1) x1 x2 x3 x5 x6 S) post (iI s) (iI z) (lI sum) (iI i) S := by
  have hTS := hr.tape hT
  have hlen := ((hr.many hF) s hs).1
  have hvF := ((hr.many hF) s hs).2.1
  have hvl := hvF.1
  unfold wyRd at hO
  rw [if_neg (fun q => q hB)] at hO
  unfold wX1_readWay_46 wX1_readWay_51
  refine b_f (by decide) ⟨iI_in (by omega) (by omega) (by omega), ?_⟩
  simp (disch := omega) only [iI_nat]
  rw [show (s : Int).toNat = s by omega, hlen, iI_eq (by omega) (by omega) (by omega) (by omega)]
  refine ⟨fun c => m_wy_fail hO hr hg hk 7 (by rw [List.getElem?_eq_none (by omega)]), fun c => ?_⟩
  have hi5 : i < (F s).length := by omega
  obtain ⟨t, et⟩ : ∃ t, (F s)[i]? = some t := ⟨_, List.getElem?_eq_getElem hi5⟩
  have hvt : vT t := hvF.2 t (List.mem_of_getElem? et)
  rw [et] at hO
  simp only [] at hO
  refine m_comes hTS hp hk hg (fun S1 nb k1 g1 r1 e1 l1 => b_f (by decide) ?_) (fun S1 nb b1 r1 => b_t rfl (hO.1 1 _ i S1 (by rw [if_pos nb]) b1 (hr.trans r1)))
  rw [if_neg (fun q => q nb)] at hO
  have rr1 := hr.trans r1
  have tt1 : rTm (S1.2.2.1 1) s i t := ((rr1.many hF) s hs).2.2 i t et
  have hw := whV_in (T := T) (n := n) (p := p)
  refine m_wholeV k1 l1 (m_of (k := 2) (by omega) (by omega) (by omega) (m_of (k := 3) (by omega) (by omega) (by omega) ?_))
  rw [tt1.2.2.1, tt1.2.2.2]
  have hlo := hvt.2.2.2.2.2.1
  have hhi := hvt.2.2.2.2.2.2.1
  have hlh := hvt.2.2.2.2.1
  simp (disch := omega) only [iI_l]
  refine m_isIn (by omega) (by omega) (by omega) (fun a b => b_f (by decide) ?_) (fun a => b_t rfl (m_wy_fail hO rr1 g1 k1 6 (by rw [if_pos a])))
  rw [if_neg (fun q => q ⟨a, b⟩)] at hO
  refine m_wholeV k1 l1 ?_
  simp (disch := omega) only [iI_l]
  refine m_valueOf (rr1.many hF) hs (by omega) et (by omega) (by omega) ?_
  have hval : -3000 ≤ tv t (whV T n p) ∧ tv t (whV T n p) ≤ 3000 := hvt.2.2.2.2.2.2.2 _ a b
  have q1 := (whA_le (T := T) hp).2
  refine m_nextT (rr1.tape hT) q1 k1 (fun S2 t2 k2 => ?_)
  have q2 := (nxT_le (T := T) q1).2
  have rr2 := (rr1.trans t2.rd).I 19 (by omega) (iI (-1))
  have g2 := (t2.going g1).inn (-1)
  have k2' : mTok (mI S2 19 (iI (-1))) T n (nxT T n (whA T n p)) := k2
  refine m_isSign (S := mI S2 19 (iI (-1))) (c := 44) k2' (rr2.tape hT) (by omega) (fun e => b_f (by decide) ?_) (fun e => b_t rfl ?_)
  · rw [if_pos e] at hO
    refine m_nextT (rr2.tape hT) q2 k2' (fun S3 t3 k3 => ?_)
    unfold wX1_readWay_171
    rw [lI_add, show (1 : Int32) = iI 1 from rfl, iI_add]
    exact ih _ _ S3 (nxT_le q2).2 (by omega) (by omega) (rr2.trans t3.rd) k3 (t3.going g2) hO
  · rw [if_neg e] at hO
    unfold wX1_readWay_171
    rw [lI_add, show (1 : Int32) = iI 1 from rfl, iI_add]
    exact m_wy_end hF hT hs (by omega) hz (by omega) rr2 k2' g2 hO
theorem m_way_19 {post : Int32 → MS → Prop} {S0 : MS} {F : Nat → List tm} {T : Nat → Int} {n s : Nat} {o z : Int} (hF : mForms S0 F) (hT : mTp S0 T n) (hs : s < 4) (hz : i32 z) : ∀ (m i p : Nat) (sum : Int) (S : MS), i + m = 6 → p ≤ n → i ≤ (F s).length → (-3000 * (i : Int) ≤ sum ∧ sum ≤ 3000 * (i : Int)) → rdEq S0 S → mTok S T n p → going S o (-1) → owesW post S0 T n o id (wyRd T n (F s) z m i p sum) → wX1_readWay_19 post (m + 1) (iI s) (iI z) (lI sum) (iI i) (iI 1) S
  | 0, i, p, sum, S, hm, hp, hi, hsum, hr, hk, hg, hO => by have := (hF s hs).2.1.1; omega
  | m + 1, i, p, sum, S, hm, hp, hi, hsum, hr, hk, hg, hO => by
    have r1 : rdEq S0 (mI S 19 (iI i)) := hr.I 19 (by omega) _
    have hk1 : mTok (mI S 19 (iI i)) T n p := hk
    have g1 := hg.inn i
    unfold wX1_readWay_19
    have go : (isNb T n p ∨ sgIs T n p 45) → wX1_readWay_46 (fun x1 x2 x3 x5 x6 S => wX1_readWay_19 post (m + 1) x1 x2 x3 x5 x6 S) post (iI s) (iI z) (lI sum) (iI i) (mI S 19 (iI i)) := fun hB => m_way_51 hF hT hs hp hi hz hsum r1 hk1 g1 hB hO (fun p sum S => m_way_19 hF hT hs hz m (i + 1) p sum S (by omega))
    refine b_f (by decide) (m_isNumber hk1 hT.1 hp (fun e => b_f (by decide) (go (Or.inl e))) (fun e => b_t rfl ?_))
    refine m_isSign (c := 45) hk1 (r1.tape hT) (by omega) (fun e2 => b_f (by decide) (go (Or.inr e2))) (fun e2 => b_t rfl ?_)
    unfold wX1_readWay_51
    refine b_t rfl (m_wy_fail hO r1 g1 hk1 1 ?_)
    unfold wyRd
    rw [if_pos (fun q => q.elim e e2)]
theorem m_readWay {post : Int32 → MS → Prop} {S : MS} {F : Nat → List tm} {T : Nat → Int} {n p s : Nat} {o z : Int} (hF : mForms S F) (hT : mTp S T n) (hs : s < 4) (hz : i32 z) (hp : p ≤ n) (hk : mTok S T n p) (hg : going S o (-1)) (hO : owesW post S T n o id (if ¬ sgIs T n p 61 then .inl (1, p, -1) else wyRd T n (F s) z 6 0 (nxT T n p) 0)) : wX1_readWay post S (iI s) (iI z) := by
  unfold wX1_readWay
  refine m_takesSign (c := 61) hk hT hp (by omega) hg.1 hg.2.1 hg.2.2.1 (fun e S' t k => b_f (by decide) ⟨7, ?_⟩) (fun e => b_t rfl ?_)
  · rw [if_neg (fun q => q e), nxT_sg e] at hO
    exact m_way_19 hF hT hs hz 6 0 _ 0 S' rfl (by have := (nxT_le (T := T) hp).2; rw [nxT_sg e] at this; exact this) (by omega) (by omega) t.rd k (t.going hg) hO
  · rw [if_pos e] at hO
    exact hO.1 1 p (-1) _ rfl (badS_bad _ _ _ _ _) ((rdEq.refl S).bad _ _ _ _)
/-- beyond, or told already -/
abbrev outP (P : List Int) (z : Int) : Prop := z ∈ P ∨ ¬ (-3000 ≤ z ∧ z ≤ 3000)
def mPrv (S : MS) (P : List Int) : Prop := P.length ≤ 60 ∧ S.1 32 = iI (P.length : Nat) ∧ ∀ i x, P[i]? = some x → S.2.2.1 31 i = iI x ∧ -20000 ≤ x ∧ x ≤ 20000
theorem m_isOut_2 {post : Int32 → MS → Prop} {S : MS} {P : List Int} {z : Int} (hP : mPrv S P) (hz : i32 z) (h1 : outP P z → post 1 S) (h0 : ¬ outP P z → post 0 S) : ∀ (m i : Nat), i + m = P.length → (∀ j, j < i → P[j]? ≠ some z) → wX1_isOut_2 post (m + 1) (iI z) (iI i) S := by
  obtain ⟨hl, e32, hx⟩ := hP
  intro m
  induction m with
  | zero =>
    intro i hi hn
    unfold wX1_isOut_2
    rw [e32, iI_le (by omega) (by omega) (by omega) (by omega)]
    have nm : z ∉ P := fun c => by
      obtain ⟨j, hj⟩ := List.mem_iff_getElem?.mp c
      have := (List.getElem?_eq_some_iff.mp hj).1
      exact hn j (by omega) hj
    refine b_t (by omega) (m_isN hz (fun a b => b_f (by decide) (h0 (fun c => c.elim nm (fun c => c ⟨a, b⟩)))) (fun a => b_t rfl (h1 (Or.inr a))))
  | succ m ih =>
    intro i hi hn
    unfold wX1_isOut_2
    rw [e32, iI_le (by omega) (by omega) (by omega) (by omega)]
    refine b_f (by omega) ⟨iI_in (by omega) (by omega) (by omega), ?_⟩
    simp (disch := omega) only [iI_nat]
    rw [show (i : Int).toNat = i by omega]
    obtain ⟨x, ex⟩ : ∃ x, P[i]? = some x := ⟨_, List.getElem?_eq_getElem (by omega)⟩
    obtain ⟨e1, e2, e3⟩ := hx i x ex
    rw [e1, iI_eq (by omega) (by omega) (by omega) (by omega)]
    refine ⟨fun c => h1 (Or.inl (by rw [← c]; exact List.mem_of_getElem? ex)), fun c => ?_⟩
    rw [show (1 : Int32) = iI 1 from rfl, iI_add]
    refine ih (i + 1) (by omega) (fun j hj => ?_)
    rcases (show j < i ∨ j = i by omega) with q | q
    · exact hn j q
    · rw [q, ex]; exact fun r => c (by cases r; rfl)
theorem m_isOut {post : Int32 → MS → Prop} {S : MS} {P : List Int} {z : Int} (hP : mPrv S P) (hz : i32 z) (h1 : outP P z → post 1 S) (h0 : ¬ outP P z → post 0 S) : wX1_isOut post S (iI z) := ⟨P.length + 1, m_isOut_2 hP hz h1 h0 P.length 0 (by omega) (fun j hj => by omega)⟩
