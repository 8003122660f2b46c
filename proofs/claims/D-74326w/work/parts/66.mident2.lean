set_option maxRecDepth 100000
set_option maxHeartbeats 4000000
/-! the model reads a part of an identity -/
theorem bit_all : ∀ a : Fin 64, ∀ k : Fin 6, iI (a.val : Int) ||| ((1 : Int32) <<< (iI (k.val : Int) &&& 31)) = iI ((a.val ||| 1 <<< k.val : Nat) : Int) := by decide +kernel
theorem bit_or {a : Nat} {w : Int} (ha : a < 64) (h1 : 0 ≤ w) (h2 : w ≤ 5) : iI (a : Int) ||| ((1 : Int32) <<< (iI w &&& 31)) = iI ((a ||| 1 <<< w.toNat : Nat) : Int) := by
  have h := bit_all ⟨a, ha⟩ ⟨w.toNat, by omega⟩
  simp only [] at h
  rw [show ((w.toNat : Nat) : Int) = w by omega] at h
  exact h
theorem m_pt_196 {rc : (Int32 → MS → Prop) → MS → Prop} {post : Int32 → MS → Prop} {S0 S : MS} {T : Nat → Int} {n : Nat} {o : Int} {j : Nat} {s : xst} {x : Int32} {a b : Int} {L : Nat} (hT : mTp S0 T n) (hs : xOk n s) (hr : idEq S0 S) (hk : mTok S T n s.1) (hg : going S o j) (hx : mXs S s) (hL : (x = 0 ∧ L = s.2.2.2) ∨ (x = 1 ∧ L = s.2.2.2 ||| 1 <<< (wrdV T n s.1 - 1).toNat ∧ ltAt T n s.1)) (hO : owesX post S0 T n o j (.inr (nxT T n s.1, s.2.1 ++ [(a, b)], s.2.2.1, L))) : wX1_readPart_196 rc post x (iI b) (iI a) S := by
  unfold wX1_readPart_196
  have hlen := hs.2.2.1
  have hpt := hs.2.1
  refine m_puts hx (by omega) (fun S1 r1 x1 e1 e2 => ?_)
  have g1 := keep36 e1 hg
  have k1 := tok36 e1 e2 hk
  have rr1 := hr.trans r1
  have fin : ∀ S2 : MS, idEq S0 S2 → mTok S2 T n s.1 → going S2 o j → mXs S2 (s.1, s.2.1 ++ [(a, b)], s.2.2.1, L) → wX1_readPart_221 rc post S2 := by
    intro S2 r2 k2 g2 x2
    unfold wX1_readPart_221
    refine m_nextT (r2.tape hT) hs.1 k2 (fun S3 t3 k3 => ?_)
    exact hO.2 _ S3 rfl k3 (t3.going g2) (r2.trans t3.rd.id) (x2.rd t3.rd)
  rcases hL with ⟨e, eL⟩ | ⟨e, eL, lt⟩
  · exact b_t e (fin S1 rr1 k1 g1 (by rw [eL]; exact x1))
  · rw [e]
    refine b_f (by decide) (fin _ (rr1.trans (idEq.I (by omega) _)) k1 g1 ⟨x1.1, x1.2.1, ?_, x1.2.2.2⟩)
    have hl := lt_val lt
    have hl6 := lt.2.2
    show S1.1 40 ||| _ = iI (L : Nat)
    rw [x1.2.2.1, k1.2.2.2.1]
    show iI (s.2.2.2 : Nat) ||| _ = _
    rw [show (lI (wrdV T n s.1)).toInt32 - 1 = iI (wrdV T n s.1 - 1) from by rw [lI_i, show (1 : Int32) = iI 1 from rfl, iI_sub], bit_or hs.2.2.2.1 (by omega) (by omega), eL]
theorem m_pt_89 {rc : (Int32 → MS → Prop) → MS → Prop} {rcS : Nat → xst → xR} {post : Int32 → MS → Prop} {S0 S : MS} {T : Nat → Int} {n : Nat} {o : Int} {j : Nat} {s : xst} {x : Int32} (hT : mTp S0 T n) (hs : xOk n s) (hr : idEq S0 S) (hk : mTok S T n s.1) (hg : going S o j) (hx : mXs S s) (hj : j ≤ 6) (hL : (x = 0 ∧ ¬ ltAt T n s.1) ∨ (x = 1 ∧ ltAt T n s.1)) (hrc : j < 6 → rcOk rc rcS S0 T n o j) (hgr : rcGr n rcS) (hB : isNb T n s.1 ∨ ltAt T n s.1 ∨ sgIs T n s.1 40) (h11 : ¬ (sgIs T n s.1 40 ∧ j = 6)) (hO : owesX post S0 T n o j (ptR T n rcS j s)) : wX1_readPart_89 rc post x S := by
  have hTS := hr.tape hT
  obtain ⟨h1, h2, h3, h4, h5⟩ := hs
  unfold ptR at hO
  rw [if_neg (fun q => q hB), if_neg h11] at hO
  unfold wX1_readPart_89
  rw [hx.2.1, show (60 : Int32) = iI 60 from rfl, show (1 : Int32) = iI 1 from rfl, iI_add, iI_eq (by omega) (by omega) (by omega) (by omega)]
  refine ⟨fun c => m_x_fail hO hr hg hk 12 (by rw [if_pos (by omega)]), fun c => ?_⟩
  rw [if_neg (by omega)] at hO
  obtain ⟨S1, eS1⟩ : ∃ S1, S1 = mI S 38 (iI ((s.2.2.1 : Int) + 1)) := ⟨_, rfl⟩
  rw [← eS1]
  have r1 : idEq S0 S1 := by rw [eS1]; exact hr.trans (idEq.I (by omega) _)
  have k1 : mTok S1 T n s.1 := by rw [eS1]; exact hk
  have g1 : going S1 o j := by rw [eS1]; exact hg
  have x1 : mXs S1 (s.1, s.2.1, s.2.2.1 + 1, s.2.2.2) := by rw [eS1]; exact ⟨hx.1, rfl, hx.2.2.1, hx.2.2.2⟩
  have ok1 : xOk n (s.1, s.2.1, s.2.2.1 + 1, s.2.2.2) := ⟨h1, by show s.2.2.1 + 1 ≤ 60; omega, by show s.2.1.length ≤ 3 * (s.2.2.1 + 1); omega, h4, h5⟩
  refine m_isSign (c := 40) k1 (r1.tape hT) (by omega) (fun e => b_f (by decide) ?_) (fun e => b_t rfl ?_)
  · rw [if_pos e] at hO
    have hj6 : j < 6 := by rcases (show j < 6 ∨ j = 6 by omega) with q | q; exact q; exact absurd ⟨e, q⟩ h11
    rw [g1.2.2.1, iI_add]
    have r2 : rdEq S1 (mI S1 19 (iI ((j : Int) + 1))) := (rdEq.refl S1).I 19 (by omega) _
    have g2 := g1.inn ((j : Int) + 1)
    have k2 : mTok (mI S1 19 (iI ((j : Int) + 1))) T n s.1 := k1
    refine m_nextT ((r1.trans r2.id).tape hT) h1 k2 (fun S2 t2 k3 => ?_)
    have rr3 := r2.trans t2.rd
    have ok3 := ok1.at (p := nxT T n s.1) (nxT_le h1).2
    refine hrc hj6 _ (nxT T n s.1, s.2.1, s.2.2.1 + 1, s.2.2.2) S2 ok3 (r1.trans rr3.id) k3 (t2.going g2) ((x1.rd rr3).at _) ⟨?_, ?_⟩
    · intro k q i S' eR b r
      rw [eR] at hO
      exact b_t rfl (hO.1 k q i S' rfl b r)
    · intro s' S' eR k g r x
      rw [eR] at hO
      have hgrow := hgr _ _ _ ok3 eR
      refine b_f (by decide) ?_
      unfold ptC at hO
      simp only [] at hO
      refine m_takesSign (c := 41) k (r.tape hT) hgrow.1.1 (by omega) g.1 g.2.1 g.2.2.1 (fun e3 S3 t3 k4 => b_f (by decide) ?_) (fun e3 => b_t rfl ?_)
      · rw [if_neg (fun q => q e3), nxT_sg e3] at hO
        have g3 := t3.going g
        rw [g3.2.2.1, iI_sub, show ((j + 1 : Nat) : Int) - 1 = (j : Int) by omega]
        have r4 : rdEq S3 (mI S3 19 (iI j)) := (rdEq.refl S3).I 19 (by omega) _
        exact hO.2 _ _ rfl k4 (g3.inn j) (r.trans (t3.rd.trans r4).id) ((x.rd (t3.rd.trans r4)).at _)
      · rw [if_pos e3] at hO
        exact hO.1 1 s'.1 _ _ rfl (badS_bad _ _ _ _ _) (r.trans ((rdEq.refl S').bad _ _ _ _).id)
  · rw [if_neg e] at hO
    rcases hL with ⟨ex, nl⟩ | ⟨ex, l⟩
    · rw [if_neg nl] at hO
      rw [ex]
      refine b_t rfl ?_
      unfold wX1_readPart_178
      refine b_t rfl ?_
      rw [k1.2.2.2.2.1]
      exact m_pt_196 (a := 0) (s := (s.1, s.2.1, s.2.2.1 + 1, s.2.2.2)) hT ok1 r1 k1 g1 x1 (Or.inl ⟨rfl, rfl⟩) hO
    · rw [if_pos l] at hO
      rw [ex]
      refine b_f (by decide) ?_
      unfold wX1_readPart_178
      refine b_f (by decide) ?_
      rw [k1.2.2.2.1, lI_i, show (1 : Int32) = iI 1 from rfl, iI_sub]
      exact m_pt_196 (a := 1) (s := (s.1, s.2.1, s.2.2.1 + 1, s.2.2.2)) hT ok1 r1 k1 g1 x1 (Or.inr ⟨rfl, rfl, l⟩) hO
theorem m_pt_64 {rc : (Int32 → MS → Prop) → MS → Prop} {rcS : Nat → xst → xR} {post : Int32 → MS → Prop} {S0 S : MS} {T : Nat → Int} {n : Nat} {o : Int} {j : Nat} {s : xst} {x : Int32} (hT : mTp S0 T n) (hs : xOk n s) (hr : idEq S0 S) (hk : mTok S T n s.1) (hg : going S o j) (hx : mXs S s) (hj : j ≤ 6) (hL : (x = 0 ∧ ¬ ltAt T n s.1) ∨ (x = 1 ∧ ltAt T n s.1)) (hrc : j < 6 → rcOk rc rcS S0 T n o j) (hgr : rcGr n rcS) (hB : isNb T n s.1 ∨ ltAt T n s.1 ∨ sgIs T n s.1 40) (hO : owesX post S0 T n o j (ptR T n rcS j s)) : wX1_readPart_64 rc post x S := by
  unfold wX1_readPart_64
  refine m_isSign (c := 40) hk (hr.tape hT) (by omega) (fun e => b_f (by decide) ?_) (fun e => b_t rfl (m_pt_89 hT hs hr hk hg hx hj hL hrc hgr hB (fun q => e q.1) hO))
  rw [hg.2.2.1, show (6 : Int32) = iI 6 from rfl, iI_eq (by omega) (by omega) (by omega) (by omega)]
  refine ⟨fun c => ?_, fun c => m_pt_89 hT hs hr hk hg hx hj hL hrc hgr hB (fun q => c (by omega)) hO⟩
  refine m_x_fail hO hr hg hk 11 ?_
  unfold ptR
  rw [if_neg (fun q => q hB), if_pos ⟨e, by omega⟩]
theorem m_pt_37 {rc : (Int32 → MS → Prop) → MS → Prop} {rcS : Nat → xst → xR} {post : Int32 → MS → Prop} {S0 S : MS} {T : Nat → Int} {n : Nat} {o : Int} {j : Nat} {s : xst} {x : Int32} (hT : mTp S0 T n) (hs : xOk n s) (hr : idEq S0 S) (hk : mTok S T n s.1) (hg : going S o j) (hx : mXs S s) (hj : j ≤ 6) (hL : (x = 0 ∧ ¬ ltAt T n s.1) ∨ (x = 1 ∧ ltAt T n s.1)) (hrc : j < 6 → rcOk rc rcS S0 T n o j) (hgr : rcGr n rcS) (hO : owesX post S0 T n o j (ptR T n rcS j s)) : wX1_readPart_37 rc post x S := by
  have go := fun hB => m_pt_64 (x := x) hT hs hr hk hg hx hj hL hrc hgr hB hO
  unfold wX1_readPart_37
  refine m_isNumber hk hT.1 hs.1 (fun e => b_f (by decide) (go (Or.inl e))) (fun e => b_t rfl ?_)
  rcases hL with ⟨ex, nl⟩ | ⟨ex, l⟩
  · refine b_t ex ?_
    refine m_isSign (c := 40) hk (hr.tape hT) (by omega) (fun e2 => b_f (by decide) (go (Or.inr (Or.inr e2)))) (fun e2 => b_t rfl (m_x_fail hO hr hg hk 1 ?_))
    unfold ptR
    rw [if_pos (fun q => q.elim e (fun q => q.elim nl e2))]
  · exact b_f (by rw [ex]; decide) (go (Or.inr (Or.inl l)))
theorem wrd_in {T : Nat → Int} {n p : Nat} (hT : ∀ k, k < n → 0 ≤ T k ∧ T k ≤ 255) (h1 : srt T n p = 1) (h2 : ende T n p = p + 1) : 0 ≤ wrdV T n p ∧ wrdV T n p ≤ 1000 := by
  have hv : wrdV T n p = T p - 96 := by
    unfold wrdV
    rw [if_pos h1, h2, show min 7 (p + 1 - p) = 1 by omega]
    unfold valE valE
    simp
  rw [hv]
  unfold srt at h1
  split at h1
  · omega
  split at h1
  · rename_i e
    rw [isL_iff] at e
    omega
  split at h1 <;> omega
theorem m_part {rc : (Int32 → MS → Prop) → MS → Prop} {rcS : Nat → xst → xR} {post : Int32 → MS → Prop} {S0 S : MS} {T : Nat → Int} {n : Nat} {o : Int} {j : Nat} {s : xst} (hT : mTp S0 T n) (hs : xOk n s) (hr : idEq S0 S) (hk : mTok S T n s.1) (hg : going S o j) (hx : mXs S s) (hj : j ≤ 6) (hrc : j < 6 → rcOk rc rcS S0 T n o j) (hgr : rcGr n rcS) (hO : owesX post S0 T n o j (ptR T n rcS j s)) : wX1_readPart rc post S := by
  have hn := hT.1
  have hsn := hs.1
  have hend := ende_in (T := T) hsn
  have no : ¬ ltAt T n s.1 → wX1_readPart_36 rc post S := fun q => m_pt_37 hT hs hr hk hg hx hj (Or.inl ⟨rfl, q⟩) hrc hgr hO
  unfold wX1_readPart
  rw [hk.1, hk.2.1, hk.2.2.1, hk.2.2.2.1, iI_sub, show (1 : Int32) = iI 1 from rfl, show (6 : Int64) = lI 6 from rfl, iI_eq (by unfold srt; split <;> (try split) <;> (try split) <;> omega) (by unfold srt; split <;> (try split) <;> (try split) <;> omega) (by omega) (by omega), iI_eq (by omega) (by omega) (by omega) (by omega)]
  refine ⟨fun c => ⟨fun c2 => ?_, fun c2 => no (fun q => by have := q.2.1; omega)⟩, fun c => no (fun q => c q.1)⟩
  have hw := wrd_in (fun k hk => (hT.2.2 k hk).2) c (by omega)
  rw [lI_lt (by omega) (by omega) (by omega) (by omega)]
  exact ⟨fun c3 => no (fun q => by have := q.2.2; omega), fun c3 => m_pt_37 hT hs hr hk hg hx hj (Or.inr ⟨rfl, c, by omega, by omega⟩) hrc hgr hO⟩
