set_option maxRecDepth 100000
set_option maxHeartbeats 4000000
/-! the pairs of the calls that read, show, try -/
theorem mRs.shown {σ : PS} {S S' : MS} {L : List Int} (h : mRs σ S) (e : wtEq S S') (l : mLaid S' σ.1) (s : mShown S' L) : mRs (σ.1, σ.2.1, σ.2.2.1, σ.2.2.2.1, L) S' := by
  obtain ⟨h1, h2, ⟨h4, h5, h6, h7⟩, h8, h9, h10, h11⟩ := h
  obtain ⟨-, e2, e3, e4⟩ := e
  exact ⟨h1.told (fun q _ => by rw [e4 0 (by omega) (by omega)]) (fun q _ => by rw [e4 1 (by omega) (by omega)]), h2.eq (e3 3 (by omega) (by omega)) (e4 2 (by omega) (by omega)), ⟨by rw [e3 4 (by omega) (by omega)]; exact h4, by rw [e3 5 (by omega) (by omega)]; exact h5, by rw [e3 6 (by omega) (by omega)]; exact h6, by rw [e3 7 (by omega) (by omega)]; exact h7⟩, l, h9.rd (e3 23 (by omega) (by omega)) (e2 24 (by omega)), h10.kept ⟨e3 41 (by omega) (by omega), e3 37 (by omega) (by omega), e3 39 (by omega) (by omega), fun q _ => by rw [e4 35 (by omega) (by omega)], fun q _ => ⟨by rw [e4 33 (by omega) (by omega)], by rw [e4 34 (by omega) (by omega)]⟩⟩, s⟩
section
variable {K : Nat → Nat → Nat} {a : Nat → Nat} {σ : PS} {ch : List Nat} {S : MS} {S0 : CS} {N : NM} {MC MS : Nat}
theorem fL.no {N : NM} {ch : List Nat} : fL N ch none 0 (-1) (-1) (-1) := Or.inl ⟨rfl, rfl, rfl, rfl, rfl⟩
theorem p_form (m0 : mRs σ S) (c0 : cRt K a σ ch S0 N) (hMC : 9000 ≤ MC) (hMS : 100000 ≤ MS) (x_s : Int32) : ∃ v σ', wX0_form K (fun r ch' N' => r = v ∧ cRs K a σ' ch' N') MC MS N (a 0) x_s ∧ wX1_form (fun r S' => r = v ∧ mRs σ' S') S x_s := by
  obtain ⟨s, rfl, hs⟩ := i32_ex x_s
  obtain ⟨mF, mT, mf, mL, mU, mi, mS⟩ := id m0
  obtain ⟨cl, cs, ct, cd, cu, cf, ci, cw⟩ := id c0
  by_cases h : 0 ≤ s ∧ s ≤ 3
  · have no : ∀ {P : Prop}, ¬ (0 ≤ s ∧ s ≤ 3) → P := fun c => (c h).elim
    cases hR : fmR σ.2.1.1 σ.2.1.2 with
    | inl R =>
      obtain ⟨w, pl, o⟩ := R
      refine ⟨iI (-1), (σ.1, (σ.2.1.1, 0), (w, pl, o, -1), σ.2.2.2), c_form cl ct hs (by omega) (by omega) (fun c => no c) (fun d _ _ w' pl' o' e N' q r f1 f2 f3 f4 g l k _ _ h3 h4 => ?_) (fun d _ _ ts e => ?_), m_form mF mT hs (fun c => no c) (fun d _ _ => ⟨fun k q o S' e t => ?_, fun L S' e => ?_⟩)⟩
      · rw [hR] at e; cases e
        exact ⟨rfl, fun _ => ⟨_, c0.pass l k rfl rfl rfl rfl rfl (tape0 rfl) (Or.inr ⟨q, rfl, by simp, r, by simp, h3, Or.inl ⟨rfl, f1, f2, f3, f4, g, h4⟩⟩) (ci.kp cl k rfl rfl rfl rfl)⟩⟩
      · rw [hR] at e; cases e
      · rw [hR] at e; cases e
        exact ⟨rfl, m0.told t⟩
      · rw [hR] at e; cases e
    | inr ts =>
      refine ⟨iI (ts.length : Nat), (upF σ.1 s.toNat ts, (σ.2.1.1, 0), (0, -1, -1, -1), σ.2.2.2), c_form cl ct hs (by omega) (by omega) (fun c => no c) (fun d _ _ w' pl' o' e => ?_) (fun d _ ed ts e N' q l k _ h3 => ?_), m_form mF mT hs (fun c => no c) (fun d _ ed => ⟨fun k q o S' e t => ?_, fun L S' e t f0 f1 g => ?_⟩)⟩
      · rw [hR] at e; cases e
      · rw [hR] at e; cases e
        subst ed
        exact ⟨rfl, fun hv => ⟨_, l, slots_put cl cs k rfl h3 hv, tape0 rfl, cd.same cl k rfl rfl, cu.same cl k rfl rfl, fL.no, ci.kp cl k rfl rfl rfl rfl, cw.kp cl k rfl⟩⟩
      · rw [hR] at e; cases e
      · rw [hR] at e; cases e
        subst ed
        exact ⟨rfl, (m0.told t).made g⟩
  · refine ⟨iI (-2), (σ.1, (σ.2.1.1, 0), (0, -1, -1, -1), σ.2.2.2), c_form cl ct hs (by omega) (by omega) (fun _ N' l k => ⟨rfl, fun _ => ⟨_, c0.pass l k rfl rfl rfl rfl rfl (tape0 rfl) fL.no (ci.kp cl k rfl rfl rfl rfl)⟩⟩) (fun d hd e => (h (by omega)).elim) (fun d hd e => (h (by omega)).elim), m_form mF mT hs (fun _ S' t => ⟨rfl, m0.told t⟩) (fun d hd e => (h (by omega)).elim)⟩
theorem cRt.ly {y : Option Nat} {ft : Int × Int × Int × Int} {ch' : List Nat} {S' : CS} {N' : NM} (h : cRt K a σ ch S0 N) (l : cL K a S' N') (k : kp a N N') (e : lyEq (cN (cR S0 11 y) 13 0) S') (d : cLaid K S' N') (hf : fL N' ch' y ft.1 ft.2.1 ft.2.2.1 ft.2.2.2) : cRt K a (σ.1, (σ.2.1.1, 0), ft, σ.2.2.2) ch' S' N' := by
  obtain ⟨cl, cs, ct, cd, cu, cf, ci, cw⟩ := h
  obtain ⟨e1, e2, e3, e4, e5, e6⟩ := e
  refine ⟨l, cs.kp cl k e3, tape0 (by rw [e1]; rfl), d, ?_, ?_, ci.kp cl k (e2 7 (by omega)) (e2 8 (by omega)) (by rw [e1]; rfl) (by rw [e1]; rfl), cw.kp cl k (e2 17 (by omega))⟩
  · rcases cu with z | ⟨q, ts, z1, z2, z3, z4⟩
    · exact Or.inl ((e2 6 (by omega)).trans z)
    · exact Or.inr ⟨q, ts, (e2 6 (by omega)).trans z1, z2.kp cl k, z3, by rw [e5 6 (by omega)]; exact z4⟩
  · rw [e2 11 (by omega)]; exact hf
theorem fL.thrO {N0 N' : NM} {y : Nat} {ch : List Nat} {k : Int} {pl : Nat} {o i : Int} (h : thrO N0 N' y ch k pl o i) : fL N' ch (some y) k pl o i := by
  obtain ⟨r, ch', rfl, -, h2, h3⟩ := h
  rcases h3 with ⟨h3, rfl, -, f1, f2, f3, f4, g, h4⟩ | ⟨u, f1, f2, f3, f4, g, rfl, -, -, h4, h5⟩
  · exact Or.inr ⟨y, rfl, by simp, r, by simp, h2, Or.inl ⟨h3, f1, f2, f3, f4, g, h4⟩⟩
  · exact Or.inr ⟨y, rfl, by simp, r, by simp, h2, Or.inr ⟨u, f1, f2, f3, f4, g, by simp, h4, h5⟩⟩
theorem p_prove (hK : kOk K) (m0 : mRs σ S) (c0 : cRt K a σ ch S0 N) (hMC : 9000 ≤ MC) (hMS : 100000 ≤ MS) (x_s : Int32) : ∃ v σ', wX0_prove K (fun r ch' N' => r = v ∧ cRs K a σ' ch' N') MC MS N (a 0) x_s ∧ wX1_prove (fun r S' => r = v ∧ mRs σ' S') S x_s := by
  obtain ⟨s, rfl, hs⟩ := i32_ex x_s
  obtain ⟨mF, mT, mf, mL, mU, mi, mS⟩ := id m0
  obtain ⟨cl, cs, ct, cd, cu, cf, ci, cw⟩ := id c0
  by_cases h : 0 ≤ s ∧ s ≤ 3 ∧ σ.1 s.toNat ≠ []
  · have no : ∀ {P : Prop}, ¬ (0 ≤ s ∧ s ≤ 3 ∧ σ.1 s.toNat ≠ []) → P := fun c => (c h).elim
    cases hR : prR σ.2.1.1 σ.2.1.2 (σ.1 s.toNat) with
    | inl R =>
      obtain ⟨w, pl, o, i⟩ := R
      refine ⟨iI (-1), (σ.1, (σ.2.1.1, 0), (w, pl, o, i), σ.2.2.2), c_prove hK cl ct cs cd hs (by omega) (by omega) (fun c => no c) (fun d _ ed _ w' pl' o' i' e S' N' y ch' l k ly d' th => ?_) (fun d _ ed _ P e => ?_), m_prove mF mL mT hs (fun c => no c) (fun d _ ed _ => ⟨fun k q o i S' e t => ?_, fun P S' e => ?_⟩)⟩
      · subst ed; rw [show ((d : Int)).toNat = d from rfl, e] at hR; cases hR
        exact ⟨rfl, fun _ => ⟨_, c0.ly l k ly d' (fL.thrO th)⟩⟩
      · subst ed; rw [show ((d : Int)).toNat = d from rfl, e] at hR; cases hR
      · subst ed; rw [show ((d : Int)).toNat = d from rfl, e] at hR; cases hR
        exact ⟨rfl, m0.toldP t⟩
      · subst ed; rw [show ((d : Int)).toNat = d from rfl, e] at hR; cases hR
    | inr P =>
      refine ⟨iI (P.length : Nat), (σ.1, (σ.2.1.1, 0), (0, -1, -1, -1), σ.2.2.2), c_prove hK cl ct cs cd hs (by omega) (by omega) (fun c => no c) (fun d _ ed _ w' pl' o' i' e => ?_) (fun d _ ed _ P e S' N' l k ly d' => ?_), m_prove mF mL mT hs (fun c => no c) (fun d _ ed _ => ⟨fun k q o i S' e t => ?_, fun P S' e t => ?_⟩)⟩
      · subst ed; rw [show ((d : Int)).toNat = d from rfl, e] at hR; cases hR
      · subst ed; rw [show ((d : Int)).toNat = d from rfl, e] at hR; cases hR
        exact ⟨rfl, fun _ => ⟨_, c0.ly l k ly d' fL.no⟩⟩
      · subst ed; rw [show ((d : Int)).toNat = d from rfl, e] at hR; cases hR
      · subst ed; rw [show ((d : Int)).toNat = d from rfl, e] at hR; cases hR
        exact ⟨rfl, m0.toldP t⟩
  · refine ⟨iI (-2), (σ.1, (σ.2.1.1, 0), (0, -1, -1, -1), σ.2.2.2), c_prove hK cl ct cs cd hs (by omega) (by omega) (fun _ S' N' l k ly d' => ⟨rfl, fun _ => ⟨_, c0.ly l k ly d' fL.no⟩⟩) (fun d hd e ne => (h ?_).elim) (fun d hd e ne => (h ?_).elim), m_prove mF mL mT hs (fun _ S' t => ⟨rfl, m0.toldP t⟩) (fun d hd e ne => (h ?_).elim)⟩
    · subst e; exact ⟨by omega, by omega, ne⟩
    · subst e; exact ⟨by omega, by omega, ne⟩
    · subst e; exact ⟨by omega, by omega, ne⟩
theorem p_identity (m0 : mRs σ S) (c0 : cRt K a σ ch S0 N) (hMC : 9000 ≤ MC) (hMS : 100000 ≤ MS) : ∃ v σ', wX0_identity K (fun r ch' N' => r = v ∧ cRs K a σ' ch' N') MC MS N (a 0) ∧ wX1_identity (fun r S' => r = v ∧ mRs σ' S') S := by
  obtain ⟨mF, mT, mf, mL, mU, mi, mS⟩ := id m0
  obtain ⟨cl, cs, ct, cd, cu, cf, ci, cw⟩ := id c0
  cases hR : idR σ.2.1.1 σ.2.1.2 with
  | inl R =>
    obtain ⟨w, pl, o, i⟩ := R
    refine ⟨iI (-1), (σ.1, (σ.2.1.1, 0), (w, pl, o, i), σ.2.2.2.1, σ.2.2.2.2), c_ident cl ct (by omega) (by omega) (fun w' pl' o' i' e N' y z r f1 f2 f3 f4 g l k _ _ _ h3 h4 h5 => ?_) (fun e' s e => ?_), m_identity mT (fun k q o i S' e t kk => ?_) (fun e' s S' e => ?_)⟩
    · rw [hR] at e; cases e
      exact ⟨rfl, fun _ => ⟨_, c0.pass l k rfl rfl rfl rfl rfl (tape0 rfl) (Or.inr ⟨y, rfl, by simp, z, by simp, h3, Or.inr ⟨r, f1, f2, f3, f4, g, by simp, h4, h5⟩⟩) (ci.kp cl k rfl rfl rfl rfl)⟩⟩
    · rw [hR] at e; cases e
    · rw [hR] at e; cases e
      exact ⟨rfl, m0.toldI t (mi.kept kk)⟩
    · rw [hR] at e; cases e
  | inr R =>
    obtain ⟨e0, s0⟩ := R
    have ok := idR_ok hR
    refine ⟨iI (btN 6 s0.2.2.2 : Nat), (σ.1, (σ.2.1.1, 0), (0, -1, -1, -1), some (e0, s0.2.1, s0.2.2.1, s0.2.2.2), σ.2.2.2.2), c_ident cl ct (by omega) (by omega) (fun w' pl' o' i' e => ?_) (fun e' s e N' S' ql qr l k e1 e2 e3 hid => ?_), m_identity mT (fun k q o i S' e t kk => ?_) (fun e' s S' e t hid => ?_)⟩
    · rw [hR] at e; cases e
    · rw [hR] at e; cases e
      exact ⟨rfl, fun _ => ⟨_, c0.pass l k (by rw [e3]) (by rw [e3]) (by rw [e1]; rfl) (by rw [e1]; rfl) (by rw [e1]; rfl) (tape0 (by rw [e2]; rfl)) (by rw [e1]; exact fL.no) (Or.inr ⟨_, _, _, _, rfl, hid⟩)⟩⟩
    · rw [hR] at e; cases e
    · rw [hR] at e; cases e
      exact ⟨rfl, m0.toldI t (Or.inr ⟨_, _, _, _, rfl, hid, idR_sds hR, ok.1.2.2.2.1⟩)⟩
theorem p_tried (m0 : mRs σ S) (c0 : cRt K a σ ch S0 N) (hMC : 9000 ≤ MC) (hMS : 100000 ≤ MS) (x_b x_w : Int32) : ∃ v σ', wX0_tried K (fun r N' => r = v ∧ cRs K a σ' ch N') MC MS N (a 0) x_b x_w ∧ wX1_tried (fun r S' => r = v ∧ mRs σ' S') S x_b x_w := by
  obtain ⟨b, rfl, hb⟩ := i32_ex x_b
  obtain ⟨w, rfl, hw⟩ := i32_ex x_w
  obtain ⟨mF, mT, mf, mL, mU, mi, mS⟩ := id m0
  obtain ⟨cl, cs, ct, cd, cu, cf, ci, cw⟩ := id c0
  rcases ci with ⟨i1, i2, -, -⟩ | ⟨e, C, p, l, i1, i2⟩
  · rcases mi with ⟨-, j2, -, -⟩ | ⟨e', C', p', l', j1, -⟩
    · refine ⟨iI (-100000), σ, c_tried (J := fun _ _ _ _ => False) cl hb hw (by omega) (by omega) (Or.inl i2) (fun _ _ _ _ z => z.elim) (fun _ => ⟨rfl, fun _ => ⟨_, c0⟩⟩) (fun _ _ _ _ _ _ _ _ z => z.elim), m_noId j2 ⟨rfl, m0⟩⟩
    · rw [i1] at j1; cases j1
  · rcases mi with ⟨j1, -⟩ | ⟨e', C', p', l', j1, j2, j3, j4⟩
    · rw [i1] at j1; cases j1
    · rw [i1] at j1; cases j1
      have h7 : S0.1.1 7 ≠ none := by
        obtain ⟨-, -, ql, qr, z, -⟩ := i2
        rw [z]; simp
      by_cases h : 0 ≤ b ∧ b ≤ 3 ∧ 0 ≤ w ∧ w ≤ 7
      · refine ⟨iI (trS e C l b w), σ, c_tried (J := fun e' C' p' l' => e' = e ∧ C' = C ∧ l' = l) cl hb hw (by omega) (by omega) (Or.inr ⟨e, C, p, l, i2, rfl, rfl, rfl⟩) (fun _ _ _ _ z => by rw [z.2.2]; exact j4) (fun c => (c ⟨h7, h⟩).elim) (fun _ _ _ _ e' C' p' l' z N' n => ⟨?_, fun _ => ⟨_, c0.nw n⟩⟩), m_tried j2 j3 j4 hb hw (fun c => (c h).elim) (fun _ _ _ _ S' t => ⟨rfl, m0.tr t⟩)⟩
        obtain ⟨z1, z2, z3⟩ := z
        subst z1 z2 z3; rfl
      · exact ⟨iI (-100000), σ, c_tried (J := fun e' C' p' l' => e' = e ∧ C' = C ∧ l' = l) cl hb hw (by omega) (by omega) (Or.inr ⟨e, C, p, l, i2, rfl, rfl, rfl⟩) (fun _ _ _ _ z => by rw [z.2.2]; exact j4) (fun _ => ⟨rfl, fun _ => ⟨_, c0⟩⟩) (fun a1 a2 a3 a4 _ _ _ _ _ _ _ => (h ⟨a1, a2, a3, a4⟩).elim), m_tried j2 j3 j4 hb hw (fun _ => ⟨rfl, m0⟩) (fun a1 a2 a3 a4 _ _ => (h ⟨a1, a2, a3, a4⟩).elim)⟩
theorem p_side (m0 : mRs σ S) (c0 : cRt K a σ ch S0 N) (hMC : 9000 ≤ MC) (hMS : 100000 ≤ MS) (x_d y0 y1 y2 y3 y4 x_5 : Int32) : ∃ v σ', wX0_side K (fun r N' => r = v ∧ cRs K a σ' ch N') MC MS N (a 0) x_d y0 y1 y2 y3 y4 x_5 ∧ wX1_side (fun r S' => r = v ∧ mRs σ' S') S x_d y0 y1 y2 y3 y4 x_5 := by
  obtain ⟨d, rfl, hd⟩ := i32_ex x_d
  obtain ⟨y', hy', e0, e1, e2, e3, e4⟩ := five_ex y0 y1 y2 y3 y4
  obtain ⟨y5, e5, h5⟩ := i32_ex x_5
  obtain ⟨y, hy, g0, g1, g2, g3, g4, g5⟩ : ∃ y : Nat → Int, (∀ k, k < 6 → i32 (y k)) ∧ y0 = iI (y 0) ∧ y1 = iI (y 1) ∧ y2 = iI (y 2) ∧ y3 = iI (y 3) ∧ y4 = iI (y 4) ∧ x_5 = iI (y 5) := ⟨fun k => if k = 5 then y5 else y' k, fun k hk => by
    show i32 (if k = 5 then y5 else y' k)
    split
    · exact h5
    · exact hy' k (by omega), e0, e1, e2, e3, e4, e5⟩
  subst g0 g1 g2 g3 g4 g5
  clear hy' e0 e1 e2 e3 e4 e5
  obtain ⟨mF, mT, mf, mL, mU, mi, mS⟩ := id m0
  obtain ⟨cl, cs, ct, cd, cu, cf, ci, cw⟩ := id c0
  rcases ci with ⟨i1, i2, -, -⟩ | ⟨e, C, p, l, i1, i2⟩
  · rcases mi with ⟨-, j2, -, -⟩ | ⟨e', C', p', l', j1, -⟩
    · exact ⟨lI (-9223372036854775808), σ, c_side (J := fun _ _ _ _ => False) cl hd hy (by omega) (by omega) (Or.inl i2) (fun _ N' n => ⟨rfl, fun _ => ⟨_, c0.nw n⟩⟩) (fun _ _ _ _ _ _ _ z => z.elim), m_noIdS j2 ⟨rfl, m0⟩⟩
    · rw [i1] at j1; cases j1
  · rcases mi with ⟨j1, -⟩ | ⟨e', C', p', l', j1, j2, j3, j4⟩
    · rw [i1] at j1; cases j1
    · rw [i1] at j1; cases j1
      have h7 : S0.1.1 7 ≠ none := by
        obtain ⟨-, -, ql, qr, z, -⟩ := i2
        rw [z]; simp
      by_cases h : 0 ≤ d ∧ d ≤ 1 ∧ six y
      · refine ⟨lI (nVal (sdV y (sdX e C d.toNat))), σ, c_side (J := fun e' C' p' l' => e' = e ∧ C' = C) cl hd hy (by omega) (by omega) (Or.inr ⟨e, C, p, l, i2, rfl, rfl⟩) (fun c => (c ⟨h7, h⟩).elim) (fun _ _ _ e' C' p' l' z N' n => ⟨?_, fun _ => ⟨_, c0.nw n⟩⟩), m_side j2 j3 hd hy (fun c => (c h).elim) (fun _ _ _ S' t => ⟨rfl, m0.tr ⟨t.1, t.2.1, fun k z _ => t.2.2.1 k z, t.2.2.2⟩⟩)⟩
        obtain ⟨z1, z2⟩ := z
        subst z1 z2; rfl
      · exact ⟨lI (-9223372036854775808), σ, c_side (J := fun e' C' p' l' => e' = e ∧ C' = C) cl hd hy (by omega) (by omega) (Or.inr ⟨e, C, p, l, i2, rfl, rfl⟩) (fun _ N' n => ⟨rfl, fun _ => ⟨_, c0.nw n⟩⟩) (fun a1 a2 a3 _ _ _ _ _ _ _ => (h ⟨a1, a2, a3⟩).elim), m_side j2 j3 hd hy (fun _ => ⟨rfl, m0⟩) (fun a1 a2 a3 _ _ => (h ⟨a1, a2, a3⟩).elim)⟩
theorem cRt.T {L : List Int} {S' : CS} {N' : NM} (h : cRt K a σ ch S0 N) (q : cT K a S0 N S' N' L) : cRt K a (σ.1, σ.2.1, σ.2.2.1, σ.2.2.2.1, L) ch S' N' := by
  obtain ⟨h1, h2, h3, h4, h5, h6, h7, h8⟩ := h
  obtain ⟨q1, q2, q3, q4, q5, q6, q7, q8, q9⟩ := q
  refine ⟨q1, h2.kp h1 q2 q5, ?_, q7, q8, ?_, h7.kp h1 q2 (q4 7 (by omega) (by omega) (by omega) (by omega)) (q4 8 (by omega) (by omega) (by omega) (by omega)) (by rw [q3]) (by rw [q3]), q9⟩
  · unfold cTape at *
    rw [q3, q6]; exact h3
  · rw [q4 11 (by omega) (by omega) (by omega) (by omega)]
    exact h6.kp h1 q2
theorem p_spell (m0 : mRs σ S) (c0 : cRt K a σ ch S0 N) (hMC : 9000 ≤ MC) (hMS : 100000 ≤ MS) (x_z : Int32) : ∃ v σ', wX0_spell K (fun r N' => r = v ∧ cRs K a σ' ch N') MC MS N (a 0) x_z ∧ wX1_spell (fun r S' => r = v ∧ mRs σ' S') S x_z := by
  obtain ⟨z, rfl, hz⟩ := i32_ex x_z
  obtain ⟨mF, mT, mf, mL, mU, mi, mS⟩ := id m0
  obtain ⟨cl, cs, ct, cd, cu, cf, ci, cw⟩ := id c0
  by_cases h : 0 ≤ z ∧ z ≤ 3 ∧ σ.1 z.toNat ≠ []
  · refine ⟨iI ((spA (σ.1 z.toNat) 0).length : Nat), (σ.1, σ.2.1, σ.2.2.1, σ.2.2.2.1, spA (σ.1 z.toNat) 0), c_spell cl cs cd cu hz (by omega) (by omega) (fun c => (c h).elim) (fun s S' N' _ e _ q => ?_), m_spell mF hz (fun c => (c h).elim) (fun s S' _ e _ q l => ?_)⟩
    · subst e; exact ⟨rfl, fun _ => ⟨_, c0.T q⟩⟩
    · subst e; exact ⟨rfl, m0.shown ⟨q.1, fun k _ => by rw [q.2.1], fun k _ z => q.2.2.1 k z, fun k _ z => q.2.2.2 k z⟩ (mL.rd (q.2.2.1 21 (by omega)) (by rw [q.2.1])) l⟩
  · refine ⟨iI (-1), σ, c_spell cl cs cd cu hz (by omega) (by omega) (fun _ => ⟨rfl, fun _ => ⟨_, c0⟩⟩) (fun s S' N' b1 e b2 q => (h ?_).elim), m_spell mF hz (fun _ => ⟨rfl, m0⟩) (fun s S' b1 e b2 q l => (h ?_).elim)⟩
    · subst e; exact ⟨by omega, by omega, b2⟩
    · subst e; exact ⟨by omega, by omega, b2⟩
theorem p_write (hK : kOk K) (m0 : mRs σ S) (c0 : cRt K a σ ch S0 N) (hMC : 9000 ≤ MC) (hMS : 100000 ≤ MS) (x_z x_x x_y : Int32) : ∃ v σ', wX0_write K (fun r N' => r = v ∧ cRs K a σ' ch N') MC MS N (a 0) x_z x_x x_y ∧ wX1_write (fun r S' => r = v ∧ mRs σ' S') S x_z x_x x_y := by
  obtain ⟨z, rfl, hz⟩ := i32_ex x_z
  obtain ⟨x, rfl, hx⟩ := i32_ex x_x
  obtain ⟨y, rfl, hy⟩ := i32_ex x_y
  obtain ⟨mF, mT, mf, mL, mU, mi, mS⟩ := id m0
  obtain ⟨cl, cs, ct, cd, cu, cf, ci, cw⟩ := id c0
  by_cases h : 0 ≤ z ∧ z ≤ 3 ∧ σ.1 z.toNat ≠ [] ∧ -3000 ≤ x ∧ x ≤ y ∧ y ≤ 3000 ∧ y - x < 60
  · refine ⟨iI ((wrS (σ.1 z.toNat) (y - x + 1).toNat x).length : Nat), (σ.1, σ.2.1, σ.2.2.1, σ.2.2.2.1, wrS (σ.1 z.toNat) (y - x + 1).toNat x), c_write hK cl cs cd cu hz hx hy (by omega) (by omega) (fun c => (c h).elim) (fun s S' N' _ e _ _ _ _ _ q => ?_), m_write mF mL hz hx hy (fun c => (c h).elim) (fun s S' _ e _ _ _ _ _ q l1 l => ?_)⟩
    · subst e; exact ⟨rfl, fun _ => ⟨_, c0.T q⟩⟩
    · subst e; exact ⟨rfl, m0.shown q l1 l⟩
  · refine ⟨iI (-1), σ, c_write hK cl cs cd cu hz hx hy (by omega) (by omega) (fun _ => ⟨rfl, fun _ => ⟨_, c0⟩⟩) (fun s S' N' b1 e b2 b3 b4 b5 b6 q => (h ?_).elim), m_write mF mL hz hx hy (fun _ => ⟨rfl, m0⟩) (fun s S' b1 e b2 b3 b4 b5 b6 q l1 l => (h ?_).elim)⟩
    · subst e; exact ⟨by omega, by omega, b2, b3, b4, b5, b6⟩
    · subst e; exact ⟨by omega, by omega, b2, b3, b4, b5, b6⟩
theorem p_out (m0 : mRs σ S) (c0 : cRt K a σ ch S0 N) (x_k : Int32) : ∃ v σ', wX0_out K (fun r N' => r = v ∧ cRs K a σ' ch N') N (a 0) x_k ∧ wX1_out (fun r S' => r = v ∧ mRs σ' S') S x_k := by
  obtain ⟨k, rfl, hk⟩ := i32_ex x_k
  obtain ⟨mF, mT, mf, mL, mU, mi, mS⟩ := id m0
  obtain ⟨cl, cs, ct, cd, cu, cf, ci, cw⟩ := id c0
  refine ⟨_, σ, c_out cl cw hk (fun c => ⟨?_, fun _ => ⟨_, c0⟩⟩) (fun c1 c2 => ⟨?_, fun _ => ⟨_, c0⟩⟩), m_out mS hk ⟨rfl, m0⟩⟩
  · congr 1
    split
    · rw [List.getElem?_eq_none (by omega)]; rfl
    · rfl
  · rw [if_pos c1, List.getD_eq_getElem?_getD]
    obtain ⟨v, hv⟩ : ∃ v, (σ.2.2.2.2)[k.toNat]? = some v := ⟨_, List.getElem?_eq_getElem (by omega)⟩
    rw [hv]; rfl
theorem p_look (m0 : mRs σ S) (c0 : cRt K a σ ch S0 N) (hMC : 9000 ≤ MC) (hMS : 100000 ≤ MS) (x_k : Int32) : ∃ v σ', wX0_look K (fun r N' => r = v ∧ cRs K a σ' ch N') MC MS N (a 0) x_k ∧ wX1_look (fun r S' => r = v ∧ mRs σ' S') S x_k := by
  obtain ⟨k, rfl, hk⟩ := i32_ex x_k
  obtain ⟨mF, mT, mf, mL, mU, mi, mS⟩ := id m0
  obtain ⟨cl, cs, ct, cd, cu, cf, ci, cw⟩ := id c0
  obtain ⟨l, p, g1, g2, g3, g4⟩ : ∃ l p : Int, S0.1.2 9 = iI l ∧ S0.1.2 10 = iI p ∧ S.1 39 = iI l ∧ S.1 37 = iI p := by
    rcases ci with ⟨i1, i2, i3, i4⟩ | ⟨e, C, p, l, i1, i2⟩
    · rcases mi with ⟨-, j2, j3, j4⟩ | ⟨e', C', p', l', j1, -⟩
      · exact ⟨0, 0, i3, i4, j4, j3⟩
      · rw [i1] at j1; cases j1
    · rcases mi with ⟨j1, -⟩ | ⟨e', C', p', l', j1, j2, j3, j4⟩
      · rw [i1] at j1; cases j1
      · rw [i1] at j1; cases j1
        exact ⟨l, p, i2.1, i2.2.1, j2.2.2.1, j2.2.1⟩
  exact ⟨_, σ, c_look cl cs ct.2.1 g1 g2 hk (by omega) (by omega) ⟨rfl, fun _ => ⟨_, c0⟩⟩, m_look mF mT.2.1 g3 g4 hk ⟨rfl, m0⟩⟩
/-- the model's fault -/
theorem p_fault (m0 : mRs σ S) (x_k : Int32) : wX1_fault (fun r S' => r = fvI x_k σ.2.2.1.1 σ.2.2.1.2.1 σ.2.2.1.2.2.1 σ.2.2.1.2.2.2 ∧ mRs σ S') S x_k := by
  obtain ⟨k, rfl, hk⟩ := i32_ex x_k
  obtain ⟨mF, mT, ⟨h4, h5, h6, h7⟩, mL, mU, mi, mS⟩ := id m0
  refine m_fault (e := σ.2.2.1) h4 h5 h6 h7 hk ⟨?_, m0⟩
  unfold fvI
  have z0 : (iI k = (0 : Int32)) ↔ (k = 0) := iI_eq (b := 0) hk.1 hk.2 (by omega) (by omega)
  have z1 : (iI k = (1 : Int32)) ↔ (k = 1) := iI_eq (b := 1) hk.1 hk.2 (by omega) (by omega)
  have z2 : (iI k = (2 : Int32)) ↔ (k = 2) := iI_eq (b := 2) hk.1 hk.2 (by omega) (by omega)
  have z3 : (iI k = (3 : Int32)) ↔ (k = 3) := iI_eq (b := 3) hk.1 hk.2 (by omega) (by omega)
  simp only [z0, z1, z2, z3]
  split
  · rfl
  split
  · rfl
  split
  · rfl
  split <;> rfl
end
