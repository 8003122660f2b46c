set_option maxRecDepth 100000
set_option maxHeartbeats 4000000
/-! the pairs of the other calls -/
theorem mRs.told {σ : PS} {S S' : MS} {k p o i : Int} (h : mRs σ S) (t : told S S' k p o i) : mRs (σ.1, (σ.2.1.1, 0), (k, p, o, i), σ.2.2.2) S' := by
  obtain ⟨h1, h2, h3, h8, h9, h10, h11⟩ := h
  obtain ⟨t1, t2, t3, t4, t5, t6, t7⟩ := t
  exact ⟨h1.told t4 t5, ⟨Nat.zero_le _, t6, fun k hk => by cases hk⟩, t7, h8.rd (t2 21 (by omega)) (by rw [t1]), h9.rd (t2 23 (by omega)) (by rw [t1]), h10.kept ⟨t2 41 (by omega), t2 37 (by omega), t2 39 (by omega), fun q _ => by rw [t3 35 (by omega)], fun q _ => ⟨by rw [t3 33 (by omega)], by rw [t3 34 (by omega)]⟩⟩, h11.eq (t2 49 (by omega)) (t3 48 (by omega))⟩
theorem mRs.toldP {σ : PS} {S S' : MS} {k p o i : Int} (h : mRs σ S) (t : toldP S S' σ.1 k p o i) : mRs (σ.1, (σ.2.1.1, 0), (k, p, o, i), σ.2.2.2) S' := by
  obtain ⟨h1, h2, h3, h8, h9, h10, h11⟩ := h
  obtain ⟨t0, t1, t2, t3, t4, t5, t6, t7⟩ := t
  exact ⟨h1.told t4 t5, ⟨Nat.zero_le _, t6, fun k hk => by cases hk⟩, t7, t0, h9.rd (t2 23 (by omega) (by omega) (by omega)) (t1 24 (by omega)), h10.kept ⟨t2 41 (by omega) (by omega) (by omega), t2 37 (by omega) (by omega) (by omega), t2 39 (by omega) (by omega) (by omega), fun q _ => by rw [t3 35 (by omega) (by omega)], fun q _ => ⟨by rw [t3 33 (by omega) (by omega)], by rw [t3 34 (by omega) (by omega)]⟩⟩, h11.eq (t2 49 (by omega) (by omega) (by omega)) (t3 48 (by omega) (by omega))⟩
theorem mRs.toldI {σ : PS} {S S' : MS} {k p o i : Int} {w : Option idT} (h : mRs σ S) (t : toldI S S' k p o i) (hw : mIdo S' w) : mRs (σ.1, (σ.2.1.1, 0), (k, p, o, i), w, σ.2.2.2.2) S' := by
  obtain ⟨h1, h2, h3, h8, h9, h10, h11⟩ := h
  obtain ⟨t1, t2, t3, t4, t5, t6, t7⟩ := t
  exact ⟨h1.told t4 t5, ⟨Nat.zero_le _, t6, fun k hk => by cases hk⟩, t7, h8.rd (t2 21 (by omega) (by omega) (by omega) (by omega) (by omega) (by omega) (by omega)) (by rw [t1]), h9.rd (t2 23 (by omega) (by omega) (by omega) (by omega) (by omega) (by omega) (by omega)) (by rw [t1]), hw, h11.eq (t2 49 (by omega) (by omega) (by omega) (by omega) (by omega) (by omega) (by omega)) (t3 48 (by omega) (by omega) (by omega) (by omega))⟩
/-- a form laid in a slot -/
theorem mRs.made {σ : PS} {S : MS} {f0 f1 : Nat → Int32} {F' : Nat → List tm} (h : mRs σ S) (g : mForms (mA (mA S 0 f0) 1 f1) F') : mRs (F', σ.2) (mI (mI (mA (mA S 0 f0) 1 f1) 21 (iI (-1))) 23 (iI (-1))) := by
  obtain ⟨h1, h2, h3, h8, h9, h10, h11⟩ := h
  exact ⟨g.told (fun _ _ => rfl) (fun _ _ => rfl), h2.eq rfl rfl, h3, Or.inl rfl, Or.inl rfl, h10.kept ⟨rfl, rfl, rfl, fun _ _ => rfl, fun _ _ => ⟨rfl, rfl⟩⟩, h11.eq rfl rfl⟩
section
variable {K : Nat → Nat → Nat} {a : Nat → Nat} {σ : PS} {ch : List Nat} {S : MS} {S0 : CS} {N : NM} {MC MS : Nat}
/-- a step that leaves rows, slots and texts -/
theorem cRt.pass {T : Nat → Int} {n : Nat} {w : Option idT} {ft : Int × Int × Int × Int} {ch' : List Nat} {S' : CS} {N' : NM} (h : cRt K a σ ch S0 N) (l : cL K a S' N') (k : kp a N N') (e1 : S'.2.1 = S0.2.1) (e2 : S'.2.2.2.1 = S0.2.2.2.1) (h5 : S'.1.1 5 = S0.1.1 5) (h6 : S'.1.1 6 = S0.1.1 6) (h17 : S'.1.1 17 = S0.1.1 17) (ht : cTape S' T n) (hf : fL N' ch' (S'.1.1 11) ft.1 ft.2.1 ft.2.2.1 ft.2.2.2) (hi : cIdo S' N' w) : cRt K a (σ.1, (T, n), ft, w, σ.2.2.2.2) ch' S' N' := by
  obtain ⟨cl, cs, ct, cd, cu, cf, ci, cw⟩ := h
  exact ⟨l, cs.kp cl k e1, ht, cd.same cl k h5 e2, cu.same cl k h6 e2, hf, hi, cw.kp cl k h17⟩
theorem tape0 {S : CS} {T : Nat → Int} (h : S.1.2 13 = 0) : cTape S T 0 := ⟨Nat.zero_le _, h, fun k hk => by cases hk⟩
theorem p_feed (hK : kOk K) (m0 : mRs σ S) (c0 : cRt K a σ ch S0 N) (hMC : 9000 ≤ MC) (hMS : 100000 ≤ MS) (y0 y1 y2 y3 y4 : Int32) : ∃ v σ', wX0_feed K (fun r N' => r = v ∧ cRs K a σ' ch N') MC MS N (a 0) y0 y1 y2 y3 y4 ∧ wX1_feed (fun r S' => r = v ∧ mRs σ' S') S y0 y1 y2 y3 y4 := by
  obtain ⟨mF, mT, mf, mL, mU, mi, mS⟩ := id m0
  obtain ⟨cl, cs, ct, cd, cu, cf, ci, cw⟩ := id c0
  by_cases h : σ.2.1.2 + 20 ≤ 800
  · refine ⟨iI (σ.2.1.2 + 20 : Nat), (σ.1, (fdZ σ.2.1.1 σ.2.1.2 (fun j => match j with | 0 => y0 | 1 => y1 | 2 => y2 | 3 => y3 | _ => y4), σ.2.1.2 + 20), σ.2.2.1, σ.2.2.2.1, σ.2.2.2.2), ?_, ?_⟩
    · exact c_feed (w := fun j => match j with | 0 => y0 | 1 => y1 | 2 => y2 | 3 => y3 | _ => y4) cl ct (by omega) (by omega) (fun c => (c h).elim) (fun f N' _ l k t => ⟨rfl, fun _ => ⟨_, c0.pass l k rfl rfl rfl rfl rfl t (cf.kp cl k) (ci.kp cl k rfl rfl rfl rfl)⟩⟩)
    · exact m_feedZ (w := fun j => match j with | 0 => y0 | 1 => y1 | 2 => y2 | 3 => y3 | _ => y4) mT (fun c => (c h).elim) (fun f _ t => ⟨rfl, mF.told (fun _ _ => rfl) (fun _ _ => rfl), t, mf, mL.rd rfl rfl, mU.rd rfl rfl, mi.kept ⟨rfl, rfl, rfl, fun _ _ => rfl, fun _ _ => ⟨rfl, rfl⟩⟩, mS.eq rfl rfl⟩)
  · refine ⟨iI (-1), σ, ?_, ?_⟩
    · exact c_feed (w := fun j => match j with | 0 => y0 | 1 => y1 | 2 => y2 | 3 => y3 | _ => y4) cl ct (by omega) (by omega) (fun _ N' l k => ⟨rfl, fun _ => ⟨_, c0.pass l k rfl rfl rfl rfl rfl ct (cf.kp cl k) (ci.kp cl k rfl rfl rfl rfl)⟩⟩) (fun f N' c l k t => (h c).elim)
    · exact m_feedZ (w := fun j => match j with | 0 => y0 | 1 => y1 | 2 => y2 | 3 => y3 | _ => y4) mT (fun _ => ⟨rfl, m0⟩) (fun f c t => (h c).elim)
theorem p_end (m0 : mRs σ S) (c0 : cRt K a σ ch S0 N) (x_k : Int32) : ∃ v σ', wX0_end K (fun r N' => r = v ∧ cRs K a σ' ch N') N (a 0) x_k ∧ wX1_end (fun r S' => r = v ∧ mRs σ' S') S x_k := by
  obtain ⟨k, rfl, hk⟩ := i32_ex x_k
  obtain ⟨mF, mT, mf, mL, mU, mi, mS⟩ := id m0
  obtain ⟨cl, cs, ct, cd, cu, cf, ci, cw⟩ := id c0
  have mT' : mTape S (fun k => iI (σ.2.1.1 k)) σ.2.1.2 := ⟨mT.1, mT.2.1, fun k hk => (mT.2.2 k hk).1⟩
  by_cases h : 0 ≤ k ∧ k ≤ σ.2.1.2
  · refine ⟨1, (σ.1, (σ.2.1.1, k.toNat), σ.2.2.1, σ.2.2.2.1, σ.2.2.2.2), ?_, ?_⟩
    · refine c_end cl ct.2.1 ct.1 hk (fun c => (c h).elim) (fun j e hj N' l kk => ⟨rfl, fun _ => ⟨_, c0.pass l kk rfl rfl rfl rfl rfl ⟨?_, ?_, fun q hq => ct.2.2 q (by omega)⟩ (cf.kp cl kk) (ci.kp cl kk rfl rfl rfl rfl)⟩⟩)
      · have := ct.1; omega
      · subst e; rfl
    · refine m_end mT' hk (fun c => (c h).elim) (fun j e hj t => ⟨rfl, mF.told (fun _ _ => rfl) (fun _ _ => rfl), (⟨?_, ?_, fun q hq => mT.2.2 q (by omega)⟩ : mTp (mI S 3 (iI j)) σ.2.1.1 k.toNat), mf, mL.rd rfl rfl, mU.rd rfl rfl, mi.kept ⟨rfl, rfl, rfl, fun _ _ => rfl, fun _ _ => ⟨rfl, rfl⟩⟩, mS.eq rfl rfl⟩)
      · have := mT.1; omega
      · subst e; rfl
  · exact ⟨0, σ, c_end cl ct.2.1 ct.1 hk (fun _ => ⟨rfl, fun _ => ⟨_, c0⟩⟩) (fun j e hj N' l kk => (h (by omega)).elim), m_end mT' hk (fun _ => ⟨rfl, m0⟩) (fun j e hj t => (h (by omega)).elim)⟩
theorem slots_put {F : Nat → List tm} {L : List tm} {d q : Nat} {S' : CS} {N' : NM} (hL : cL K a S0 N) (h : cSlots K S0 N F) (k : kp a N N') (e : S'.2.1 = va_up S0.2.1 d (some q)) (hq : cF K N' q L) (hv : ∀ s, s < 4 → vF (upF F d L s)) : cSlots K S' N' (upF F d L) := fun s hs => by
  refine ⟨hv s hs, ?_⟩
  rw [e]
  by_cases hsd : s = d
  · subst hsd
    rw [upF_s]
    exact Or.inr ⟨q, up_eq _ _ _, hq⟩
  · rw [up_ne _ _ _ hsd, show upF F d L s = F s from if_neg hsd]
    rcases (h s hs).2 with z | ⟨q', z1, z2⟩
    · exact Or.inl z
    · exact Or.inr ⟨q', z1, z2.kp hL k⟩
theorem cRt.made {d : Nat} {L : List tm} {S' : CS} {N' : NM} (h : cRt K a σ ch S0 N) (m : cM K a S0 N d L S' N') (hv : ∀ s, s < 4 → vF (upF σ.1 d L s)) : cRt K a (upF σ.1 d L, σ.2) ch S' N' := by
  obtain ⟨cl, cs, ct, cd, cu, cf, ci, cw⟩ := h
  obtain ⟨l, k, e1, e2, q, e3, e4⟩ := m
  refine ⟨l, slots_put cl cs k e3 e4 hv, ?_, cd.same cl k (by rw [e1]) (by rw [e2]), cu.same cl k (by rw [e1]) (by rw [e2]), by rw [e1]; exact cf.kp cl k, ci.kp cl k (by rw [e1]) (by rw [e1]) (by rw [e1]) (by rw [e1]), cw.kp cl k (by rw [e1])⟩
  unfold cTape at *
  rw [e1, e2]; exact ct
theorem cRt.nw {N' : NM} (h : cRt K a σ ch S0 N) (n : nw N N') : cRt K a σ ch S0 N' := h.Q ((cQ.start h.1 h.2.2.2.1 h.2.2.2.2.1).nw n)
theorem p_join (m0 : mRs σ S) (c0 : cRt K a σ ch S0 N) (hMC : 9000 ≤ MC) (hMS : 100000 ≤ MS) (x_x x_y x_z : Int32) : ∃ v σ', wX0_join K (fun r N' => r = v ∧ cRs K a σ' ch N') MC MS N (a 0) x_x x_y x_z ∧ wX1_join (fun r S' => r = v ∧ mRs σ' S') S x_x x_y x_z := by
  obtain ⟨x, rfl, hx⟩ := i32_ex x_x
  obtain ⟨y, rfl, hy⟩ := i32_ex x_y
  obtain ⟨z, rfl, hz⟩ := i32_ex x_z
  obtain ⟨mF, mT, mf, mL, mU, mi, mS⟩ := id m0
  obtain ⟨cl, cs, ct, cd, cu, cf, ci, cw⟩ := id c0
  by_cases h : 0 ≤ x ∧ x ≤ 3 ∧ 0 ≤ y ∧ y ≤ 3 ∧ 0 ≤ z ∧ z ≤ 3 ∧ 1 ≤ (σ.1 x.toNat).length + (σ.1 y.toNat).length ∧ (σ.1 x.toNat).length + (σ.1 y.toNat).length ≤ 5
  · refine ⟨1, (upF σ.1 z.toNat (σ.1 x.toNat ++ σ.1 y.toNat), σ.2), c_join cl cs hx hy hz (by omega) (by omega) (fun c => (c h).elim) (fun s o d S' N' _ e1 _ e2 _ e3 _ _ q => ?_), m_join mF hx hy hz (fun c => (c h).elim) (fun s o d _ e1 _ e2 _ e3 _ _ f0 f1 g => ?_)⟩
    · subst e1 e2 e3
      exact ⟨rfl, fun hv => ⟨_, c0.made q hv⟩⟩
    · subst e1 e2 e3
      exact ⟨rfl, m0.made g⟩
  · refine ⟨0, σ, c_join cl cs hx hy hz (by omega) (by omega) (fun _ N' n => ⟨rfl, fun _ => ⟨_, c0.nw n⟩⟩) (fun s o d S' N' b1 e1 b2 e2 b3 e3 b4 b5 q => (h ?_).elim), m_join mF hx hy hz (fun _ => ⟨rfl, m0⟩) (fun s o d b1 e1 b2 e2 b3 e3 b4 b5 => (h ?_).elim)⟩
    · subst e1 e2 e3
      exact ⟨by omega, by omega, by omega, by omega, by omega, by omega, b4, b5⟩
    · subst e1 e2 e3
      exact ⟨by omega, by omega, by omega, by omega, by omega, by omega, b4, b5⟩
theorem p_drop (m0 : mRs σ S) (c0 : cRt K a σ ch S0 N) (hMC : 9000 ≤ MC) (hMS : 100000 ≤ MS) (x_z x_i : Int32) : ∃ v σ', wX0_drop K (fun r N' => r = v ∧ cRs K a σ' ch N') MC MS N (a 0) x_z x_i ∧ wX1_drop (fun r S' => r = v ∧ mRs σ' S') S x_z x_i := by
  obtain ⟨z, rfl, hz⟩ := i32_ex x_z
  obtain ⟨i, rfl, hi⟩ := i32_ex x_i
  obtain ⟨mF, mT, mf, mL, mU, mi, mS⟩ := id m0
  obtain ⟨cl, cs, ct, cd, cu, cf, ci, cw⟩ := id c0
  by_cases h : 0 ≤ z ∧ z ≤ 3 ∧ 0 ≤ i ∧ i < (σ.1 z.toNat).length
  · refine ⟨1, (upF σ.1 z.toNat ((σ.1 z.toNat).eraseIdx i.toNat), σ.2), c_drop cl cs hz hi (by omega) (by omega) (fun c => (c h).elim) (fun s j S' N' _ e1 e2 _ q => ?_), m_drop mF hz hi (fun c => (c h).elim) (fun s j _ e1 e2 _ f0 f1 g => ?_)⟩
    · subst e1 e2
      exact ⟨rfl, fun hv => ⟨_, c0.made q hv⟩⟩
    · subst e1 e2
      exact ⟨rfl, m0.made g⟩
  · refine ⟨0, σ, c_drop cl cs hz hi (by omega) (by omega) (fun _ => ⟨rfl, fun _ => ⟨_, c0⟩⟩) (fun s j S' N' b1 e1 e2 b2 q => (h ?_).elim), m_drop mF hz hi (fun _ => ⟨rfl, m0⟩) (fun s j b1 e1 e2 b2 => (h ?_).elim)⟩
    · subst e1 e2
      exact ⟨by omega, by omega, by omega, Int.ofNat_lt.mpr b2⟩
    · subst e1 e2
      exact ⟨by omega, by omega, by omega, Int.ofNat_lt.mpr b2⟩
theorem p_lead (m0 : mRs σ S) (c0 : cRt K a σ ch S0 N) (hMC : 9000 ≤ MC) (hMS : 100000 ≤ MS) (x_z x_i : Int32) : ∃ v σ', wX0_lead K (fun r N' => r = v ∧ cRs K a σ' ch N') MC MS N (a 0) x_z x_i ∧ wX1_lead (fun r S' => r = v ∧ mRs σ' S') S x_z x_i := by
  obtain ⟨z, rfl, hz⟩ := i32_ex x_z
  obtain ⟨i, rfl, hi⟩ := i32_ex x_i
  obtain ⟨mF, mT, mf, mL, mU, mi, mS⟩ := id m0
  obtain ⟨cl, cs, ct, cd, cu, cf, ci, cw⟩ := id c0
  by_cases h : 0 ≤ z ∧ z ≤ 3 ∧ 0 ≤ i ∧ i < (σ.1 z.toNat).length
  · refine ⟨1, (upF σ.1 z.toNat (ldL (σ.1 z.toNat) i.toNat), σ.2), c_lead cl cs hz hi (by omega) (by omega) (fun c => (c h).elim) (fun s j S' N' _ e1 e2 _ q => ?_), m_lead mF hz hi (fun c => (c h).elim) (fun s j _ e1 e2 _ f0 f1 g => ?_)⟩
    · subst e1 e2
      exact ⟨rfl, fun hv => ⟨_, c0.made q hv⟩⟩
    · subst e1 e2
      exact ⟨rfl, m0.made g⟩
  · refine ⟨0, σ, c_lead cl cs hz hi (by omega) (by omega) (fun _ => ⟨rfl, fun _ => ⟨_, c0⟩⟩) (fun s j S' N' b1 e1 e2 b2 q => (h ?_).elim), m_lead mF hz hi (fun _ => ⟨rfl, m0⟩) (fun s j b1 e1 e2 b2 => (h ?_).elim)⟩
    · subst e1 e2
      exact ⟨by omega, by omega, by omega, Int.ofNat_lt.mpr b2⟩
    · subst e1 e2
      exact ⟨by omega, by omega, by omega, Int.ofNat_lt.mpr b2⟩
theorem p_term (m0 : mRs σ S) (c0 : cRt K a σ ch S0 N) (hMC : 9000 ≤ MC) (hMS : 100000 ≤ MS) (x_z x_i x_k : Int32) : ∃ v σ', wX0_term K (fun r N' => r = v ∧ cRs K a σ' ch N') MC MS N (a 0) x_z x_i x_k ∧ wX1_term (fun r S' => r = v ∧ mRs σ' S') S x_z x_i x_k := by
  obtain ⟨z, rfl, hz⟩ := i32_ex x_z
  obtain ⟨i, rfl, hi⟩ := i32_ex x_i
  obtain ⟨k, rfl, hk⟩ := i32_ex x_k
  obtain ⟨mF, mT, mf, mL, mU, mi, mS⟩ := id m0
  obtain ⟨cl, cs, ct, cd, cu, cf, ci, cw⟩ := id c0
  by_cases h : 0 ≤ z ∧ z ≤ 3 ∧ 0 ≤ i ∧ i < (σ.1 z.toNat).length ∧ 0 ≤ k ∧ k ≤ 3
  · refine ⟨iI (t4 (((σ.1 z.toNat)[i.toNat]?).getD (0, 0, 0, 0)) k), σ, c_term cl cs hz hi hk (by omega) (by omega) (fun c => (c h).elim) (fun s j t _ e1 e2 e3 _ _ => ⟨?_, fun _ => ⟨_, c0⟩⟩), m_term mF hz hi hk (fun c => (c h).elim) (fun s j t _ e1 e2 e3 _ _ => ⟨?_, m0⟩)⟩
    · subst e1 e2
      rw [show ((s : Int)).toNat = s from rfl, show ((j : Int)).toNat = j from rfl, e3]; rfl
    · subst e1 e2
      rw [show ((s : Int)).toNat = s from rfl, show ((j : Int)).toNat = j from rfl, e3]; rfl
  · refine ⟨iI (-100000), σ, c_term cl cs hz hi hk (by omega) (by omega) (fun _ => ⟨rfl, fun _ => ⟨_, c0⟩⟩) (fun s j t b1 e1 e2 e3 b2 b3 => (h ?_).elim), m_term mF hz hi hk (fun _ => ⟨rfl, m0⟩) (fun s j t b1 e1 e2 e3 b2 b3 => (h ?_).elim)⟩
    · subst e1 e2
      exact ⟨by omega, by omega, by omega, Int.ofNat_lt.mpr (List.getElem?_eq_some_iff.mp e3).1, b2, b3⟩
    · subst e1 e2
      exact ⟨by omega, by omega, by omega, Int.ofNat_lt.mpr (List.getElem?_eq_some_iff.mp e3).1, b2, b3⟩
theorem p_way (hK : kOk K) (m0 : mRs σ S) (c0 : cRt K a σ ch S0 N) (hMC : 9000 ≤ MC) (hMS : 100000 ≤ MS) (x_z x_n : Int32) (x_k : Int64) (x_i : Int32) : ∃ v σ', wX0_way K (fun r N' => r = v ∧ cRs K a σ' ch N') MC MS N (a 0) x_z x_n x_k x_i ∧ wX1_way (fun r S' => r = v ∧ mRs σ' S') S x_z x_n x_k x_i := by
  obtain ⟨z, rfl, hz⟩ := i32_ex x_z
  obtain ⟨n, rfl, hn⟩ := i32_ex x_n
  obtain ⟨k, hk, rfl⟩ := lI_of x_k
  obtain ⟨i, rfl, hi⟩ := i32_ex x_i
  obtain ⟨mF, mT, mf, mL, mU, mi, mS⟩ := id m0
  obtain ⟨cl, cs, ct, cd, cu, cf, ci, cw⟩ := id c0
  by_cases h : 0 ≤ z ∧ z ≤ 3 ∧ σ.1 z.toNat ≠ [] ∧ -3000 ≤ n ∧ n ≤ 3000 ∧ 0 ≤ i ∧ i < (σ.1 z.toNat).length
  · by_cases h2 : 0 ≤ k ∧ k < Wy (σ.1 z.toNat) n
    · refine ⟨iI (((fnd (σ.1 z.toNat) k n)[i.toNat]?).getD 0), σ, c_way hK cl cs cd hz hn hk hi (by omega) (by omega) (fun c => (c h).elim) (fun s j S' N' _ e1 _ _ _ e2 _ b q => ?_) (fun s j y S' N' _ e1 _ _ _ e2 _ _ e3 q => ⟨?_, fun _ => ⟨_, c0.Q (q.Q cl cu)⟩⟩), m_way mF mL hz hn hk hi (fun c => (c h).elim) (fun s j g _ e1 _ _ _ e2 _ _ b => ?_) (fun s j y g f b1 e1 b3 _ _ e2 r _ _ e3 => ⟨?_, m0.laid ⟨rfl, rfl, rfl, rfl, rfl, rfl, rfl, rfl, rfl, rfl, rfl, rfl, rfl, rfl, rfl, rfl⟩ rfl rfl (Or.inr ⟨s, b1, rfl, b3, r⟩)⟩)⟩
      · subst e1; exact (b h2).elim
      · subst e1 e2
        rw [show ((s : Int)).toNat = s from rfl, show ((j : Int)).toNat = j from rfl, e3]; rfl
      · subst e1; exact (b h2).elim
      · subst e1 e2
        rw [show ((s : Int)).toNat = s from rfl, show ((j : Int)).toNat = j from rfl, e3]; rfl
    · refine ⟨iI (-100000), σ, c_way hK cl cs cd hz hn hk hi (by omega) (by omega) (fun c => (c h).elim) (fun s j S' N' _ e1 _ _ _ e2 _ b q => ⟨rfl, fun _ => ⟨_, c0.Q (q.Q cl cu)⟩⟩) (fun s j y S' N' _ e1 _ _ _ e2 b1 b2 e3 q => ?_), m_way mF mL hz hn hk hi (fun c => (c h).elim) (fun s j g b1 e1 b3 _ _ e2 _ r b => ⟨rfl, m0.laid ⟨rfl, rfl, rfl, rfl, rfl, rfl, rfl, rfl, rfl, rfl, rfl, rfl, rfl, rfl, rfl, rfl⟩ rfl rfl (Or.inr ⟨s, b1, rfl, b3, r⟩)⟩) (fun s j y g f _ e1 _ _ _ e2 r b1 b2 e3 => ?_)⟩
      · subst e1; exact (h2 ⟨b1, b2⟩).elim
      · subst e1; exact (h2 ⟨b1, b2⟩).elim
  · refine ⟨iI (-100000), σ, c_way hK cl cs cd hz hn hk hi (by omega) (by omega) (fun _ => ⟨rfl, fun _ => ⟨_, c0⟩⟩) (fun s j S' N' b1 e1 b3 b4 b5 e2 b6 b q => (h ?_).elim) (fun s j y S' N' b1 e1 b3 b4 b5 e2 _ _ e3 q => (h ?_).elim), m_way mF mL hz hn hk hi (fun _ => ⟨rfl, m0⟩) (fun s j g b1 e1 b3 b4 b5 e2 b6 _ b => (h ?_).elim) (fun s j y g f b1 e1 b3 b4 b5 e2 r _ _ e3 => (h ?_).elim)⟩
    · subst e1 e2
      exact ⟨by omega, by omega, b3, b4, b5, by omega, Int.ofNat_lt.mpr b6⟩
    · subst e1 e2
      exact ⟨by omega, by omega, b3, b4, b5, by omega, Int.ofNat_lt.mpr (by have := (List.getElem?_eq_some_iff.mp e3).1; rw [fnd_len] at this; exact this)⟩
    · subst e1 e2
      exact ⟨by omega, by omega, b3, b4, b5, by omega, Int.ofNat_lt.mpr b6⟩
    · subst e1 e2
      exact ⟨by omega, by omega, b3, b4, b5, by omega, Int.ofNat_lt.mpr (by have := (List.getElem?_eq_some_iff.mp e3).1; rw [fnd_len] at this; exact this)⟩
end
