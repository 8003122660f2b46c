set_option maxRecDepth 100000
set_option maxHeartbeats 4000000
/-! the model: identity -/
theorem idR_ok {T : Nat → Int} {n e : Nat} {s : xst} (h : idR T n = .inr (e, s)) : xOk n s ∧ e ≤ s.2.1.length := by
  have ok0 : xOk n (sk T n 0, [], 0, 0) := ⟨(sk_le (T := T) (n := n) (p := 0) (by omega)).2, show 0 ≤ 60 by decide, show ([] : List (Int × Int)).length ≤ 3 * 0 by decide, show 0 < 64 by decide, fun c hc => nomatch hc⟩
  unfold idR at h
  cases e1 : sxR T n 8 0 (sk T n 0, [], 0, 0) with
  | inl x => rw [e1] at h; cases h
  | inr s1 =>
    rw [e1] at h
    simp only [] at h
    split at h
    · cases h
    have g1 := sxR_gr 8 0 _ _ ok0 e1
    have ok5 := g1.1.at (p := nxT T n s1.1) (nxT_le g1.1.1).2
    cases e2 : sxR T n 8 0 (nxT T n s1.1, s1.2) with
    | inl x => rw [e2] at h; cases h
    | inr s2 =>
      rw [e2] at h
      simp only [] at h
      split at h
      · cases h
      · cases h
        exact ⟨(sxR_gr 8 0 _ _ ok5 e2).1, (sxR_pr 8 0 _ _ e2).length_le⟩
theorem m_identity {post : Int32 → MS → Prop} {S : MS} {T : Nat → Int} {n : Nat} (hT : mTp S T n) (h0 : ∀ k q o i S', idR T n = .inl (k, q, o, i) → toldI S S' k q o i → keptI S S' → post (iI (-1)) S') (h1 : ∀ e s S', idR T n = .inr (e, s) → toldI S S' 0 (-1) (-1) (-1) → mIdn S' e s.2.1 s.2.2.1 s.2.2.2 → post (iI (btN 6 s.2.2.2 : Nat)) S') : wX1_identity post S := by
  unfold wX1_identity
  refine m_begins hT (fun S2 r e k g => ?_)
  obtain ⟨S3, eS3⟩ : ∃ S3, S3 = mI (mI (mI (mI S2 19 (0 : Int32)) 36 (0 : Int32)) 38 (0 : Int32)) 40 (0 : Int32) := ⟨_, rfl⟩
  rw [← eS3]
  have r3 : idE2 S S3 := by
    rw [eS3]
    exact ((r.I 19 (by omega) 0).id.trans (((idEq.I (by omega) _).trans (idEq.I (by omega) _)).trans (idEq.I (by omega) _))).two
  have k3 : mTok S3 T n (sk T n 0) := by rw [eS3]; exact k
  have g3 : going S3 0 0 := by rw [eS3]; exact g.inn 0
  have x3 : mXs S3 (sk T n 0, [], 0, 0) := by rw [eS3]; exact ⟨rfl, rfl, rfl, fun i c h => by cases h⟩
  refine m_readIdentity (r3.tape hT) k3 g3 x3 ⟨?_, ?_⟩
  · intro k q o i S' eR b r4
    exact m_isReadI (r3.trans r4) b (fun _ S'' t kp _ _ => b_t rfl (h0 k q o i S'' eR t kp))
  · intro e s S4 eR b r4 x4 a2 a3
    obtain ⟨ok, hle⟩ := idR_ok eR
    have hlen := ok.2.2.1
    have hpt := ok.2.1
    refine m_isReadI (r3.trans r4) b (fun _ S6 t kp e2 ei => b_f (by decide) ⟨iI_in (z := 2) (by omega) (by omega) (by omega), iI_in (z := 0) (by omega) (by omega) (by omega), iI_in (z := 3) (by omega) (by omega) (by omega), iI_in (z := 1) (by omega) (by omega) (by omega), ⟨s.2.1.length + 1, ?_⟩⟩)
    rw [show Int32.toNatClampNeg 2 = 2 from rfl, show Int32.toNatClampNeg 3 = 3 from rfl, show Int32.toNatClampNeg 0 = 0 from rfl, show Int32.toNatClampNeg 1 = 1 from rfl, upd_ne _ _ _ (show 3 ≠ 0 by omega), mA_mA]
    have c2 : S6.2.2.1 35 2 = iI e := by rw [e2]; exact a2
    have c3 : S6.2.2.1 35 3 = iI (s.2.1.length : Nat) := by rw [e2]; exact a3
    rw [c2, c3, ei 38 (by omega), ei 40 (by omega), x4.2.1, x4.2.2.1]
    obtain ⟨S7, eS7⟩ : ∃ S7, S7 = mA (mI (mI (mI S6 41 (1 : Int32)) 37 (iI (s.2.2.1 : Nat))) 39 (iI (s.2.2.2 : Nat))) 35 (upd (upd (S6.2.2.1 35) 0 (iI e)) 1 (iI (s.2.1.length : Nat))) := ⟨_, rfl⟩
    rw [← eS7]
    have b36 : S7.1 36 = iI (s.2.1.length : Nat) := by rw [eS7]; show S6.1 36 = _; rw [ei 36 (by omega)]; exact x4.1
    have b39 : S7.1 39 = iI (s.2.2.2 : Nat) := by rw [eS7]; rfl
    have b33 : S7.2.2.1 33 = S4.2.2.1 33 := by rw [eS7]; show S6.2.2.1 33 = _; rw [e2]
    have b34 : S7.2.2.1 34 = S4.2.2.1 34 := by rw [eS7]; show S6.2.2.1 34 = _; rw [e2]
    have go := m_id_87 (post := post) (S0 := S7) (len := s.2.1.length) (by omega) b36 (fun f g hfg => by
      rw [b39]
      refine m_bits ok.2.2.2.1 (h1 e s _ eR ?_ ?_)
      · refine ⟨?_, fun q a _ c _ d _ z => ?_, fun q a b c d => ?_, fun q a => ?_, fun q a => ?_, ?_⟩
        · rw [eS7]; exact t.1
        · rw [eS7]
          show va_up (va_up (va_up S6.1 41 _) 37 _) 39 _ q = _
          rw [up_ne _ _ _ d, up_ne _ _ _ c, up_ne _ _ _ z]
          exact t.2.1 q a ‹_› c ‹_› d ‹_› z
        · rw [eS7]
          show va_up (va_up (va_up S6.2.2.1 35 _) 33 _) 34 _ q = _
          rw [up_ne _ _ _ c, up_ne _ _ _ b, up_ne _ _ _ d]
          exact t.2.2.1 q a b c d
        · rw [eS7]; exact t.2.2.2.1 q a
        · rw [eS7]; exact t.2.2.2.2.1 q a
        · rw [eS7]; exact t.2.2.2.2.2
      · refine ⟨by rw [eS7]; rfl, by rw [eS7]; rfl, b39, ?_, ?_, fun i c hi => ?_⟩
        · rw [eS7]
          show upd (upd (S6.2.2.1 35) 0 (iI e)) 1 (iI (s.2.1.length : Nat)) 0 = _
          rw [upd_ne _ _ _ (by omega), upd_eq]
        · rw [eS7]
          show upd (upd (S6.2.2.1 35) 0 (iI e)) 1 (iI (s.2.1.length : Nat)) 1 = _
          rw [upd_eq]
        · have hil := (List.getElem?_eq_some_iff.mp hi).1
          obtain ⟨y1, y2⟩ := hfg i hil
          obtain ⟨z1, z2⟩ := x4.2.2.2 i c hi
          show g i = _ ∧ f i = _
          rw [y1, y2, b33, b34]
          exact ⟨z1, z2⟩) s.2.1.length 0 (S7.2.2.1 33) (S7.2.2.1 34) (by omega) (fun q _ => ⟨rfl, rfl⟩) (fun q hq => by omega)
    rw [mA_id, mA_id] at go
    exact go
