set_option maxRecDepth 100000
set_option maxHeartbeats 4000000
/-! the component: what is shown -/
section
variable {K : Nat → Nat → Nat} {a : Nat → Nat}
theorem cQ.fb {S0 S : CS} {N0 N N' : NM} {x : Nat} (h : cQ K a S0 N0 S N) (hL0 : cL K a S0 N0) (hf : fb N0 N x N') : cQ K a S0 N0 S N' := by
  obtain ⟨y, x0, y0, fx, fy, hq⟩ := hf
  obtain ⟨h1, h2, h3, h4, h5, h6, h7, h8⟩ := h
  have ox := hL0.outN x0
  have oy := hL0.outN y0
  have hF : ∀ {q : Nat} {ts : List tm}, cF K N q ts → cF K N' q ts := fun {q ts} hc => by
    obtain ⟨u, f, c1, c2, c3⟩ := hc
    have n : ∀ z e, N z = some e → fk e = 1 → N' z = some e := fun z e z1 z2 => hq z e z1 (fun c => by rw [c] at z1; have := fx e z1; omega) (fun c => by rw [c] at z1; have := fy e z1; omega)
    refine ⟨u, f, n _ _ c1 rfl, n _ _ c2 rfl, fun i t ht => ?_⟩
    obtain ⟨z, z1, z2⟩ := c3 i t ht
    exact ⟨z, z1, n _ _ z2 rfl⟩
  refine ⟨h1.st (fun i e hi he => hq _ e he (Ne.symm (ox i hi)) (Ne.symm (oy i hi))), fun q e q1 q2 => hq q e (h2 q e q1 q2) (fun c => by rw [c, x0] at q1; cases q1) (fun c => by rw [c, y0] at q1; cases q1), h3, h4, h5, h6, ?_, ?_⟩
  · rcases h7 with h | ⟨q, ts, c1, c2, c3, c4⟩
    · exact Or.inl h
    · exact Or.inr ⟨q, ts, c1, hF c2, c3, c4⟩
  · rcases h8 with h | ⟨q, ts, c1, c2, c3, c4⟩
    · exact Or.inl h
    · exact Or.inr ⟨q, ts, c1, hF c2, c3, c4⟩
/-- the text that is shown -/
def cShw (K : Nat → Nat → Nat) (a : Nat → Nat) (S : CS) (N : NM) (L : List Int) : Prop := ∃ r, S.1.1 17 = some r ∧ ((r = K 0 5 ∧ L = []) ∨ ∃ v, sTx N r v L ∧ ∀ i, i < 28 → v ≠ a i)
theorem cShw.kn {S : CS} {N : NM} {L : List Int} (h : cShw K a S N L) : ∃ r v f, S.1.1 17 = some r ∧ sKn K N r v L.length f ∧ (∀ i c, L[i]? = some c → f i = iI c) ∧ (∀ c ∈ L, 0 ≤ c ∧ c ≤ 127) ∧ L.length ≤ 2302 := by
  obtain ⟨r, h1, ⟨h2, h3⟩ | ⟨v, h2, -⟩⟩ := h
  · subst h3
    exact ⟨r, _, _, h1, ⟨by simp, Or.inl ⟨5, by decide, h2, rfl, rfl, rfl⟩⟩, fun i c hc => by simp at hc, fun c hc => by simp at hc, by simp⟩
  · obtain ⟨f, k1, k2⟩ := h2.kn (K := K)
    exact ⟨r, v, f, h1, k1, k2⟩
theorem cShw.kp {S S' : CS} {N N' : NM} {L : List Int} (hL : cL K a S N) (h : cShw K a S N L) (hk : kp a N N') (e : S'.1.1 17 = S.1.1 17) : cShw K a S' N' L := by
  obtain ⟨r, h1, h2⟩ := h
  refine ⟨r, e.trans h1, h2.imp_right ?_⟩
  rintro ⟨v, ⟨f, x, z, o1, o2, o3⟩, ho⟩
  exact ⟨v, ⟨f, x, z, hk _ _ o1 (hL.out o1 rfl), hk _ _ o2 ho, o3⟩, ho⟩
theorem ch16_t : ∀ k : Fin 256, ((iI ((k.val : Nat) : Int)).toUInt32 % 65536).toInt32 = iI ((k.val : Nat) : Int) := by decide +kernel
theorem c_out {post : Int32 → NM → Prop} {S : CS} {N : NM} {L : List Int} {i : Int} (hL : cL K a S N) (hS : cShw K a S N L) (hi : i32 i) (h0 : ¬ (0 ≤ i ∧ i < L.length) → post (iI (-1)) N) (h1 : 0 ≤ i → i < L.length → post (iI (L.getD i.toNat 0)) N) : wX0_out K post N (a 0) (iI i) := by
  obtain ⟨r, v, f, k1, k2, k3, k4, k5⟩ := hS.kn
  unfold wX0_out
  refine ⟨_, _, _, _, _, _, _, _, _, _, _, _, _, _, _, _, _, _, _, hL.obj, r, k1, _, _, _, k2, ?_⟩
  rw [iI_l hi.1 hi.2, nI_i, show (1 : Int32) = iI 1 from rfl, iI_sub, iI_l (by omega) (by omega), show (0 : Int64) = lI 0 from rfl]
  refine c_isIn (by have := hi; unfold i32 at this; unfold i64; omega) (by unfold i64; omega) (by unfold i64; omega) (fun q1 q2 => b_f (by decide) ⟨iI_in (by omega) (by omega) (by omega), ?_⟩) (fun hc => b_t rfl (h0 (fun w => hc (by omega))))
  have hi2 : i.toNat < L.length := by omega
  rw [iI_nat (by omega) (by omega), k3 i.toNat _ (List.getElem?_eq_getElem hi2), by255, iI_toInt (by have := k4 _ (List.getElem_mem hi2); omega) (by have := k4 _ (List.getElem_mem hi2); omega)]
  have hc := k4 _ (List.getElem_mem hi2)
  have hh := h1 q1 (by omega)
  rw [List.getD_eq_getElem?_getD, List.getElem?_eq_getElem hi2] at hh
  rw [show L[i.toNat] % 256 = L[i.toNat] by omega]
  have ec : ((iI L[i.toNat]).toUInt32 % 65536).toInt32 = iI L[i.toNat] := by
    have := ch16_t ⟨L[i.toNat].toNat, by omega⟩
    simp only at this
    rw [show ((L[i.toNat].toNat : Nat) : Int) = L[i.toNat] by omega] at this
    exact this
  rw [ec]
  exact hh
/-- what a step that shows leaves -/
def cT (K : Nat → Nat → Nat) (a : Nat → Nat) (S : CS) (N : NM) (S' : CS) (N' : NM) (L : List Int) : Prop := cL K a S' N' ∧ kp a N N' ∧ S'.1.2 = S.1.2 ∧ (∀ k, k ≠ 5 → k ≠ 6 → k ≠ 17 → k ≠ 18 → S'.1.1 k = S.1.1 k) ∧ S'.2.1 = S.2.1 ∧ S'.2.2.1 = S.2.2.1 ∧ cLaid K S' N' ∧ cUnl K S' N' ∧ cShw K a S' N' L
theorem c_shows {post : Int32 → NM → Prop} {S0 S : CS} {N0 N : NM} {x bc bs MC MS : Nat} {L : List Int} (hQ : cQ K a S0 N0 S N) (hB : sBd N0 N x L bc bs) (hMC : 2 ≤ MC) (hMS : 2310 ≤ MS) (h : ∀ S' N', cT K a S0 N0 S' N' L → post (iI (L.length : Nat)) N') : wX0_shows K post MC MS N (a 0) (some x) := by
  obtain ⟨f1, f2, f3, f4, o1⟩ := hB.x
  unfold wX0_shows
  refine ⟨x, rfl, _, _, _, _, o1, MC, MS, Nat.le_refl _, Nat.le_refl _, ?_⟩
  refine c_toStr hB hMC hMS (fun N' r v r0 v0 hn hs => ?_)
  have hQ' := hQ.nw hn
  refine ⟨_, _, _, _, _, _, _, _, _, _, _, _, _, _, _, _, _, _, _, hQ'.1.obj, fun N34 e34 => ?_⟩
  subst e34
  have hv : ∀ i, i < 28 → v ≠ a i := hQ.1.outN v0
  have hS' : cShw K a (cR S 17 (some r)) N' L := ⟨r, rfl, Or.inr ⟨v, hs, hv⟩⟩
  have hL' := hQ'.1.setV (S' := cR S 17 (some r)) rfl
  have k := (kp.refl a N').at (i := 0) (by omega) (oT a (cR S 17 (some r)))
  have hS2 : cShw K a (cR S 17 (some r)) (va_up N' (a 0) (some (oT a (cR S 17 (some r))))) L := by
    obtain ⟨f, x, z, p1, p2, p3⟩ := hs
    exact ⟨r, rfl, Or.inr ⟨v, ⟨f, x, z, by rw [up_ne _ _ _ (hQ'.1.out p1 rfl 0 (by omega))]; exact p1, by rw [up_ne _ _ _ (hv 0 (by omega))]; exact p2, p3⟩, hv⟩⟩
  obtain ⟨r', v', f, q1, q2, -⟩ := hS2.kn
  have er : r' = r := by
    have : (cR S 17 (some r)).1.1 17 = some r := rfl
    rw [this] at q1; exact (Option.some.inj q1).symm
  subst er
  refine ⟨_, rfl, _, _, _, q2, ?_⟩
  rw [nI_i]
  obtain ⟨g1, g2, g3, g4, g5, g6, g7, g8⟩ := hQ'
  refine h _ _ ⟨hL', g2.at (by omega) _, g3, fun i i1 i2 i3 i4 => ?_, g5, g6, g7.same g1 k (show va_up S.1.1 17 (some r') 5 = S.1.1 5 from up_ne _ _ _ (by omega)) rfl, g8.same g1 k (show va_up S.1.1 17 (some r') 6 = S.1.1 6 from up_ne _ _ _ (by omega)) rfl, hS2⟩
  rw [← g4 i i1 i2 i4]
  exact (show va_up S.1.1 17 (some r') i = S.1.1 i from up_ne _ _ _ i3)
end
