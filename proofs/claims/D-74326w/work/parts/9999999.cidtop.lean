set_option maxRecDepth 100000
set_option maxHeartbeats 4000000
/-! the component's identity -/
section
variable {K : Nat → Nat → Nat} {a : Nat → Nat}
theorem c_bits {post : Int32 → Prop} {l : Nat} (hl : l < 64) (h : post (iI (btN 6 l : Nat))) : wJ23_bitCount post (iI (l : Nat)) := by
  have : ∀ l : Fin 64, wJ23_bitCount (fun r => r = iI (btN 6 l.val : Nat)) (iI (l.val : Nat)) := by
    unfold wJ23_bitCount
    decide +kernel
  have t := this ⟨l, hl⟩
  unfold wJ23_bitCount at t ⊢
  rw [t]
  exact h
theorem c_ident {post : Int32 → List Nat → NM → Prop} {S : CS} {N : NM} {T : Nat → Int} {n MC MS : Nat} (hL : cL K a S N) (hT : cTape S T n) (hMC : 2200 ≤ MC) (hMS : 20200 ≤ MS)
    (h1 : ∀ k pl o i, idR T n = .inl (k, pl, o, i) → ∀ N' y z r f1 f2 f3 f4 g, cL K a (cN (cR S 11 (some y)) 13 0) N' → kp a N N' → N y = none → N z = none → N r = none → N' y = some (oOu z (o : Nat)) → N' z = some (oIn r i) → N' r = some (oWr f1 f2 f3 f4 g k (pl : Nat)) → post (-1) [z, y, r] N')
    (h2 : ∀ e s, idR T n = .inr (e, s) → ∀ N' S' ql qr, cL K a S' N' → kp a N N' → S'.1.1 = va_up (va_up (va_up S.1.1 11 none) 7 (some ql)) 8 (some qr) → S'.1.2 = va_up (va_up (va_up S.1.2 9 (iI (s.2.2.2 : Nat))) 10 (iI (s.2.2.1 : Nat))) 13 0 → S'.2 = S.2 → cIdn S' N' e s.2.1 s.2.2.1 s.2.2.2 → post (iI (btN 6 s.2.2.2 : Nat)) [] N') : wX0_identity K post MC MS N (a 0) := by
  unfold wX0_identity
  refine ⟨_, _, _, _, _, _, _, _, _, _, _, _, _, _, _, _, _, _, _, hL.obj, fun N21 e21 => ?_⟩
  have e21 : N21 = va_up N (a 0) (some (oT a (cR S 11 none))) := e21
  have hL1 : cL K a (cR S 11 none) N21 := by rw [e21]; exact hL.setV rfl
  have k1 : kp a N N21 := by rw [e21]; exact (kp.refl a N).at (by omega) _
  have hT1 : cTape (cR S 11 none) T n := hT
  refine ⟨by omega, by omega, fun x hx N28 e28 => c_newR hL1 hT1 hx e28 ?_⟩
  have hx0 : N x = none := by
    cases e : N x with
    | none => rfl
    | some u => have := k1 x u e (hL1.outN hx); rw [hx] at this; cases this
  have hL2 : cL K a (cR S 11 none) (va_up N21 x (some (rdr a (sk T n 0) 0 0))) := hL1.off (hL1.outN hx) _
  have x2 := up_eq N21 x (some (rdr a (sk T n 0) 0 0))
  have k2 : kp a N (va_up N21 x (some (rdr a (sk T n 0) 0 0))) := k1.new hx0 _
  have d2 : ∀ q, va_up N21 x (some (rdr a (sk T n 0) 0 0)) q = none → N q = none := fun q hq => by
    cases e : N q with
    | none => rfl
    | some u =>
      exfalso
      by_cases ho : ∀ i, i < 28 → q ≠ a i
      · rw [k2 q u e ho] at hq; cases hq
      · have : ∃ i, i < 28 ∧ q = a i := Classical.byContradiction (fun c => ho (fun i hi e => c ⟨i, hi, e⟩))
        obtain ⟨i, hi, ei⟩ := this
        exact hL2.outN hq i hi ei
  obtain ⟨N2, eN2⟩ : ∃ N2, N2 = va_up N21 x (some (rdr a (sk T n 0) 0 0)) := ⟨_, rfl⟩
  rw [← eN2] at hL2 x2 k2 d2 ⊢
  refine ⟨_, _, _, _, x2, MC - 1, MS - 4, by omega, by omega, c_rdId hT1 hL2 x2 (by omega) (by omega) ⟨fun e s hR N' ql qr hL3 hk hSl hSr => ?_, fun k pl o i hR N' y z r f1 f2 f3 f4 g hL3 hk y0 z0 r0 hy hz hr fs hfs => ?_⟩⟩
  · have kk : kp a N N' := fun w u hw ho => hk w u (k2 w u hw ho) ho (fun c => by rw [c, hx0] at hw; cases hw)
    refine ⟨_, _, _, _, _, _, _, _, _, _, _, _, _, _, _, _, _, _, _, hL3.obj, ?_⟩
    have hs64 : s.2.2.2 < 64 := (idR_ok hR).1.2.2.2.1
    show wJ23_bitCount _ ((va_up (va_up (cR S 11 none).1.2 9 (iI (s.2.2.2 : Nat))) 10 (iI (s.2.2.1 : Nat))) 9)
    rw [show (va_up (va_up (cR S 11 none).1.2 9 (iI (s.2.2.2 : Nat))) 10 (iI (s.2.2.1 : Nat))) 9 = iI (s.2.2.2 : Nat) by rw [up_ne _ _ _ (by omega), up_eq]]
    refine c_bits hs64 (fun N99 e99 => ?_)
    obtain ⟨S3, eS3⟩ : ∃ S3 : CS, S3 = cN ((va_up (va_up (cR S 11 none).1.1 7 (some ql)) 8 (some qr), va_up (va_up (cR S 11 none).1.2 9 (iI (s.2.2.2 : Nat))) 10 (iI (s.2.2.1 : Nat))), (cR S 11 none).2) 13 0 := ⟨_, rfl⟩
    have e99 : N99 = va_up N' (a 0) (some (oT a S3)) := by
      rw [e99, eS3]
      show va_up N' (a 0) (some (eO 1 _)) = va_up N' (a 0) (some (eO 1 _))
      simp only [cN, cR]
      rfl
    have k4 := (kp.refl a N').at (i := 0) (by omega) (oT a S3)
    have hL4 : cL K a S3 N99 := by rw [e99]; exact hL3.setV (by rw [eS3]; rfl)
    have kS : ∀ z c fs, N' z = some (eO c fs) → 8 ≤ c → c ≤ 11 → N99 z = some (eO c fs) := fun z c fs hz h8 _ => by
      rw [e99, up_ne _ _ _ (fun w => by rw [w, hL3.obj] at hz; have := (Prod.mk.inj (Sum.inr.inj (Option.some.inj hz))).1; omega)]; exact hz
    refine h2 e s hR N99 S3 ql qr hL4 (kk.trans (by rw [e99]; exact k4)) (by rw [eS3]; rfl) (by rw [eS3]; rfl) (by rw [eS3]; rfl) ⟨?_, ?_, ql, qr, ?_, ?_, cSm.kq kS _ _ _ hSl, cSm.kq kS _ _ _ hSr⟩
    · rw [eS3]; show va_up (va_up (va_up S.1.2 9 (iI (s.2.2.2 : Nat))) 10 (iI (s.2.2.1 : Nat))) 13 0 9 = iI (s.2.2.2 : Nat); rw [up_ne _ _ _ (by omega), up_ne _ _ _ (by omega), up_eq]
    · rw [eS3]; show va_up (va_up (va_up S.1.2 9 (iI (s.2.2.2 : Nat))) 10 (iI (s.2.2.1 : Nat))) 13 0 10 = iI (s.2.2.1 : Nat); rw [up_ne _ _ _ (by omega), up_eq]
    · rw [eS3]; show va_up (va_up (va_up S.1.1 11 none) 7 (some ql)) 8 (some qr) 7 = some ql; rw [up_ne _ _ _ (by omega), up_eq]
    · rw [eS3]; show va_up (va_up (va_up S.1.1 11 none) 7 (some ql)) 8 (some qr) 8 = some qr; rw [up_eq]
  · have kk : kp a N N' := fun w u hw ho => hk w u (k2 w u hw ho) (fun c => by rw [c, hx0] at hw; cases hw)
    refine ⟨_, _, _, _, _, _, _, _, _, _, _, _, _, _, _, _, _, _, _, hL3.obj, fun N74 e74 N77 e77 => ?_⟩
    have e77 : N77 = va_up N' (a 0) (some (oT a (cN (cR S 11 (some y)) 13 0))) := by rw [e77, e74, up_up]; rfl
    have k4 := (kp.refl a N').at (i := 0) (by omega) (oT a (cN (cR S 11 (some y)) 13 0))
    rw [e77]
    exact h1 k pl o i hR _ y z r f1 f2 f3 f4 g (hL3.setV rfl) (kk.trans k4) (d2 y y0) (d2 z z0) (d2 r r0) (k4 _ _ hy (hL3.out hy rfl)) (k4 _ _ hz (hL3.out hz rfl)) (k4 _ _ hr (hL3.out hr rfl))
end
