set_option maxRecDepth 100000
set_option maxHeartbeats 4000000
/-! the component's form -/
section
variable {K : Nat → Nat → Nat} {a : Nat → Nat}
/-- a reader begins -/
theorem c_newR {post : Unit → NM → Prop} {S : CS} {N M : NM} {T : Nat → Int} {n x : Nat} (hL : cL K a S N) (hT : cTape S T n) (hx : N x = none) (hM : M = va_up N x (some (eO 2 [.int 0, .int 0, .int 0, va_rf none]))) (h : post () (va_up N x (some (rdr a (sk T n 0) 0 0)))) : wX2_init K post M x (some (a 0)) := by
  unfold wX2_init
  refine ⟨_, _, _, _, at_up hM, fun N6 e6 => ?_⟩
  have e6' : N6 = va_up N x (some (rdr a 0 0 0)) := by rw [e6, hM, up_up]; rfl
  have hL6 : cL K a S N6 := by rw [e6']; exact hL.off (hL.outN hx) _
  refine c_skips (b := 0) (d := 0) hL6 hT (at_up e6') (Nat.zero_le n) ?_
  rw [e6', up_up]
  exact h
theorem kp.kx {N N1 N2 : NM} {x : Nat} (h : kp a N N1) (hx : N x = none) (hk : kx x N1 N2) : kp a N N2 := fun z e hz ho => hk z e (h z e hz ho) (fun c => by rw [c, hx] at hz; cases hz)
theorem c_form {post : Int32 → List Nat → NM → Prop} {S : CS} {N : NM} {T : Nat → Int} {n MC MS : Nat} {s : Int} (hL : cL K a S N) (hT : cTape S T n) (hs : i32 s) (hMC : 510 ≤ MC) (hMS : 5010 ≤ MS)
    (h0 : ¬ (0 ≤ s ∧ s ≤ 3) → ∀ N', cL K a (cN (cR S 11 none) 13 0) N' → kp a N N' → post (-2) [] N')
    (h1 : ∀ d : Nat, d < 4 → s = d → ∀ w pl o, fmR T n = .inl (w, pl, o) → ∀ N' q r f1 f2 f3 f4 g, cL K a (cN (cR S 11 (some q)) 13 0) N' → kp a N N' → N q = none → N r = none → N' q = some (oOu r (o : Nat)) → N' r = some (oWr f1 f2 f3 f4 g w (pl : Nat)) → post (-1) [q, r] N')
    (h2 : ∀ d : Nat, d < 4 → s = d → ∀ ts, fmR T n = .inr ts → ∀ N' q, cL K a (cN (cSl (cR S 11 none) (va_up S.2.1 d (some q))) 13 0) N' → kp a N N' → N q = none → cF K N' q ts → post (iI (ts.length : Nat)) [] N') : wX0_form K post MC MS N (a 0) (iI s) := by
  unfold wX0_form
  refine ⟨_, _, _, _, _, _, _, _, _, _, _, _, _, _, _, _, _, _, _, hL.obj, fun N21 e21 => ?_⟩
  have e21 : N21 = va_up N (a 0) (some (oT a (cR S 11 none))) := e21
  have hL1 : cL K a (cR S 11 none) N21 := by rw [e21]; exact hL.setV rfl
  have k1 : kp a N N21 := by rw [e21]; exact (kp.refl a N).at (by omega) _
  have hT1 : cTape (cR S 11 none) T n := hT
  refine c_isSlot hs (fun s1 s2 => b_f (by decide) ⟨by omega, by omega, fun x hx N30 e30 => c_newR hL1 hT1 hx e30 ?_⟩) (fun c => b_t rfl (fun N147 e147 => ?_))
  rotate_left
  · have e147 : N147 = va_up N21 (a 0) (some (oT a (cN (cR S 11 none) 13 0))) := e147
    rw [e147]
    exact h0 c _ (hL1.setV rfl) (k1.at (by omega) _)
  obtain ⟨d, rfl⟩ : ∃ d : Nat, s = d := ⟨s.toNat, by omega⟩
  have hx0 : N x = none := by
    cases e : N x with
    | none => rfl
    | some u => have := k1 x u e (hL1.outN hx); rw [hx] at this; cases this
  have hL2 : cL K a (cR S 11 none) (va_up N21 x (some (rdr a (sk T n 0) 0 0))) := hL1.off (hL1.outN hx) _
  have x2 := up_eq N21 x (some (rdr a (sk T n 0) 0 0))
  have k2 : kp a N (va_up N21 x (some (rdr a (sk T n 0) 0 0))) := k1.new hx0 _
  have d2 : ∀ q, va_up N21 x (some (rdr a (sk T n 0) 0 0)) q = none → N q = none := fun q hq => by
    cases e : N q with
    | none => rfl
    | some u =>
      exfalso
      by_cases ho : ∀ i, i < 28 → q ≠ a i
      · rw [k2 q u e ho] at hq; cases hq
      · have : ∃ i, i < 28 ∧ q = a i := by
          refine Classical.byContradiction (fun c => ho (fun i hi e => c ⟨i, hi, e⟩))
        obtain ⟨i, hi, ei⟩ := this
        exact hL2.outN hq i hi ei
  obtain ⟨N2, eN2⟩ : ∃ N2, N2 = va_up N21 x (some (rdr a (sk T n 0) 0 0)) := ⟨_, rfl⟩
  rw [← eN2] at hL2 x2 k2 d2 ⊢
  refine ⟨_, _, _, _, x2, MC - 1, MS - 4, by omega, by omega, c_rdForm hT1 hL2 x2 (sk_le (Nat.zero_le n)).2 (by omega) (by omega) ⟨fun ts hR N' q kk q0 hF => ?_, fun w pl o hR N' q r f1 f2 f3 f4 g kk q0 r0 hq hr fs hfs => ?_⟩⟩
  · have hL3 := hL2.kx x2 kk
    have k3 := k2.kx hx0 kk
    refine ⟨_, rfl, _, _, hL3.slots, iI_in (by omega) (by omega) (by omega), q, rfl, ?_⟩
    obtain ⟨y, f, f1, f2, f3⟩ := hF
    refine ⟨_, f1, fun N89 e89 => ?_⟩
    rw [nat_i (by omega)] at e89 ⊢
    have hL4 := hL3.setSl (va_up (cR S 11 none).2.1 d (some q))
    have k34 := (kp.refl a N').at (i := 3) (by omega) (eR 4 4 (va_up (cR S 11 none).2.1 d (some q)))
    have hF4 : cF K _ q ts := cF.kp hL3 ⟨y, f, f1, f2, f3⟩ k34
    have k4 := k3.trans k34
    rw [← e89] at hL4 hF4 k4
    obtain ⟨y', f', f1', f2', f3'⟩ := hF4
    refine ⟨_, _, _, _, _, _, _, _, _, _, _, _, _, _, _, _, _, _, _, hL4.obj, _, rfl, _, _, hL4.slots, iI_in (by omega) (by omega) (by omega), q, up_eq _ _ _, _, f1', c_many0 ⟨y', f', f1', f2', f3'⟩ ⟨_, _, _, _, _, _, _, _, _, _, _, _, _, _, _, _, _, _, _, hL4.obj, fun N144 e144 => ?_⟩⟩
    have e144 : N144 = va_up N89 (a 0) (some (oT a (cN (cSl (cR S 11 none) (va_up S.2.1 d (some q))) 13 0))) := e144
    have k45 := (kp.refl a N89).at (i := 0) (by omega) (oT a (cN (cSl (cR S 11 none) (va_up S.2.1 d (some q))) 13 0))
    have hF5 : cF K _ q ts := cF.kp hL4 ⟨y', f', f1', f2', f3'⟩ k45
    rw [e144]
    exact h2 d (by omega) rfl ts hR _ q (hL4.setV rfl) (k4.trans k45) (d2 q q0) hF5
  · have hL3 := hL2.kx x2 kk
    have k3 := k2.kx hx0 kk
    refine ⟨_, _, _, _, _, _, _, _, _, _, _, _, _, _, _, _, _, _, _, hL3.obj, fun N74 e74 N77 e77 => ?_⟩
    have e77 : N77 = va_up N' (a 0) (some (oT a (cN (cR S 11 (some q)) 13 0))) := by rw [e77, e74, up_up]; rfl
    have k4 := (kp.refl a N').at (i := 0) (by omega) (oT a (cN (cR S 11 (some q)) 13 0))
    rw [e77]
    exact h1 d (by omega) rfl w pl o hR _ q r f1 f2 f3 f4 g (hL3.setV rfl) (k3.trans k4) (d2 q q0) (d2 r r0) (k4 _ _ hq (hL3.out hq rfl)) (k4 _ _ hr (hL3.out hr rfl))
end
