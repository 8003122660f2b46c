set_option maxRecDepth 100000
set_option maxHeartbeats 4000000
section
variable {K : Nat → Nat → Nat} {a : Nat → Nat}
theorem sgIs_iff {T : Nat → Int} {n p : Nat} {c : Int} (hc : isL c = false ∧ isD c = false) : sgIs T n p c ↔ p < n ∧ T p = c := by
  unfold sgIs srt
  by_cases h : n ≤ p
  · rw [if_pos h]
    exact ⟨fun e => by omega, fun e => by omega⟩
  · rw [if_neg h]
    refine ⟨fun e => ⟨by omega, e.2⟩, fun e => ?_⟩
    rw [e.2, if_neg (by rw [hc.1]; decide), if_neg (by rw [hc.2]; decide)]
    exact ⟨rfl, rfl⟩
theorem c_whole {post : Int32 → NM → Prop} {xp : Nat → List Nat → NM → Prop} {S : CS} {N : NM} {T : Nat → Int} {n p x MC MS : Nat} {b d : Int32} (hL : cL K a S N) (hT : cTape S T n) (hx : N x = some (rdr a p b d)) (hpn : p ≤ n) (hmc : 2 ≤ MC) (hms : 16 ≤ MS)
    (h1 : isNb T n (whA T n p) → post (iI (whV T n p)) (va_up N x (some (rdr a (nxT T n (whA T n p)) (iI ((whA T n p : Nat) : Int)) d)))) (h0 : ¬ isNb T n (whA T n p) → ∀ e q f1 f2 f3 f4 g, N q = none → xp q [q] (va_up (va_up N x (some e)) q (some (oWr f1 f2 f3 f4 g 1 ((whA T n p : Nat) : Int))))) : wX2_whole K post xp MC MS N x := by
  unfold wX2_whole
  refine ⟨_, _, _, _, hx, ?_⟩
  rw [show (45 : Int32) = iI 45 from rfl]
  refine c_passesS hL hT hx hpn (by omega) (fun c1 c2 => b_f (by decide) ⟨_, _, _, _, up_eq _ _ _, MC, MS, Nat.le_refl _, Nat.le_refl _, ?_⟩) (fun c => b_t rfl ⟨_, _, _, _, hx, MC, MS, Nat.le_refl _, Nat.le_refl _, ?_⟩)
  · have hs : sgIs T n p 45 := (sgIs_iff (by decide)).2 ⟨c1, c2⟩
    have eA : whA T n p = sk T n (p + 1) := by unfold whA; rw [if_pos hs]
    have eV : whV T n p = -numV T n (sk T n (p + 1)) := by unfold whV; rw [if_pos hs, eA]
    have hle := sk_le (T := T) (n := n) (p := p + 1) (by omega)
    rw [eA, eV] at h1
    rw [eA] at h0
    refine c_rdNum (hL.rd hx _) hT (up_eq _ _ _) hle.2 hmc hms (fun hb => ?_) (fun hb e q f1 f2 f3 f4 g hq fs hfs => ?_)
    · rw [up_up, iI_neg]; exact h1 hb
    · have hq' : N q = none := by
        by_cases c : q = x
        · rw [c, up_eq] at hq; cases hq
        · rw [up_ne _ _ _ c] at hq; exact hq
      rw [up_up]
      exact h0 hb e q f1 f2 f3 f4 g hq'
  · have hs : ¬ sgIs T n p 45 := fun z => c ((sgIs_iff (by decide)).1 z)
    have eA : whA T n p = p := by unfold whA; rw [if_neg hs]
    have eV : whV T n p = numV T n p := by unfold whV; rw [if_neg hs, eA]
    rw [eA, eV] at h1
    rw [eA] at h0
    exact c_rdNum hL hT hx hpn hmc hms h1 (fun hb e q f1 f2 f3 f4 g hq fs hfs => h0 hb e q f1 f2 f3 f4 g hq)
/-- the sign must stand here -/
theorem c_asks {post : Unit → NM → Prop} {xp : Nat → List Nat → NM → Prop} {S : CS} {N : NM} {T : Nat → Int} {n p x MC MS : Nat} {b d : Int32} {c : Int} (hL : cL K a S N) (hT : cTape S T n) (hx : N x = some (rdr a p b d)) (hpn : p ≤ n) (hc : 0 ≤ c ∧ c ≤ 255) (hmc : 1 ≤ MC) (hms : 8 ≤ MS) (h1 : p < n → T p = c → post () (va_up N x (some (rdr a (sk T n (p + 1)) b d)))) (h0 : ¬ (p < n ∧ T p = c) → ∀ q f1 f2 f3 f4 g, N q = none → xp q [q] (va_up N q (some (oWr f1 f2 f3 f4 g 1 (p : Nat))))) : wX2_asks K post xp MC MS N x (iI c) := by
  unfold wX2_asks
  refine ⟨_, _, _, _, hx, ?_⟩
  refine c_passesS hL hT hx hpn hc (fun c1 c2 => ⟨_, _, _, _, up_eq _ _ _, MC, MS, Nat.le_refl _, Nat.le_refl _, ?_⟩) (fun c => ⟨_, _, _, _, hx, MC, MS, Nat.le_refl _, Nat.le_refl _, ?_⟩)
  · rw [show wX2_must K (fun _ N14 => post () N14) _ MC MS _ x 1 1 (iI ((sk T n (p + 1) : Nat) : Int)) = wX2_must K (fun _ N14 => post () N14) _ MC MS _ x 1 (iI 1) (iI ((sk T n (p + 1) : Nat) : Int)) from rfl]
    exact c_must hmc hms (fun _ => h1 c1 c2) (fun e => absurd e (by decide))
  · rw [show (1 : Int32) = iI 1 from rfl]
    exact c_must hmc hms (fun e => absurd rfl e) (fun _ q f1 f2 f3 f4 g hq fs hfs => h0 c q f1 f2 f3 f4 g hq)
end
