set_option maxRecDepth 100000
set_option maxHeartbeats 4000000
/-! builders: made, and turned to texts -/
/-- a text that was made -/
def sTx (N : NM) (r v : Nat) (L : List Int) : Prop := ∃ (f : Nat → Int32) (h z : Int32), N r = some (eO 16 [va_rf (some v), .int 0, .int h, .int z]) ∧ N v = some (eN 3 L.length f) ∧ (∀ i c, L[i]? = some c → f i = iI c) ∧ (∀ c ∈ L, 0 ≤ c ∧ c ≤ 127) ∧ L.length ≤ 2302
theorem sTx.nw {N N' : NM} {r v : Nat} {L : List Int} (h : sTx N r v L) (hn : nw N N') : sTx N' r v L := by
  obtain ⟨f, a, b, h1, h2, h3⟩ := h
  exact ⟨f, a, b, hn _ _ h1, hn _ _ h2, h3⟩
section
variable {K : Nat → Nat → Nat} {a : Nat → Nat}
theorem sTx.kn {N : NM} {r v : Nat} {L : List Int} (h : sTx N r v L) : ∃ f, sKn K N r v L.length f ∧ (∀ i c, L[i]? = some c → f i = iI c) ∧ (∀ c ∈ L, 0 ≤ c ∧ c ≤ 127) ∧ L.length ≤ 2302 := by
  obtain ⟨f, x, z, h1, h2, h3, h4, h5⟩ := h
  exact ⟨f, ⟨by omega, Or.inr ⟨x, z, h1, h2⟩⟩, h3, h4, h5⟩
/-- a new builder -/
theorem c_newB {N : NM} {x : Nat} {hN0 : NM} (h0 : hN0 x = none) (hd : dm hN0 N) (hx : N x = some (eO 17 [va_rf none, .int 0, .int 0, .int 0])) {MC MS : Nat} (hMC : 1 ≤ MC) (hMS : 16 ≤ MS) {post : Unit → NM → Prop} (h : ∀ N', sBd hN0 N' x [] 7 4558 → fb hN0 N x N' → post () N') : wJ11_init K post MC MS N x := by
  unfold wJ11_init wJ10_init
  refine ⟨MC, MS, Nat.le_refl _, Nat.le_refl _, fun e => absurd e (by decide), fun _ => ⟨by decide, by decide, hMC, hMS, fun nq hnq N8 e8 => ?_⟩⟩
  subst e8
  have hne : x ≠ nq := fun e => by rw [e, hnq] at hx; cases hx
  have nq0 : hN0 nq = none := Classical.byContradiction fun e => hd nq e hnq
  refine ⟨_, _, _, _, by rw [up_ne _ _ _ hne]; exact hx, fun N16 e16 N20 e20 => ?_⟩
  rw [e16, up_up] at e20
  subst e20
  refine h _ ⟨nq, 16, _, 0, h0, nq0, (hd.up nq _).up x _, up_eq _ _ _, by rw [up_ne _ _ _ (Ne.symm hne)]; exact up_eq _ _ _, fun i hi => fit8 (x := 0) (by omega), fun i c hc => by simp at hc, fun c hc => by simp at hc, by simp, Or.inl ⟨rfl, by omega, by omega⟩⟩ ⟨nq, h0, nq0, fun e he => (by rw [hx] at he; cases he; rfl), fun e he => (by rw [hnq] at he; cases he), fun z e he z1 z2 => ?_⟩
  rw [up_ne _ _ _ z1, up_ne _ _ _ z2]; exact he
theorem c_toStrL {post : Nat → NM → Prop} {N0 N : NM} {x bc bs MC MS : Nat} {L : List Int} (hB : sBd N0 N x L bc bs) (hMC : 2 ≤ MC) (hMS : 4 + L.length ≤ MS) (h : ∀ N' r v, N r = none → N v = none → nw N N' → sTx N' r v L → post r N') : wJ11_toString K post MC MS N x := by
  obtain ⟨y, hS⟩ := hB
  have hS0 := hS
  obtain ⟨cap, f, hh, x0, y0, hd, h1, h2, h3, h4, h5, h6, h7⟩ := hS
  have hcap := h7.in
  unfold wJ11_toString
  refine ⟨by omega, by omega, fun nq hnq N5 e5 => ?_⟩
  subst e5
  have xne : x ≠ nq := fun e => by rw [e, hnq] at h1; cases h1
  have yne : y ≠ nq := fun e => by rw [e, hnq] at h2; cases h2
  have o1 : va_up N nq (some (eO 16 [va_rf none, .int 0, .int 0, .int 0])) x = some (eO 17 [va_rf (some y), .int 0, .int hh, .int (iI (L.length : Nat))]) := by rw [up_ne _ _ _ xne]; exact h1
  unfold wJ6_init wJ6_init_2 wJ10_getValue wJ11_length wJ10_length wJ10_isLatin1
  refine ⟨MC - 1, MS - 4, Nat.le_refl _, Nat.le_refl _, MC - 1, MS - 4, Nat.le_refl _, Nat.le_refl _, _, _, _, _, o1, _, _, _, _, o1, _, _, _, _, o1, _, _, _, _, o1, _, _, _, _, o1, _, _, _, _, o1, fun e => absurd e (by decide), fun _ => ⟨_, _, _, _, o1, fun _ => ⟨fun e => absurd e (by decide), fun _ => ⟨_, _, _, _, up_eq _ _ _, fun N59 e59 => ⟨y, rfl, MC - 1, MS - 4, Nat.le_refl _, Nat.le_refl _, ?_⟩⟩⟩, fun e => absurd rfl e⟩⟩
  rw [up_up] at e59
  subst e59
  have o2 : va_up N nq (some (eO 16 [va_rf none, .int 0, .int 0, .int 0])) y = some (eN 3 cap f) := by rw [up_ne _ _ _ yne]; exact h2
  have n1 := (nw.refl N).new hnq (eO 16 [va_rf none, .int 0, .int 0, .int 0])
  have fin : ∀ (v : Nat) (g : Nat → Int32), va_up N nq (some (eO 16 [va_rf none, .int 0, .int 0, .int 0])) v = none → (∀ i c, L[i]? = some c → g i = iI c) → ∃ f71 f72 f73 f74, (va_up (va_up N nq (some (eO 16 [va_rf none, .int 0, .int 0, .int 0]))) v (some (eN 3 L.length g))) nq = some (eO 16 [va_rf f71, .int f72, .int f73, .int f74]) ∧ (∀ N75, N75 = va_up (va_up (va_up N nq (some (eO 16 [va_rf none, .int 0, .int 0, .int 0]))) v (some (eN 3 L.length g))) nq (some (eO 16 [va_rf (some v), .int f72, .int f73, .int f74])) → (post nq N75)) := by
    intro v g hv hg
    have vne : nq ≠ v := fun e => by rw [← e, up_eq] at hv; cases hv
    have v0 : N v = none := n1.none hv
    refine ⟨_, _, _, _, by rw [up_ne _ _ _ vne]; exact up_eq _ _ _, fun N75 e75 => ?_⟩
    subst e75
    refine h _ nq v hnq v0 (fun z e he => ?_) ⟨g, 0, 0, up_eq _ _ _, by rw [up_ne _ _ _ (Ne.symm vne)]; exact up_eq _ _ _, hg, h5, by omega⟩
    rw [up_ne _ _ _ (fun c => by rw [c, hnq] at he; cases he), up_ne _ _ _ (fun c => by rw [c, v0] at he; cases he), up_ne _ _ _ (fun c => by rw [c, hnq] at he; cases he)]
    exact he
  unfold wJ15_copyOfRange
  refine ⟨fun _ => ⟨_, _, o2, ?_⟩, fun e => absurd rfl e⟩
  rw [nI_i, iI_eq (by omega) (by omega) (by omega) (by omega)]
  refine ⟨fun c => ⟨h3, by omega, by omega, fun v hv N17 e17 => ?_⟩, fun c => ?_⟩
  · have ec : cap = L.length := by omega
    rw [ec] at e17
    subst e17
    exact fin v f hv h4
  · unfold wJ15_copyOfRange_10 wJ15_copyOfRangeByte wJ15_checkLength wJ14_min
    have e0 : (0 : Int32).toNatClampNeg = 0 := by decide
    have hneg : ∀ n : Nat, n ≤ 10000 → ¬ iI (n : Int) < 0 := fun n hn => by
      rw [show (0 : Int32) = iI 0 from rfl, iI_lt (by omega) (by omega) (by omega) (by omega)]; omega
    rw [show iI (L.length : Int) - 0 = iI (L.length : Int) by rw [show (0 : Int32) = iI 0 from rfl, iI_sub, Int.sub_zero], nat_i (by omega), e0]
    refine ⟨MC - 1, MS - 4, Nat.le_refl _, Nat.le_refl _, b_t ?_ ⟨hneg _ (by omega), by omega, by omega, by omega, fun v hv N8 e8 => ?_⟩⟩
    · rw [show (0 : Int32) = iI 0 from rfl, iI_le (by omega) (by omega) (by omega) (by omega)]; omega
    · subst e8
      have vne : y ≠ v := fun e => by rw [← e, o2] at hv; cases hv
      refine ⟨cap, f, by rw [up_ne _ _ _ vne]; exact o2, ?_⟩
      rw [show nI cap - 0 = iI (cap : Int) by rw [nI_i, show (0 : Int32) = iI 0 from rfl, iI_sub, Int.sub_zero], iI_lt (by omega) (by omega) (by omega) (by omega)]
      refine b_t (by omega) ?_
      dsimp only
      rw [nat_i (by omega)]
      refine ⟨by decide, by decide, hneg _ (by omega), by omega, by omega, fun i hi => by rw [Nat.zero_add]; exact h3 i (by omega), fun N21 e21 => ?_⟩
      rw [up_up] at e21
      subst e21
      refine fin v _ hv (fun i c hc => ?_)
      have hi := (List.getElem?_eq_some_iff.mp hc).1
      unfold va_cpy
      rw [if_pos (by omega), show 0 + (i - 0) = i by omega]
      exact h4 i c hc
theorem c_toStr {post : Nat → NM → Prop} {N0 N : NM} {x bc bs MC MS : Nat} {L : List Int} (hB : sBd N0 N x L bc bs) (hMC : 2 ≤ MC) (hMS : 2310 ≤ MS) (h : ∀ N' r v, N r = none → N v = none → nw N N' → sTx N' r v L → post r N') : wJ11_toString K post MC MS N x := by
  have hB0 := hB
  obtain ⟨y, cap, f, hh, x0, y0, hd, h1, h2, h3, h4, h5, h6, h7⟩ := hB0
  have := h7.in
  exact c_toStrL hB hMC (by omega) h
end
