set_option maxRecDepth 100000
set_option maxHeartbeats 4000000
/-! the component's small methods -/
theorem c_isIn {post : Int32 → Prop} {a b c : Int} (ha : i64 a) (hb : i64 b) (hc : i64 c) (h1 : b ≤ a → a ≤ c → post 1) (h0 : ¬ (b ≤ a ∧ a ≤ c) → post 0) : wX0_isIn post (lI a) (lI b) (lI c) := by
  unfold wX0_isIn
  rw [lI_lt ha.1 ha.2 hb.1 hb.2, lI_lt hc.1 hc.2 ha.1 ha.2]
  exact ⟨fun h => h0 (by omega), fun h => ⟨fun h2 => h0 (by omega), fun h2 => h1 (by omega) (by omega)⟩⟩
theorem c_isSlot {post : Int32 → Prop} {a : Int} (ha : i32 a) (h1 : 0 ≤ a → a ≤ 3 → post 1) (h0 : ¬ (0 ≤ a ∧ a ≤ 3) → post 0) : wX0_isSlot post (iI a) := by
  unfold wX0_isSlot
  rw [iI_l ha.1 ha.2]
  exact c_isIn (b := 0) (c := 3) (by omega) (by omega) (by omega) (fun a b => ⟨isB_1, h1 a b⟩) (fun a => ⟨isB_0, h0 a⟩)
theorem c_isNumber {post : Int32 → Prop} {a : Int} (ha : i32 a) (h1 : -3000 ≤ a → a ≤ 3000 → post 1) (h0 : ¬ (-3000 ≤ a ∧ a ≤ 3000) → post 0) : wX0_isNumber post (iI a) := by
  unfold wX0_isNumber
  rw [iI_l ha.1 ha.2]
  show wX0_isIn (fun r1 => isB r1 ∧ post r1) (lI a) (lI (-3000)) (lI 3000)
  exact c_isIn (b := -3000) (c := 3000) (by omega) (by omega) (by omega) (fun a b => ⟨isB_1, h1 a b⟩) (fun a => ⟨isB_0, h0 a⟩)
theorem c_isModulus {post : Int32 → Prop} {a : Int} (ha : i32 a) (h1 : 1 ≤ a → a ≤ 60 → post 1) (h0 : ¬ (1 ≤ a ∧ a ≤ 60) → post 0) : wX0_isModulus post (iI a) := by
  unfold wX0_isModulus
  rw [iI_l ha.1 ha.2]
  exact c_isIn (b := 1) (c := 60) (by omega) (by omega) (by omega) (fun a b => ⟨isB_1, h1 a b⟩) (fun a => ⟨isB_0, h0 a⟩)
theorem c_isSpan {post : Int32 → Prop} {a b : Int} (ha : i32 a) (hb : i32 b) (h1 : -3000 ≤ a → a ≤ b → b ≤ 3000 → post 1) (h0 : ¬ (-3000 ≤ a ∧ a ≤ b ∧ b ≤ 3000) → post 0) : wX0_isSpan post (iI a) (iI b) := by
  unfold wX0_isSpan
  refine c_isNumber ha (fun a0 a3 => b_f (by decide) ?_) (fun c => b_t rfl (h0 (by omega)))
  refine c_isNumber hb (fun b0 b3 => b_f (by decide) ?_) (fun c => b_t rfl (h0 (by omega)))
  rw [iI_lt (by omega) (by omega) (by omega) (by omega)]
  exact ⟨fun c => h0 (by omega), fun c => h1 (by omega) (by omega) (by omega)⟩
theorem kVal_eq {k x : Int} (hk : 0 ≤ k ∧ k ≤ 4) (h1 : -20000 ≤ x) (h2 : x ≤ 20000) : kVal k.toNat (lI x) = lI (kV k x) := by
  rcases (show k = 0 ∨ k = 1 ∨ k = 2 ∨ k = 3 ∨ k = 4 by omega) with e | e | e | e | e <;> subst e
  · rfl
  · exact lI_mul x x
  · show lI x * lI x * lI x = _
    rw [lI_mul, lI_mul]; rfl
  · show lI x * lI x * lI x * lI x = _
    rw [lI_mul, lI_mul, lI_mul]; rfl
  · show lI x * (lI x + lI 1) / lI 2 = _
    have b2 := abs_mul_le h1 h2 (show -20001 ≤ x + 1 by omega) (show x + 1 ≤ 20001 by omega)
    rw [lI_add, lI_mul, lI_half (x_x1_nn x) (by omega)]; rfl
section
variable {K : Nat → Nat → Nat} {a : Nat → Nat} {S : CS} {N : NM}
theorem c_value {post : Int64 → NM → Prop} {y : Nat} {t : tm} {x : Int} (ht : vT t) (hy : N y = some (oTm K t)) (h1 : -20000 ≤ x) (h2 : x ≤ 20000) (h : post (lI (tv t x)) N) : wX4_value K post N y (lI x) := by
  unfold wX4_value
  have b1 := ht.1
  have b2 := ht.2.1
  have b3 := ht.2.2.1
  have b4 := ht.2.2.2.1
  refine ⟨_, _, _, _, hy, _, rfl, t.2.1.toNat, by omega, rfl, ?_⟩
  rw [kVal_eq ⟨b3, b4⟩ h1 h2, iI_l (by omega) (by omega), lI_mul]
  exact h
theorem c_many0 {post : Int32 → NM → Prop} {q : Nat} {ts : List tm} (hF : cF K N q ts) (h : post (iI (ts.length : Nat)) N) : wX6_many K post N q := by
  obtain ⟨y, f, h1, h2, -⟩ := hF
  exact ⟨_, h1, _, rfl, _, _, h2, h⟩
theorem c_fill_6 {post : Unit → NM → Prop} {q n : Nat} {v : Int64} {f0 : Nat → Int64} (hn : n < 2147483648) (h : ∀ g : Nat → Int64, (∀ j, j < n → g j = v) → post () (va_up N q (some (eL 1 n g)))) : ∀ (m j : Nat) (g : Nat → Int64), j + m = n → (∀ i, i < j → g i = v) → wJ15_fill_6 K post (m + 1) q v (iI (j : Nat)) (iI (n : Nat)) (va_up N q (some (eL 1 n g))) := by
  intro m
  induction m with
  | zero =>
    intro j g hj h1
    unfold wJ15_fill_6
    exact b_t (by simp (disch := omega) only [iLit, lLit, iI_add, iI_sub, iI_mul, iI_neg, lI_add, lI_sub, lI_mul, lI_neg, nI_i, lI_i, iI_l, iI_nat, iI_lt, iI_le, iI_eq, lI_lt, lI_le, lI_eq] <;> omega) (h g (fun i hi => h1 i (by omega)))
  | succ m ih =>
    intro j g hj h1
    unfold wJ15_fill_6
    refine b_f (by simp (disch := omega) only [iLit, lLit, iI_add, iI_sub, iI_mul, iI_neg, lI_add, lI_sub, lI_mul, lI_neg, nI_i, lI_i, iI_l, iI_nat, iI_lt, iI_le, iI_eq, lI_lt, lI_le, lI_eq] <;> omega) ⟨n, g, up_eq _ _ _, iI_in (by omega) (by omega) (by omega), fun N8 e => ?_⟩
    subst e
    rw [nat_i (by omega), show iI (j : Int) + 1 = iI ((j + 1 : Nat) : Int) from iI_add j 1]
    have e2 : va_up (va_up N q (some (eL 1 n g))) q (some (eL 1 n (vp_updL g j v))) = va_up N q (some (eL 1 n (vp_updL g j v))) := by
      funext z
      unfold va_up
      split <;> rfl
    rw [e2]
    refine ih (j + 1) _ (by omega) (fun i hi => ?_)
    by_cases e : i = j
    · rw [e, updL_eq]
    · rw [updL_ne _ _ _ e]; exact h1 i (by omega)
theorem up_self {N : NM} {q : Nat} {e : NE} (h : N q = some e) : va_up N q (some e) = N := by
  funext z
  unfold va_up
  split
  · rename_i e; rw [e, h]
  · rfl
theorem up_up (N : NM) (q : Nat) (e e' : Option NE) : va_up (va_up N q e) q e' = va_up N q e' := by
  funext z
  unfold va_up
  split <;> rfl
theorem c_fill {post : Unit → NM → Prop} {q n : Nat} {v : Int64} {f0 : Nat → Int64} (hq : N q = some (eL 1 n f0)) (hn : n < 2147483648) (h : ∀ g : Nat → Int64, (∀ j, j < n → g j = v) → post () (va_up N q (some (eL 1 n g)))) : wJ15_fill K post N q v := by
  refine ⟨n, f0, hq, n + 1, ?_⟩
  have := c_fill_6 (K := K) (f0 := f0) hn h n 0 f0 (by omega) (fun i hi => by omega)
  rw [up_self hq] at this
  exact this
/-- a row of ways -/
def rowL (f : Nat → Int64) (w : Int → Int) : Prop := ∀ s : Int, 0 ≤ s → s ≤ 30000 → f s.toNat = lI (w s)
theorem c_adds_6 {post : Unit → NM → Prop} {i j : Nat} {e : Int} {u w : Int → Int} (hL : cL K a S N) (hi : i < 12) (hj : j < 12) (hij : i ≠ j) (he : -20000 ≤ e ∧ e ≤ 20000) (hw : rowL (S.2.2.2.1 j) w) (hz : sup w) (h : ∀ g, rowL g (fun s => u s + w (s - e)) → post () (va_up N (a (10 + i)) (some (eL 1 30001 g)))) : ∀ (m : Nat) (s : Int) (g : Nat → Int64), s + m = 30001 → 0 ≤ s → e ≤ s → (∀ z : Int, 0 ≤ z → z < s → z ≤ 30000 → g z.toNat = lI (u z + w (z - e))) → (∀ z : Int, s ≤ z → 0 ≤ z → z ≤ 30000 → g z.toNat = lI (u z)) → wX0_adds_6 K post (m + 1) (a (10 + i)) (a (10 + j)) (iI e) (iI s) (va_up N (a (10 + i)) (some (eL 1 30001 g))) := by
  have hne : a (10 + j) ≠ a (10 + i) := hL.inj (by omega) (by omega) (by omega)
  intro m
  induction m with
  | zero =>
    intro s g hs h0 hes h1 h2
    unfold wX0_adds_6
    exact b_t (by simp (disch := omega) only [iLit, lLit, iI_add, iI_sub, iI_mul, iI_neg, lI_add, lI_sub, lI_mul, lI_neg, nI_i, lI_i, iI_l, iI_nat, iI_lt, iI_le, iI_eq, lI_lt, lI_le, lI_eq] <;> omega) (h g (fun z z1 z2 => h1 z z1 (by omega) z2))
  | succ m ih =>
    intro s g hs h0 hes h1 h2
    unfold wX0_adds_6
    refine b_f (by simp (disch := omega) only [iLit, lLit, iI_add, iI_sub, iI_mul, iI_neg, lI_add, lI_sub, lI_mul, lI_neg, nI_i, lI_i, iI_l, iI_nat, iI_lt, iI_le, iI_eq, lI_lt, lI_le, lI_eq] <;> omega) ?_
    rw [iI_sub, show (30001 : Int32) = iI 30001 from rfl, iI_le (by omega) (by omega) (by omega) (by omega)]
    refine ⟨fun q => ?_, fun q => ?_⟩
    · refine h g (fun z z1 z2 => ?_)
      by_cases c : z < s
      · exact h1 z z1 c z2
      · rw [h2 z (by omega) z1 z2]
        show _ = lI (u z + w (z - e))
        rw [hz (z - e) (by omega), Int.add_zero]
    · refine ⟨30001, g, up_eq _ _ _, iI_in (by omega) (by omega) (by omega), 30001, S.2.2.2.1 j, by rw [up_ne _ _ _ hne]; exact hL.row hj, iI_in (by omega) (by omega) (by omega), iI_in (by omega) (by omega) (by omega), fun N10 eN => ?_⟩
      subst eN
      rw [up_up, iI_nat (by omega) (by omega), iI_nat (by omega) (by omega), h2 s (by omega) h0 (by omega), hw (s - e) (by omega) (by omega), lI_add, show iI s + (1 : Int32) = iI (s + 1) from iI_add s 1]
      refine ih (s + 1) _ (by omega) (by omega) (by omega) (fun z z1 z2 z3 => ?_) (fun z z1 z2 z3 => ?_)
      · by_cases c : z = s
        · rw [c, updL_eq]
        · rw [updL_ne _ _ _ (by omega)]; exact h1 z z1 (by omega) z3
      · rw [updL_ne _ _ _ (by omega)]; exact h2 z (by omega) z2 z3
theorem c_adds {post : Unit → NM → Prop} {i j : Nat} {e : Int} {u w : Int → Int} (hL : cL K a S N) (hi : i < 12) (hj : j < 12) (hij : i ≠ j) (he : -20000 ≤ e ∧ e ≤ 20000) (hu : rowL (S.2.2.2.1 i) u) (hw : rowL (S.2.2.2.1 j) w) (hz : sup w) (h : ∀ N' g, cL K a (cG S i g) N' → kp a N N' → rowL g (fun s => u s + w (s - e)) → post () N') : wX0_adds K post N (a (10 + i)) (a (10 + j)) (iI e) := by
  have h' : ∀ g, rowL g (fun s => u s + w (s - e)) → post () (va_up N (a (10 + i)) (some (eL 1 30001 g))) := fun g hg => h _ g (hL.setRow hi g) ((kp.refl a N).at (by omega) _) hg
  have hrow := hL.row hi
  unfold wX0_adds wJ14_max
  rw [show (0 : Int32) = iI 0 from rfl, iI_lt (by omega) (by omega) (by omega) (by omega)]
  refine ⟨fun q => ⟨(30001 - e).toNat + 1, ?_⟩, fun q => ⟨30002, ?_⟩⟩
  · have := c_adds_6 hL hi hj hij he hw hz h' (30001 - e).toNat e (S.2.2.2.1 i) (by omega) (by omega) (by omega) (fun z z1 z2 z3 => ?_) (fun z z1 z2 z3 => hu z z2 z3)
    · rw [up_self hrow] at this; exact this
    · rw [hu z z1 z3, hz (z - e) (by omega), Int.add_zero]
  · have := c_adds_6 hL hi hj hij he hw hz h' 30001 0 (S.2.2.2.1 i) (by omega) (by omega) (by omega) (fun z z1 z2 z3 => by omega) (fun z z1 z2 z3 => hu z z2 z3)
    rw [up_self hrow] at this
    exact this
/-- the slots' forms -/
def cSlots (K : Nat → Nat → Nat) (S : CS) (N : NM) (F : Nat → List tm) : Prop := ∀ s, s < 4 → vF (F s) ∧ ((S.2.1 s = none ∧ F s = []) ∨ ∃ q, S.2.1 s = some q ∧ cF K N q (F s))
theorem cSlots.kp {F : Nat → List tm} (hL : cL K a S N) (h : cSlots K S N F) {N' : NM} {S' : CS} (hk : kp a N N') (hS : S'.2.1 = S.2.1) : cSlots K S' N' F := fun s hs => by
  obtain ⟨h1, h2⟩ := h s hs
  refine ⟨h1, ?_⟩
  rw [hS]
  rcases h2 with h2 | ⟨q, h2, h3⟩
  · exact Or.inl h2
  · exact Or.inr ⟨q, h2, h3.kp hL hk⟩
/-- a slot's form that has terms -/
theorem c_at {post : Option Nat → NM → Prop} {MC MS : Nat} {F : Nat → List tm} {z : Int} (hL : cL K a S N) (hF : cSlots K S N F) (hz : i32 z) (hMC : 3 ≤ MC) (hMS : 210 ≤ MS) (h0 : ¬ (0 ≤ z ∧ z ≤ 3 ∧ F z.toNat ≠ []) → post none N) (h1 : ∀ (s q : Nat), s < 4 → z = s → F s ≠ [] → S.2.1 s = some q → cF K N q (F s) → vF (F s) → post (some q) N) : wX0_at K post MC MS N (a 0) (iI z) := by
  refine ⟨_, _, _, _, _, _, _, _, _, _, _, _, _, _, _, _, _, _, _, hL.obj, _, rfl, _, _, hL.slots, fun hin => ⟨fun hn => ⟨by omega, by omega, fun q => ?_⟩, fun q hq => ?_⟩, fun hout => ⟨by omega, hMC, hMS, fun q => h0 (fun c => hout (iI_in (by omega) (by omega) (by omega)))⟩⟩
  · refine h0 (fun c => ?_)
    rw [iI_nat (by omega) (by omega)] at hn
    rcases (hF z.toNat (by omega)).2 with e | ⟨q, e, -⟩
    · exact c.2.2 e.2
    · rw [hn] at e; cases e
  · have hz0 : 0 ≤ z ∧ z ≤ 3 := by
      refine Classical.byContradiction fun c => hin ?_
      by_cases c0 : z < 0
      · left
        rw [show (0 : Int32) = iI 0 from rfl, iI_lt (by omega) (by omega) (by omega) (by omega)]; exact c0
      · right
        rw [iI_nat (by omega) (by omega)]; omega
    have hq0 := hq
    rw [iI_nat (by omega) (by omega)] at hq
    obtain ⟨hv, hs⟩ := hF z.toNat (by omega)
    rcases hs with e | ⟨q', e, hf⟩
    · rw [e.1] at hq; cases hq
    · rw [e] at hq
      cases hq
      have hf2 := hf
      obtain ⟨y, f, f1, f2, -⟩ := hf2
      refine ⟨_, f1, c_many0 hf ?_⟩
      have h5 := hv.1
      rw [show (0 : Int32) = iI 0 from rfl, iI_le (by omega) (by omega) (by omega) (by omega)]
      refine ⟨fun c => h0 (fun d => d.2.2 (List.length_eq_zero_iff.mp (by omega))), fun c => ?_⟩
      refine ⟨_, _, _, _, _, _, _, _, _, _, _, _, _, _, _, _, _, _, _, hL.obj, _, rfl, _, _, hL.slots, fun _ => ?_, fun hout => absurd hin hout⟩
      rw [hq0]
      exact h1 z.toNat q (by omega) (by omega) (fun e => by rw [e] at c; simp at c) e hf hv
end
