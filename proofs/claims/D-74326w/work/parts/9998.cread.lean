set_option maxRecDepth 100000
set_option maxHeartbeats 4000000
/-! the component's reader: signs -/
abbrev rdr (a : Nat → Nat) (p : Nat) (b d : Int32) : NE := eO 2 [.int (iI (p : Nat)), .int b, .int d, va_rf (some (a 0))]
section
variable {K : Nat → Nat → Nat} {a : Nat → Nat}
theorem cTape.sg {S : CS} {T : Nat → Int} {n : Nat} (h : cTape S T n) (p : Nat) : -1 ≤ chr T n p ∧ chr T n p ≤ 255 := by
  unfold chr
  split
  · have := h.2.2 p (by assumption); omega
  · omega
theorem c_here {post : Int32 → NM → Prop} {S : CS} {N : NM} {T : Nat → Int} {n p x : Nat} {b d : Int32} (hL : cL K a S N) (hT : cTape S T n) (hx : N x = some (rdr a p b d)) (hp : p ≤ 2000) (h : post (iI (chr T n p)) N) : wX2_here K post N x := by
  obtain ⟨t1, t2, t3⟩ := hT
  unfold wX2_here
  refine ⟨_, _, _, _, hx, _, rfl, _, _, _, _, _, _, _, _, _, _, _, _, _, _, _, _, _, _, _, hL.obj, ?_⟩
  rw [t2, iI_le (by omega) (by omega) (by omega) (by omega)]
  unfold chr at h
  refine ⟨fun c => ?_, fun c => ⟨_, rfl, _, _, hL.tape, iI_in (by omega) (by omega) (by omega), ?_⟩⟩
  · rw [if_neg (by omega)] at h; exact h
  · rw [if_pos (by omega)] at h
    have := t3 p (by omega)
    rw [nat_i (by omega), this.1, sgB_255 this.2]
    exact h
theorem c_isDigit {post : Int32 → NM → Prop} {S : CS} {N : NM} {T : Nat → Int} {n p x : Nat} {b d : Int32} (hL : cL K a S N) (hT : cTape S T n) (hx : N x = some (rdr a p b d)) (hp : p ≤ 2000) (h1 : isD (chr T n p) = true → post 1 N) (h0 : isD (chr T n p) = false → post 0 N) : wX2_isDigit K post N x := by
  unfold wX2_isDigit
  refine ⟨_, _, _, _, hx, c_here hL hT hx hp ?_⟩
  have hc := hT.sg p
  rw [iI_l (by omega) (by omega), show (48 : Int64) = lI 48 from rfl, show (57 : Int64) = lI 57 from rfl]
  refine c_isIn (by unfold i64; omega) (by unfold i64; omega) (by unfold i64; omega) (fun q1 q2 => ⟨Or.inr rfl, h1 ((isD_iff _).2 ⟨q1, q2⟩)⟩) (fun q => ⟨Or.inl rfl, h0 ?_⟩)
  rw [Bool.eq_false_iff]
  exact fun e => q ((isD_iff _).1 e)
theorem c_isOver {post : Int32 → NM → Prop} {S : CS} {N : NM} {T : Nat → Int} {n p x : Nat} {b d : Int32} (hL : cL K a S N) (hT : cTape S T n) (hx : N x = some (rdr a p b d)) (hp : p ≤ 2000) (h1 : n ≤ p → post 1 N) (h0 : p < n → post 0 N) : wX2_isOver K post N x := by
  unfold wX2_isOver
  refine ⟨_, _, _, _, hx, c_here hL hT hx hp ?_⟩
  have hc := hT.sg p
  rw [show (-1 : Int32) = iI (-1) from rfl, iI_eq (by omega) (by omega) (by omega) (by omega)]
  unfold chr
  by_cases c : p < n
  · have := hT.2.2 p c
    rw [if_pos c]
    exact b_f (by omega) (h0 c)
  · rw [if_neg c]
    exact b_t rfl (h1 (by omega))
/-- the reader's cell lies elsewhere -/
theorem cL.rd {S : CS} {N : NM} {x p : Nat} {b d : Int32} (hL : cL K a S N) (hx : N x = some (rdr a p b d)) (e : NE) : cL K a S (va_up N x (some e)) := hL.off (hL.out hx rfl) _
theorem c_skips {post : Unit → NM → Prop} {S : CS} {N : NM} {T : Nat → Int} {n p x : Nat} {b d : Int32} (hL : cL K a S N) (hT : cTape S T n) (hx : N x = some (rdr a p b d)) (hp : p ≤ n) (h : post () (va_up N x (some (rdr a (sk T n p) b d)))) : wX2_skips K post N x := by
  have ht := hT.1
  unfold wX2_skips
  have go : ∀ (m q : Nat), q + m = n → post () (va_up N x (some (rdr a (runE isW T n m q) b d))) → wX2_skips_0 K post (m + 1) x (va_up N x (some (rdr a q b d))) := by
    intro m
    induction m with
    | zero =>
      intro q hq h
      have hL' := hL.rd hx (rdr a q b d)
      have ec : chr T n q = -1 := by unfold chr; rw [if_neg (by omega)]
      unfold wX2_skips_0
      refine ⟨_, _, _, _, up_eq _ _ _, c_here hL' hT (up_eq _ _ _) (by omega) ?_⟩
      rw [ec]
      refine b_f (by decide) ⟨_, _, _, _, up_eq _ _ _, c_here hL' hT (up_eq _ _ _) (by omega) ?_⟩
      rw [ec]
      exact b_f (by decide) h
    | succ m ih =>
      intro q hq h
      have hL' := hL.rd hx (rdr a q b d)
      have hc := hT.sg q
      unfold runE at h
      have nx : isW (chr T n q) = true → wX2_skips_18 K (fun x0 N => wX2_skips_0 K post (m + 1) x0 N) post x (va_up N x (some (rdr a q b d))) := fun hw => by
        rw [if_pos hw] at h
        unfold wX2_skips_18
        refine ⟨_, _, _, _, up_eq _ _ _, fun N14 e14 => ?_⟩
        rw [up_up, show iI (q : Int) + 1 = iI ((q + 1 : Nat) : Int) by rw [show (1 : Int32) = iI 1 from rfl, iI_add]; rfl] at e14
        subst e14
        exact ih (q + 1) (by omega) h
      unfold wX2_skips_0
      refine ⟨_, _, _, _, up_eq _ _ _, c_here hL' hT (up_eq _ _ _) (by omega) ?_⟩
      rw [show (32 : Int32) = iI 32 from rfl, iI_eq (by omega) (by omega) (by omega) (by omega)]
      refine ⟨fun c => nx ((isW_iff _).2 (Or.inl c)), fun c => ⟨_, _, _, _, up_eq _ _ _, c_here hL' hT (up_eq _ _ _) (by omega) ?_⟩⟩
      rw [show (10 : Int32) = iI 10 from rfl, iI_eq (by omega) (by omega) (by omega) (by omega)]
      refine ⟨fun c2 => nx ((isW_iff _).2 (Or.inr c2)), fun c2 => ?_⟩
      rw [if_neg (fun e => by have := (isW_iff _).1 e; omega)] at h
      exact h
  refine ⟨n - p + 1, ?_⟩
  have := go (n - p) p (by omega) h
  rw [up_self hx] at this
  exact this
/-- a sign is passed, if it stands here -/
theorem c_passesS {post : Int32 → NM → Prop} {S : CS} {N : NM} {T : Nat → Int} {n p x : Nat} {b d : Int32} {c : Int} (hL : cL K a S N) (hT : cTape S T n) (hx : N x = some (rdr a p b d)) (hp : p ≤ n) (hc : 0 ≤ c ∧ c ≤ 255) (h1 : p < n → T p = c → post 1 (va_up N x (some (rdr a (sk T n (p + 1)) b d)))) (h0 : ¬ (p < n ∧ T p = c) → post 0 N) : wX2_passes_2 K post N x (iI c) := by
  have ht := hT.1
  unfold wX2_passes_2
  refine ⟨_, _, _, _, hx, c_here hL hT hx (by omega) ?_⟩
  have hcc := hT.sg p
  rw [iI_eq (by omega) (by omega) (by omega) (by omega)]
  refine ⟨fun e => ?_, fun e => h0 (fun q => e ?_)⟩
  · unfold chr at e
    by_cases c1 : p < n
    · rw [if_pos c1] at e
      refine ⟨_, _, _, _, hx, fun N14 e14 => ?_⟩
      rw [show iI (p : Int) + 1 = iI ((p + 1 : Nat) : Int) by rw [show (1 : Int32) = iI 1 from rfl, iI_add]; rfl] at e14
      subst e14
      refine c_skips (hL.rd hx _) hT (up_eq _ _ _) (by omega) ?_
      rw [up_up]
      exact h1 c1 e
    · rw [if_neg c1] at e; omega
  · unfold chr; rw [if_pos q.1]; exact q.2
end
