set_option maxRecDepth 100000
set_option maxHeartbeats 4000000
/-! the component's looks that rest on ways -/
section
variable {K : Nat → Nat → Nat} {a : Nat → Nat}
/-- what a look that lays ways leaves -/
def cW (K : Nat → Nat → Nat) (a : Nat → Nat) (S : CS) (N : NM) (S' : CS) (N' : NM) : Prop := cL K a S' N' ∧ kp a N N' ∧ lyEq S S' ∧ cLaid K S' N'
theorem cW.start {S : CS} {N : NM} (hL : cL K a S N) (hc : cLaid K S N) : cW K a S N S N := ⟨hL, kp.refl a N, lyEq.refl S, hc⟩
theorem cW.trans {S S1 S2 : CS} {N N1 N2 : NM} (h : cW K a S N S1 N1) (g : cW K a S1 N1 S2 N2) : cW K a S N S2 N2 := ⟨g.1, h.2.1.trans g.2.1, h.2.2.1.trans g.2.2.1, g.2.2.2⟩
theorem c_wy {post : Int64 → NM → Prop} {S0 S : CS} {N0 N : NM} {q : Nat} {ts : List tm} {n : Int} (hK : kOk K) (hv : vF ts) (hL0 : cL K a S0 N0) (hF : cF K N0 q ts) (hI : cW K a S0 N0 S N) (hn : -3000 ≤ n ∧ n ≤ 3000)
    (h : ∀ r S' N', r = Wy ts n → 0 ≤ r → r < 9223372036854775808 → cW K a S0 N0 S' N' → post (lI r) N') : wX0_waysOf K post N (a 0) (some q) (iI n) :=
  c_waysOf hK hI.1 (hF.kp hL0 hI.2.1) hv hI.2.2.2 hn (fun S' N' l k e h5 hr => h _ S' N' rfl (Wy_nn _ _) (Wy_lt hv _) ⟨l, hI.2.1.trans k, hI.2.2.1.trans e, Or.inr ⟨q, ts, h5, hF.kp hL0 (hI.2.1.trans k), hv, hr⟩⟩)
theorem c_ways {post : Int64 → NM → Prop} {MC MS : Nat} {S : CS} {N : NM} {F : Nat → List tm} {z n : Int} (hK : kOk K) (hL : cL K a S N) (hF : cSlots K S N F) (hc : cLaid K S N) (hz : i32 z) (hn : i32 n) (hMC : 3 ≤ MC) (hMS : 210 ≤ MS) (h0 : ¬ (0 ≤ z ∧ z ≤ 3 ∧ F z.toNat ≠ [] ∧ -3000 ≤ n ∧ n ≤ 3000) → post (lI (-1)) N) (h1 : ∀ (s : Nat) S' N', s < 4 → z = s → F s ≠ [] → -3000 ≤ n → n ≤ 3000 → cW K a S N S' N' → post (lI (Wy (F s) n)) N') : wX0_ways K post MC MS N (a 0) (iI z) (iI n) := by
  unfold wX0_ways
  refine ⟨_, _, _, _, _, _, _, _, _, _, _, _, _, _, _, _, _, _, _, hL.obj, 3, 210, hMC, hMS, c_at hL hF hz (by omega) (by omega) (fun hq => ⟨fun _ => h0 (fun w => hq ⟨w.1, w.2.1, w.2.2.1⟩), fun _ e => by cases e⟩) (fun s q hs e hne hq hf hv => ⟨fun e => (by cases e), fun _ ea => ?_⟩)⟩
  refine c_isNumber hn (fun n1 n2 => b_f (by decide) ⟨_, _, _, _, _, _, _, _, _, _, _, _, _, _, _, _, _, _, _, hL.obj, ?_⟩) (fun hc => b_t rfl (h0 (fun w => hc w.2.2.2)))
  exact c_wy hK hv hL hf (cW.start hL hc) ⟨n1, n2⟩ (fun r S' N' er _ _ hI => by rw [er]; exact h1 s S' N' hs e hne n1 n2 hI)
theorem c_missed_30 {post : Int32 → NM → Prop} {S0 : CS} {N0 : NM} {q : Nat} {ts : List tm} {i b : Int} {mc ms : Nat} (hK : kOk K) (hv : vF ts) (hL0 : cL K a S0 N0) (hF : cF K N0 q ts) (hi : i32 i) (hb : -3000 ≤ b ∧ b ≤ 3000) : ∀ (m : Nat) (c k : Int) (S : CS) (N : NM), k + m = b + 1 → -3000 ≤ k → 0 ≤ c → c + m ≤ 100000 → cW K a S0 N0 S N → (∀ S' N', cW K a S0 N0 S' N' → post (iI (missR (Wy ts) i m c k)) N') → wX0_missed_30 K post (m + 1) (a 0) (iI b) (iI i) (some q) (iI c) (iI k) mc ms N := by
  intro m
  induction m with
  | zero =>
    intro c k S N hk hk0 hc hm hI h
    unfold wX0_missed_30
    refine b_t (by simp (disch := omega) only [iLit, lLit, iI_add, iI_sub, iI_mul, iI_neg, lI_add, lI_sub, lI_mul, lI_neg, nI_i, lI_i, iI_l, iI_nat, iI_lt, iI_le, iI_eq, lI_lt, lI_le, lI_eq] <;> omega) ?_
    simp (disch := omega) only [iLit, lLit, iI_add, iI_sub, iI_mul, iI_neg, lI_add, lI_sub, lI_mul, lI_neg, nI_i, lI_i, iI_eq]
    have h := h S N hI
    unfold missR at h
    exact ⟨fun e => by rw [if_pos e] at h; exact h, fun e => by rw [if_neg e] at h; exact h⟩
  | succ m ih =>
    intro c k S N hk hk0 hc hm hI h
    unfold wX0_missed_30
    refine b_f (by simp (disch := omega) only [iLit, lLit, iI_add, iI_sub, iI_mul, iI_neg, lI_add, lI_sub, lI_mul, lI_neg, nI_i, lI_i, iI_l, iI_nat, iI_lt, iI_le, iI_eq, lI_lt, lI_le, lI_eq] <;> omega) ⟨_, _, _, _, _, _, _, _, _, _, _, _, _, _, _, _, _, _, _, hI.1.obj, c_wy hK hv hL0 hF hI (by omega) (fun r S' N' er r0 r1 hI' => ?_)⟩
    unfold missR at h
    rw [← er] at h
    unfold wX0_missed_65
    simp (disch := omega) only [iLit, lLit, iI_add, iI_sub, iI_mul, iI_neg, lI_add, lI_sub, lI_mul, lI_neg, nI_i, lI_i, iI_eq, lI_le]
    refine ⟨fun e => ?_, fun e => ?_⟩
    · rw [if_pos e] at h
      refine ⟨fun e2 => ?_, fun e2 => ?_⟩
      · rw [if_pos e2] at h; exact h S' N' hI'
      · rw [if_neg e2] at h
        exact ih (c + 1) (k + 1) S' N' (by omega) (by omega) (by omega) (by omega) hI' h
    · rw [if_neg e] at h
      exact ih c (k + 1) S' N' (by omega) (by omega) (by omega) (by omega) hI' h
theorem c_missed {post : Int32 → NM → Prop} {MC MS : Nat} {S : CS} {N : NM} {F : Nat → List tm} {z x y i : Int} (hK : kOk K) (hL : cL K a S N) (hF : cSlots K S N F) (hc : cLaid K S N) (hz : i32 z) (hx : i32 x) (hy : i32 y) (hi : i32 i) (hMC : 3 ≤ MC) (hMS : 210 ≤ MS) (h0 : ¬ (0 ≤ z ∧ z ≤ 3 ∧ F z.toNat ≠ [] ∧ -3000 ≤ x ∧ x ≤ y ∧ y ≤ 3000) → post (iI (-100000)) N) (h1 : ∀ (s : Nat) S' N', s < 4 → z = s → F s ≠ [] → -3000 ≤ x → x ≤ y → y ≤ 3000 → cW K a S N S' N' → post (iI (missR (Wy (F s)) i (y - x + 1).toNat 0 x)) N') : wX0_missed K post MC MS N (a 0) (iI z) (iI x) (iI y) (iI i) := by
  unfold wX0_missed
  refine ⟨_, _, _, _, _, _, _, _, _, _, _, _, _, _, _, _, _, _, _, hL.obj, 3, 210, hMC, hMS, c_at hL hF hz (by omega) (by omega) (fun hq => ⟨fun _ => h0 (fun w => hq ⟨w.1, w.2.1, w.2.2.1⟩), fun _ e => by cases e⟩) (fun s q hs e hne hq hf hv => ⟨fun e => (by cases e), fun _ ea => ?_⟩)⟩
  refine c_isSpan hx hy (fun n1 n2 n3 => b_f (by decide) ⟨(y - x + 1).toNat + 1, ?_⟩) (fun hc => b_t rfl (h0 (fun w => hc w.2.2.2)))
  exact c_missed_30 hK hv hL hf hi (by omega) _ 0 x S N (by omega) n1 (by omega) (by omega) (cW.start hL hc) (fun S' N' hI => h1 s S' N' hs e hne n1 n2 n3 hI)
theorem c_full_29 {post : Int32 → NM → Prop} {S0 : CS} {N0 : NM} {q : Nat} {ts : List tm} {mc ms : Nat} (hK : kOk K) (hv : vF ts) (hL0 : cL K a S0 N0) (hF : cF K N0 q ts) : ∀ (m : Nat) (S : CS) (N : NM), m ≤ 3000 → cW K a S0 N0 S N → (∀ S' N', cW K a S0 N0 S' N' → post (iI (fullR (Wy ts) m)) N') → wX0_full_29 K post (m + 1) (a 0) (some q) (iI m) mc ms N := by
  intro m
  induction m with
  | zero =>
    intro S N hm hI h
    unfold wX0_full_29
    exact b_t (by simp (disch := omega) only [iLit, lLit, iI_add, iI_sub, iI_mul, iI_neg, lI_add, lI_sub, lI_mul, lI_neg, nI_i, lI_i, iI_l, iI_nat, iI_lt, iI_le, iI_eq, lI_lt, lI_le, lI_eq] <;> omega) (h S N hI)
  | succ m ih =>
    intro S N hm hI h
    unfold wX0_full_29
    refine b_f (by simp (disch := omega) only [iLit, lLit, iI_add, iI_sub, iI_mul, iI_neg, lI_add, lI_sub, lI_mul, lI_neg, nI_i, lI_i, iI_l, iI_nat, iI_lt, iI_le, iI_eq, lI_lt, lI_le, lI_eq] <;> omega) ⟨_, _, _, _, _, _, _, _, _, _, _, _, _, _, _, _, _, _, _, hI.1.obj, ?_⟩
    simp (disch := omega) only [iLit, lLit, iI_add, iI_sub, iI_mul, iI_neg, lI_add, lI_sub, lI_mul, lI_neg, nI_i, lI_i]
    rw [show ((m + 1 : Nat) : Int) - 1 = (m : Int) by omega, show ((m + 1 : Nat) : Int) + -1 = (m : Int) by omega]
    refine c_wy hK hv hL0 hF hI (by omega) (fun r S' N' er r0 r1 hI' => ?_)
    unfold fullR at h
    rw [← er] at h
    simp (disch := omega) only [iLit, lLit, iI_add, iI_sub, iI_mul, iI_neg, lI_add, lI_sub, lI_mul, lI_neg, nI_i, lI_i, lI_le]
    exact ⟨fun e => by rw [if_pos e] at h; exact h S' N' hI', fun e => by rw [if_neg e] at h; exact ih S' N' (by omega) hI' h⟩
theorem c_full {post : Int32 → NM → Prop} {MC MS : Nat} {S : CS} {N : NM} {F : Nat → List tm} {z : Int} (hK : kOk K) (hL : cL K a S N) (hF : cSlots K S N F) (hc : cLaid K S N) (hz : i32 z) (hMC : 3 ≤ MC) (hMS : 210 ≤ MS) (h0 : ¬ (0 ≤ z ∧ z ≤ 3 ∧ F z.toNat ≠ []) → post (iI (-1)) N) (h1 : ∀ (s : Nat) S' N', s < 4 → z = s → F s ≠ [] → cW K a S N S' N' → post (iI (fullS (Wy (F s)))) N') : wX0_full K post MC MS N (a 0) (iI z) := by
  unfold wX0_full
  refine ⟨_, _, _, _, _, _, _, _, _, _, _, _, _, _, _, _, _, _, _, hL.obj, 3, 210, hMC, hMS, c_at hL hF hz (by omega) (by omega) (fun hq => ⟨fun _ => h0 hq, fun _ e => by cases e⟩) (fun s q hs e hne hq hf hv => ⟨fun e => (by cases e), fun _ ea => ⟨_, _, _, _, _, _, _, _, _, _, _, _, _, _, _, _, _, _, _, hL.obj, ?_⟩⟩)⟩
  refine c_wy (n := 3000) hK hv hL hf (cW.start hL hc) (by omega) (fun r S' N' er r0 r1 hI => ?_)
  have h := h1 s
  unfold fullS at h
  rw [← er] at h
  simp (disch := omega) only [iLit, lLit, iI_add, iI_sub, iI_mul, iI_neg, lI_add, lI_sub, lI_mul, lI_neg, nI_i, lI_i, lI_eq]
  exact ⟨fun e2 => by rw [if_pos e2] at h; exact h S' N' hs e hne hI, fun e2 => by rw [if_neg e2] at h; exact ⟨3001, c_full_29 hK hv hL hf 3000 S' N' (by omega) hI (fun S'' N'' hI'' => h S'' N'' hs e hne hI'')⟩⟩
theorem c_gap_76 {K49 : Nat → Int32 → Int32 → Option Nat → Int32 → Int32 → Int32 → Int32 → Nat → Nat → NM → Prop} {post : Int32 → NM → Prop} {N : NM} {x0 mc ms : Nat} {x3 x4 : Int32} {x5 : Option Nat} {best begin row k : Int} (hb : -100000 ≤ best ∧ best ≤ 100000) (hr : -100000 ≤ row ∧ row ≤ 100000) (h : if best < row then K49 x0 x3 x4 x5 (iI row) (iI (k - row + 1)) (iI row) (iI (k + 1)) mc ms N else K49 x0 x3 x4 x5 (iI best) (iI begin) (iI row) (iI (k + 1)) mc ms N) : wX0_gap_76 K K49 post x0 x3 x4 x5 (iI best) (iI begin) (iI k) (iI row) mc ms N := by
  unfold wX0_gap_76 wX0_gap_101
  simp (disch := omega) only [iLit, lLit, iI_add, iI_sub, iI_mul, iI_neg, lI_add, lI_sub, lI_mul, lI_neg, nI_i, lI_i, iI_lt]
  exact ⟨fun e => by rw [if_pos e] at h; exact h, fun e => by rw [if_neg e] at h; exact h⟩
theorem c_gap_49 {post : Int32 → NM → Prop} {S0 : CS} {N0 : NM} {q : Nat} {ts : List tm} {b w : Int} {mc ms : Nat} (hK : kOk K) (hv : vF ts) (hL0 : cL K a S0 N0) (hF : cF K N0 q ts) (hw : i32 w) (hb : -3000 ≤ b ∧ b ≤ 3000) : ∀ (m : Nat) (best begin row k : Int) (S : CS) (N : NM), k + m = b + 1 → -3000 ≤ k → 0 ≤ best → 0 ≤ row → best + m ≤ 90000 → row + m ≤ 90000 → cW K a S0 N0 S N → (∀ S' N', cW K a S0 N0 S' N' → post (iI (if w = 0 then (gapR (Wy ts) m best begin row k).1 else (gapR (Wy ts) m best begin row k).2)) N') → wX0_gap_49 K post (m + 1) (a 0) (iI b) (iI w) (some q) (iI best) (iI begin) (iI row) (iI k) mc ms N := by
  intro m
  induction m with
  | zero =>
    intro best begin row k S N hk hk0 h1 h2 h3 h4 hI h
    unfold wX0_gap_49
    refine b_t (by simp (disch := omega) only [iLit, lLit, iI_add, iI_sub, iI_mul, iI_neg, lI_add, lI_sub, lI_mul, lI_neg, nI_i, lI_i, iI_l, iI_nat, iI_lt, iI_le, iI_eq, lI_lt, lI_le, lI_eq] <;> omega) ?_
    simp (disch := omega) only [iLit, lLit, iI_add, iI_sub, iI_mul, iI_neg, lI_add, lI_sub, lI_mul, lI_neg, nI_i, lI_i, iI_eq]
    have h := h S N hI
    exact ⟨fun e => by rw [if_pos e] at h; exact h, fun e => by rw [if_neg e] at h; exact h⟩
  | succ m ih =>
    intro best begin row k S N hk hk0 h1 h2 h3 h4 hI h
    unfold wX0_gap_49
    refine b_f (by simp (disch := omega) only [iLit, lLit, iI_add, iI_sub, iI_mul, iI_neg, lI_add, lI_sub, lI_mul, lI_neg, nI_i, lI_i, iI_l, iI_nat, iI_lt, iI_le, iI_eq, lI_lt, lI_le, lI_eq] <;> omega) ⟨_, _, _, _, _, _, _, _, _, _, _, _, _, _, _, _, _, _, _, hI.1.obj, c_wy hK hv hL0 hF hI (by omega) (fun r S' N' er r0 r1 hI' => ?_)⟩
    unfold gapR at h
    rw [← er] at h
    simp (disch := omega) only [iLit, lLit, iI_add, iI_sub, iI_mul, iI_neg, lI_add, lI_sub, lI_mul, lI_neg, nI_i, lI_i, lI_eq]
    refine ⟨fun e => ?_, fun e => ?_⟩
    · refine c_gap_76 (by omega) (by omega) ?_
      simp only [if_pos (show r ≤ 0 by omega)] at h
      split
      · rename_i e2
        simp only [if_pos e2] at h
        exact ih _ _ _ _ S' N' (by omega) (by omega) (by omega) (by omega) (by omega) (by omega) hI' h
      · rename_i e2
        simp only [if_neg e2] at h
        exact ih _ _ _ _ S' N' (by omega) (by omega) (by omega) (by omega) (by omega) (by omega) hI' h
    · refine c_gap_76 (row := 0) (by omega) (by omega) ?_
      simp only [if_neg (show ¬ r ≤ 0 by omega)] at h
      split
      · rename_i e2
        simp only [if_pos e2] at h
        exact ih _ _ _ _ S' N' (by omega) (by omega) (by omega) (by omega) (by omega) (by omega) hI' h
      · rename_i e2
        simp only [if_neg e2] at h
        exact ih _ _ _ _ S' N' (by omega) (by omega) (by omega) (by omega) (by omega) (by omega) hI' h
theorem c_gap {post : Int32 → NM → Prop} {MC MS : Nat} {S : CS} {N : NM} {F : Nat → List tm} {z x y w : Int} (hK : kOk K) (hL : cL K a S N) (hF : cSlots K S N F) (hc : cLaid K S N) (hz : i32 z) (hx : i32 x) (hy : i32 y) (hw : i32 w) (hMC : 3 ≤ MC) (hMS : 210 ≤ MS) (h0 : ¬ (0 ≤ z ∧ z ≤ 3 ∧ F z.toNat ≠ [] ∧ -3000 ≤ x ∧ x ≤ y ∧ y ≤ 3000 ∧ 0 ≤ w ∧ w ≤ 1) → post (iI (-100000)) N) (h1 : ∀ (s : Nat) S' N', s < 4 → z = s → F s ≠ [] → -3000 ≤ x → x ≤ y → y ≤ 3000 → 0 ≤ w → w ≤ 1 → cW K a S N S' N' → post (iI (gapS (Wy (F s)) x y w)) N') : wX0_gap K post MC MS N (a 0) (iI z) (iI x) (iI y) (iI w) := by
  unfold wX0_gap
  refine ⟨_, _, _, _, _, _, _, _, _, _, _, _, _, _, _, _, _, _, _, hL.obj, 3, 210, hMC, hMS, c_at hL hF hz (by omega) (by omega) (fun hq => ⟨fun _ => h0 (fun w => hq ⟨w.1, w.2.1, w.2.2.1⟩), fun _ e => by cases e⟩) (fun s q hs e hne hq hf hv => ⟨fun e => (by cases e), fun _ ea => ?_⟩)⟩
  refine c_isSpan hx hy (fun n1 n2 n3 => b_f (by decide) ?_) (fun hc => b_t rfl (h0 (fun w => hc (by omega))))
  rw [iI_l hw.1 hw.2]
  refine c_isIn (b := 0) (c := 1) (by omega) (by omega) (by omega) (fun q1 q2 => b_f (by decide) ⟨(y - x + 1).toNat + 1, ?_⟩) (fun hc => b_t rfl (h0 (fun w => hc (by omega))))
  exact c_gap_49 hK hv hL hf hw (by omega) _ 0 (-100000) 0 x S N (by omega) n1 (by omega) (by omega) (by omega) (by omega) (cW.start hL hc) (fun S' N' hI => h1 s S' N' hs e hne n1 n2 n3 q1 q2 hI)
theorem c_term {post : Int32 → NM → Prop} {MC MS : Nat} {S : CS} {N : NM} {F : Nat → List tm} {z i k : Int} (hL : cL K a S N) (hF : cSlots K S N F) (hz : i32 z) (hi : i32 i) (hk : i32 k) (hMC : 3 ≤ MC) (hMS : 210 ≤ MS)
    (h0 : ¬ (0 ≤ z ∧ z ≤ 3 ∧ 0 ≤ i ∧ i < (F z.toNat).length ∧ 0 ≤ k ∧ k ≤ 3) → post (iI (-100000)) N) (h1 : ∀ (s j : Nat) (t : tm), s < 4 → z = s → i = j → (F s)[j]? = some t → 0 ≤ k → k ≤ 3 → post (iI (t4 t k)) N) : wX0_term K post MC MS N (a 0) (iI z) (iI i) (iI k) := by
  unfold wX0_term
  refine ⟨_, _, _, _, _, _, _, _, _, _, _, _, _, _, _, _, _, _, _, hL.obj, 3, 210, hMC, hMS, c_at hL hF hz (by omega) (by omega) (fun hq => ⟨fun _ => h0 (fun w => hq ⟨w.1, w.2.1, fun e => by rw [e] at w; have := w.2.2.2.1; simp at this; omega⟩), fun _ e => by cases e⟩) (fun s q hs e hne hq hf hv => ⟨fun e => (by cases e), fun _ ea => ?_⟩)⟩
  cases ea
  have hf' := hf
  obtain ⟨y, f, f1, f2, f3⟩ := hf'
  have h5 := hv.1
  refine ⟨_, f1, c_many0 hf ?_⟩
  subst e
  rw [show iI ((F s).length : Int) - 1 = iI (((F s).length : Int) - 1) from iI_sub _ 1, iI_l hi.1 hi.2, iI_l (by omega) (by omega)]
  refine c_isIn (b := 0) (by omega) (by omega) (by omega) (fun c1 c2 => b_f (by decide) ?_) (fun c => b_t rfl (h0 (fun w => c ⟨w.2.2.1, by have := w.2.2.2.1; rw [show ((s : Int)).toNat = s by omega] at this; omega⟩)))
  obtain ⟨t, ht⟩ : ∃ t, (F s)[i.toNat]? = some t := ⟨_, List.getElem?_eq_getElem (by omega)⟩
  obtain ⟨u, u1, u2⟩ := f3 _ t ht
  have hvt := hv.2 t (List.mem_of_getElem? ht)
  have b3 := hvt.2.2.1
  have b4 := hvt.2.2.2.1
  have fin := fun k1 k2 => h1 s i.toNat t hs rfl (by omega) ht k1 k2
  unfold t4 at fin
  refine ⟨_, f1, y, rfl, _, _, f2, iI_in (by omega) (by omega) (by omega), ?_⟩
  rw [iI_nat (by omega) (by omega), u1]
  simp (disch := omega) only [iLit, lLit, iI_add, iI_sub, iI_mul, iI_neg, lI_add, lI_sub, lI_mul, lI_neg, nI_i, lI_i, iI_eq]
  refine ⟨fun e => ⟨u, rfl, _, _, _, _, u2, ?_⟩, fun e0 => ⟨fun e => ⟨u, rfl, _, _, _, _, u2, _, rfl, t.2.1.toNat, by omega, rfl, ?_⟩, fun e1 => ⟨fun e => ⟨u, rfl, _, _, _, _, u2, ?_⟩, fun e2 => ⟨fun e => ⟨u, rfl, _, _, _, _, u2, ?_⟩, fun e3 => h0 (fun w => by omega)⟩⟩⟩⟩
  · have := fin (by omega) (by omega); rw [if_pos e] at this; exact this
  · have := fin (by omega) (by omega); rw [if_neg e0, if_pos e] at this
    rw [show ((t.2.1.toNat : Nat) : Int) = t.2.1 by omega]; exact this
  · have := fin (by omega) (by omega); rw [if_neg e0, if_neg e1, if_pos e] at this; exact this
  · have := fin (by omega) (by omega); rw [if_neg e0, if_neg e1, if_neg e2] at this; exact this
end
