set_option maxRecDepth 100000
set_option maxHeartbeats 4000000
/-! the component: explained, met, never, bars -/
theorem msb32 (x : Int32) : x.toBitVec.msb = decide (x.toInt < 0) := by
  rw [BitVec.msb_eq_toInt]; rfl
theorem nn32 (x : Int32) : ((0 : Int32) ≤ x) ↔ x.toBitVec.msb = false := by
  rw [msb32, Int32.le_iff_toInt_le]
  simp
theorem c_floorMod {post : Int32 → Prop} {n m : Int} (hn : -100000 ≤ n ∧ n ≤ 100000) (hm : 1 ≤ m ∧ m ≤ 60) (h : post (iI (n % m))) : wJ14_floorMod post (iI n) (iI m) := by
  have hx : ((0 : Int32) ≤ iI n ^^^ iI m) ↔ 0 ≤ n := by
    rw [nn32, Int32.toBitVec_xor, BitVec.msb_xor, msb32, msb32, iI_toInt (by omega) (by omega), iI_toInt (by omega) (by omega)]
    have e1 : decide (m < 0) = false := by simp; omega
    rw [e1]
    simp
  have h1 : n.tmod m = n - m * n.tdiv m := Int.tmod_def n m
  have h2 : n.tmod m < m := Int.tmod_lt_of_pos n (by omega)
  have h3 : -m < n.tmod m := Int.lt_tmod_of_pos n (by omega)
  have h4 : n.tmod m % m = n % m := by rw [h1, Int.sub_mul_emod_self_left]
  have h5 := md1 (x := n.tmod m) (m := m) (by omega) (by omega)
  unfold wJ14_floorMod
  refine ⟨?_, ?_⟩
  · rw [show (0 : Int32) = iI 0 from rfl, iI_eq (by omega) (by omega) (by omega) (by omega)]; omega
  rw [hx, iI_rem (by omega) (by omega)]
  refine ⟨fun e => ?_, fun e => ?_⟩
  · rw [Int.tmod_eq_emod_of_nonneg e]; exact h
  · have hneg : n.tmod m ≤ 0 := by
      have : (-n).tmod m = -(n.tmod m) := Int.neg_tmod ..
      have h6 : 0 ≤ (-n).tmod m := by rw [Int.tmod_eq_emod_of_nonneg (by omega)]; exact Int.emod_nonneg _ (by omega)
      omega
    rw [show (0 : Int32) = iI 0 from rfl, iI_eq (by omega) (by omega) (by omega) (by omega)]
    refine ⟨fun e2 => ?_, fun e2 => ?_⟩
    · rw [if_pos (by omega)] at h5
      rw [h4] at h5
      rw [← h5]; exact h
    · rw [if_neg (by omega), h4] at h5
      rw [iI_add, ← h5]; exact h
section
variable {K : Nat → Nat → Nat} {a : Nat → Nat}
/-- what a look leaves: caches may change -/
def cQ (K : Nat → Nat → Nat) (a : Nat → Nat) (S : CS) (N : NM) (S' : CS) (N' : NM) : Prop := cL K a S' N' ∧ kp a N N' ∧ S'.1.2 = S.1.2 ∧ (∀ k, k ≠ 5 → k ≠ 6 → k ≠ 18 → S'.1.1 k = S.1.1 k) ∧ S'.2.1 = S.2.1 ∧ S'.2.2.1 = S.2.2.1 ∧ cLaid K S' N' ∧ cUnl K S' N'
theorem cQ.start {S : CS} {N : NM} (hL : cL K a S N) (hc : cLaid K S N) (hu : cUnl K S N) : cQ K a S N S N := ⟨hL, kp.refl a N, rfl, fun _ _ _ _ => rfl, rfl, rfl, hc, hu⟩
theorem cQ.trans {S S1 S2 : CS} {N N1 N2 : NM} (h : cQ K a S N S1 N1) (g : cQ K a S1 N1 S2 N2) : cQ K a S N S2 N2 := ⟨g.1, h.2.1.trans g.2.1, g.2.2.1.trans h.2.2.1, fun k x y z => (g.2.2.2.1 k x y z).trans (h.2.2.2.1 k x y z), g.2.2.2.2.1.trans h.2.2.2.2.1, g.2.2.2.2.2.1.trans h.2.2.2.2.2.1, g.2.2.2.2.2.2⟩
theorem cW.Q {S S' : CS} {N N' : NM} (hL : cL K a S N) (hu : cUnl K S N) (h : cW K a S N S' N') : cQ K a S N S' N' := ⟨h.1, h.2.1, h.2.2.1.1, fun k x _ _ => h.2.2.1.2.1 k x, h.2.2.1.2.2.1, h.2.2.1.2.2.2.1, h.2.2.2, hu.ly hL h.2.1 h.2.2.1⟩
theorem cWU.Q {S S' : CS} {N N' : NM} (hL : cL K a S N) (hc : cLaid K S N) (h : cWU K a S N S' N') : cQ K a S N S' N' := ⟨h.1, h.2.1, h.2.2.1.1, fun k _ y _ => h.2.2.1.2.1 k y, h.2.2.1.2.2.1, h.2.2.1.2.2.2.1, hc.ul hL h.2.1 h.2.2.1, h.2.2.2⟩
theorem cQ.en {S S' : CS} {N N' : NM} (hL : cL K a S N) (hc : cLaid K S N) (h1 : cL K a S' N') (h2 : kp a N N') (h3 : ulE S S') (h4 : S'.1.1 6 = none) : cQ K a S N S' N' := ⟨h1, h2, h3.1, fun k _ y _ => h3.2.1 k y, h3.2.2.1, h3.2.2.2.1, hc.ul hL h2 h3, Or.inl h4⟩
theorem clEq.Q {S S' : CS} {N N' : NM} (hL : cL K a S N) (hc : cLaid K S N) (hu : cUnl K S N) (h1 : cL K a S' N') (h2 : kp a N N') (h3 : clEq S S') : cQ K a S N S' N' := by
  refine ⟨h1, h2, by rw [h3.1], fun k _ _ _ => by rw [h3.1], h3.2.1, h3.2.2.1, ?_, ?_⟩
  · rcases hc with h | ⟨q, ts, c1, c2, c3, c4⟩
    · exact Or.inl (by rw [h3.1]; exact h)
    · refine Or.inr ⟨q, ts, by rw [h3.1]; exact c1, c2.kp hL h2, c3, fun i hi => ?_⟩
      have := c3.1
      rw [h3.2.2.2.1 i (by omega)]; exact c4 i hi
  · rcases hu with h | ⟨q, ts, c1, c2, c3, c4⟩
    · exact Or.inl (by rw [h3.1]; exact h)
    · exact Or.inr ⟨q, ts, by rw [h3.1]; exact c1, c2.kp hL h2, c3, by rw [h3.2.2.2.1 6 (by omega)]; exact c4⟩
theorem c_expl_44 {post : Int32 → NM → Prop} {S0 : CS} {N0 : NM} {q mc ms : Nat} {ts : List tm} {y m : Int} (hK : kOk K) (hv : vF ts) (hL0 : cL K a S0 N0) (hF : cF K N0 q ts) (hm : 1 ≤ m ∧ m ≤ 60) (hr : rowK (S0.2.2.2.1 12) m (Cl m ts)) (hy : y ≤ 3000) : ∀ (mm : Nat) (n k : Int) (S : CS) (N : NM), k + mm = y + 1 → -3000 ≤ k → 0 ≤ n → n + mm ≤ 10000 → cW K a S0 N0 S N → (∀ S' N', cW K a S0 N0 S' N' → post (iI (expR (Wy ts) (Cl m ts) m mm n k)) N') → wX0_explained_44 K post (mm + 1) (a 0) (iI y) (iI m) (some q) (iI n) (iI k) mc ms N := by
  intro mm
  induction mm with
  | zero =>
    intro n k S N hk hk0 hn hn2 hI h
    unfold wX0_explained_44
    exact b_t (by simp (disch := omega) only [iLit, lLit, iI_add, iI_sub, iI_mul, iI_neg, lI_add, lI_sub, lI_mul, lI_neg, nI_i, lI_i, iI_l, iI_nat, iI_lt, iI_le, iI_eq, lI_lt, lI_le, lI_eq] <;> omega) (h S N hI)
  | succ mm ih =>
    intro n k S N hk hk0 hn hn2 hI h
    unfold wX0_explained_44
    refine b_f (by simp (disch := omega) only [iLit, lLit, iI_add, iI_sub, iI_mul, iI_neg, lI_add, lI_sub, lI_mul, lI_neg, nI_i, lI_i, iI_l, iI_nat, iI_lt, iI_le, iI_eq, lI_lt, lI_le, lI_eq] <;> omega) ⟨_, _, _, _, _, _, _, _, _, _, _, _, _, _, _, _, _, _, _, hI.1.obj, c_wy hK hv hL0 hF hI (by omega) (fun r S' N' er r0 r1 hI' => ?_)⟩
    unfold expR at h
    rw [← er] at h
    have nx : ∀ d : Int, (d = 0 ∨ d = 1) → d = (if r = 0 ∧ Cl m ts (k % m) = 0 then 1 else 0) → wX0_explained_87 K (fun x0 x3 x4 x5 x6 x7 mc ms N => wX0_explained_44 K post (mm + 1) x0 x3 x4 x5 x6 x7 mc ms N) post (a 0) (iI y) (iI m) (some q) (iI k) (iI d) (iI n) mc ms N' := fun d hd ed => by
      rw [← ed] at h
      unfold wX0_explained_87
      rw [iI_add, show iI k + (1 : Int32) = iI (k + 1) from iI_add k 1]
      exact ih (n + d) (k + 1) S' N' (by omega) (by omega) (by omega) (by omega) hI' h
    rw [show (0 : Int64) = lI 0 from rfl, lI_eq (by omega) (by omega) (by omega) (by omega)]
    refine ⟨fun e => ⟨_, _, _, _, _, _, _, _, _, _, _, _, _, _, _, _, _, _, _, hI'.1.obj, ?_⟩, fun e => ?_⟩
    · refine c_floorMod (by omega) hm ⟨a 7, rfl, _, _, hI'.1.cls, ?_⟩
      have hkm : 0 ≤ k % m ∧ k % m < m := ⟨Int.emod_nonneg _ (by omega), Int.emod_lt_of_pos _ (by omega)⟩
      refine ⟨iI_in (by omega) (by omega) (by omega), ?_⟩
      rw [iI_nat (by omega) (by omega), hI'.2.2.1.2.2.2.2.1 12 (by omega), hr (k % m) hkm.1 hkm.2]
      have hc0 := Cl_nn m ts (k % m)
      have hc1 := Cl_lt hm (ts := ts) hv.1 (k % m)
      rw [lI_eq (by omega) (by omega) (by omega) (by omega)]
      refine ⟨fun e2 => nx 1 (Or.inr rfl) (by rw [if_pos ⟨e, e2⟩]), fun e2 => ?_⟩
      unfold wX0_explained_86
      exact nx 0 (Or.inl rfl) (by rw [if_neg (fun z => e2 z.2)])
    · unfold wX0_explained_86
      exact nx 0 (Or.inl rfl) (by rw [if_neg (fun z => e z.1)])
theorem c_explained {post : Int32 → NM → Prop} {MC MS : Nat} {S : CS} {N : NM} {F : Nat → List tm} {z x y m : Int} (hK : kOk K) (hL : cL K a S N) (hF : cSlots K S N F) (hc : cLaid K S N) (hu : cUnl K S N) (hz : i32 z) (hx : i32 x) (hy : i32 y) (hm : i32 m) (hMC : 3 ≤ MC) (hMS : 210 ≤ MS) (h0 : ¬ (0 ≤ z ∧ z ≤ 3 ∧ F z.toNat ≠ [] ∧ -3000 ≤ x ∧ x ≤ y ∧ y ≤ 3000 ∧ 1 ≤ m ∧ m ≤ 60) → post (iI (-1)) N) (h1 : ∀ (s : Nat) S' N', s < 4 → z = s → F s ≠ [] → -3000 ≤ x → x ≤ y → y ≤ 3000 → 1 ≤ m → m ≤ 60 → cQ K a S N S' N' → post (iI (expR (Wy (F s)) (Cl m (F s)) m (y - x + 1).toNat 0 x)) N') : wX0_explained K post MC MS N (a 0) (iI z) (iI x) (iI y) (iI m) := by
  unfold wX0_explained
  refine ⟨_, _, _, _, _, _, _, _, _, _, _, _, _, _, _, _, _, _, _, hL.obj, 3, 210, hMC, hMS, c_at hL hF hz (by omega) (by omega) (fun hq => ⟨fun _ => h0 (fun w => hq ⟨w.1, w.2.1, w.2.2.1⟩), fun _ e => by cases e⟩) (fun s q hs e hne hq hf hv => ⟨fun e => (by cases e), fun _ ea => ?_⟩)⟩
  refine c_isSpan hx hy (fun n1 n2 n3 => b_f (by decide) ?_) (fun hc => b_t rfl (h0 (fun w => hc (by omega))))
  refine c_isModulus hm (fun m1 m2 => b_f (by decide) ⟨_, _, _, _, _, _, _, _, _, _, _, _, _, _, _, _, _, _, _, hL.obj, ?_⟩) (fun hc => b_t rfl (h0 (fun w => hc (by omega))))
  refine c_laysClasses hK hL hf hv ⟨m1, m2⟩ (fun S1 N1 hL1 hk1 he1 hr1 => ⟨(y - x + 1).toNat + 1, ?_⟩)
  have hQ := clEq.Q hL hc hu hL1 hk1 he1
  exact c_expl_44 hK hv hL1 (hf.kp hL hk1) ⟨m1, m2⟩ hr1 n3 _ 0 x S1 N1 (by omega) n1 (by omega) (by omega) (cW.start hL1 hQ.2.2.2.2.2.2.1) (fun S' N' hI => h1 s S' N' hs e hne n1 n2 n3 m1 m2 (hQ.trans (hI.Q hL1 hQ.2.2.2.2.2.2.2)))
theorem c_met {post : Int64 → NM → Prop} {MC MS : Nat} {S : CS} {N : NM} {F : Nat → List tm} {z m r : Int} (hK : kOk K) (hL : cL K a S N) (hF : cSlots K S N F) (hc : cLaid K S N) (hu : cUnl K S N) (hz : i32 z) (hm : i32 m) (hr : i32 r) (hMC : 3 ≤ MC) (hMS : 210 ≤ MS) (h0 : ¬ (0 ≤ z ∧ z ≤ 3 ∧ F z.toNat ≠ [] ∧ 1 ≤ m ∧ m ≤ 60 ∧ 0 ≤ r ∧ r < m) → post (lI (-1)) N) (h1 : ∀ (s : Nat) S' N', s < 4 → z = s → F s ≠ [] → 1 ≤ m → m ≤ 60 → 0 ≤ r → r < m → cQ K a S N S' N' → post (lI (Cl m (F s) r)) N') : wX0_met K post MC MS N (a 0) (iI z) (iI m) (iI r) := by
  unfold wX0_met
  refine ⟨_, _, _, _, _, _, _, _, _, _, _, _, _, _, _, _, _, _, _, hL.obj, 3, 210, hMC, hMS, c_at hL hF hz (by omega) (by omega) (fun hq => ⟨fun _ => h0 (fun w => hq ⟨w.1, w.2.1, w.2.2.1⟩), fun _ e => by cases e⟩) (fun s q hs e hne hq hf hv => ⟨fun e => (by cases e), fun _ ea => ?_⟩)⟩
  refine c_isModulus hm (fun m1 m2 => b_f (by decide) ?_) (fun hc => b_t rfl (h0 (fun w => hc (by omega))))
  rw [show iI m - (1 : Int32) = iI (m - 1) from iI_sub m 1, iI_l hr.1 hr.2, iI_l (z := m - 1) (by omega) (by omega)]
  refine c_isIn (b := 0) (by omega) (by omega) (by omega) (fun r1 r2 => b_f (by decide) ⟨_, _, _, _, _, _, _, _, _, _, _, _, _, _, _, _, _, _, _, hL.obj, ?_⟩) (fun c => b_t rfl (h0 (fun w => c (by omega))))
  refine c_laysClasses hK hL hf hv ⟨m1, m2⟩ (fun S1 N1 hL1 hk1 he1 hr1 => ⟨_, _, _, _, _, _, _, _, _, _, _, _, _, _, _, _, _, _, _, hL1.obj, a 7, rfl, _, _, hL1.cls, iI_in (by omega) (by omega) (by omega), ?_⟩)
  rw [iI_nat (by omega) (by omega), hr1 r r1 (by omega)]
  exact h1 s S1 N1 hs e hne m1 m2 r1 (by omega) (clEq.Q hL hc hu hL1 hk1 he1)
theorem c_never_34 {post : Int32 → NM → Prop} {S : CS} {N : NM} {ts : List tm} {mc ms : Nat} {i m : Int} (hL : cL K a S N) (hm : 1 ≤ m ∧ m ≤ 60) (hl : ts.length ≤ 5) (hr : rowK (S.2.2.2.1 12) m (Cl m ts)) (hi : i32 i) : ∀ (q : Nat) (c r : Int), r + q = m → 0 ≤ r → 0 ≤ c → c + q ≤ 1000 → post (iI (nevR (Cl m ts) i q c r)) N → wX0_never_34 K post (q + 1) (a 0) (iI m) (iI i) (iI c) (iI r) mc ms N := by
  intro q
  induction q with
  | zero =>
    intro c r hq hr0 hc hcq h
    unfold wX0_never_34
    refine b_t (by simp (disch := omega) only [iLit, lLit, iI_add, iI_sub, iI_mul, iI_neg, lI_add, lI_sub, lI_mul, lI_neg, nI_i, lI_i, iI_l, iI_nat, iI_lt, iI_le, iI_eq, lI_lt, lI_le, lI_eq] <;> omega) ?_
    simp (disch := omega) only [iLit, lLit, iI_add, iI_sub, iI_mul, iI_neg, lI_add, lI_sub, lI_mul, lI_neg, nI_i, lI_i, iI_eq]
    unfold nevR at h
    exact ⟨fun e => by rw [if_pos e] at h; exact h, fun e => by rw [if_neg e] at h; exact h⟩
  | succ q ih =>
    intro c r hq hr0 hc hcq h
    have c0 := Cl_nn m ts r
    have c1 := Cl_lt hm hl r
    unfold wX0_never_34
    refine b_f (by simp (disch := omega) only [iLit, lLit, iI_add, iI_sub, iI_mul, iI_neg, lI_add, lI_sub, lI_mul, lI_neg, nI_i, lI_i, iI_l, iI_nat, iI_lt, iI_le, iI_eq, lI_lt, lI_le, lI_eq] <;> omega) ⟨_, _, _, _, _, _, _, _, _, _, _, _, _, _, _, _, _, _, _, hL.obj, a 7, rfl, _, _, hL.cls, iI_in (by omega) (by omega) (by omega), ?_⟩
    rw [iI_nat (by omega) (by omega), hr r hr0 (by omega)]
    unfold nevR at h
    unfold wX0_never_67
    simp (disch := omega) only [iLit, lLit, iI_add, iI_sub, iI_mul, iI_neg, lI_add, lI_sub, lI_mul, lI_neg, nI_i, lI_i, iI_eq, lI_le]
    refine ⟨fun e => ?_, fun e => ?_⟩
    · rw [if_pos e] at h
      refine ⟨fun e2 => ?_, fun e2 => ?_⟩
      · rw [if_pos e2] at h; exact h
      · rw [if_neg e2] at h
        exact ih (c + 1) (r + 1) (by omega) (by omega) (by omega) (by omega) h
    · rw [if_neg e] at h
      exact ih c (r + 1) (by omega) (by omega) (by omega) (by omega) h
theorem c_never {post : Int32 → NM → Prop} {MC MS : Nat} {S : CS} {N : NM} {F : Nat → List tm} {z m i : Int} (hK : kOk K) (hL : cL K a S N) (hF : cSlots K S N F) (hc : cLaid K S N) (hu : cUnl K S N) (hz : i32 z) (hm : i32 m) (hi : i32 i) (hMC : 3 ≤ MC) (hMS : 210 ≤ MS) (h0 : ¬ (0 ≤ z ∧ z ≤ 3 ∧ F z.toNat ≠ [] ∧ 1 ≤ m ∧ m ≤ 60) → post (iI (-1)) N) (h1 : ∀ (s : Nat) S' N', s < 4 → z = s → F s ≠ [] → 1 ≤ m → m ≤ 60 → cQ K a S N S' N' → post (iI (nevS (F s) m i)) N') : wX0_never K post MC MS N (a 0) (iI z) (iI m) (iI i) := by
  unfold wX0_never
  refine ⟨_, _, _, _, _, _, _, _, _, _, _, _, _, _, _, _, _, _, _, hL.obj, 3, 210, hMC, hMS, c_at hL hF hz (by omega) (by omega) (fun hq => ⟨fun _ => h0 (fun w => hq ⟨w.1, w.2.1, w.2.2.1⟩), fun _ e => by cases e⟩) (fun s q hs e hne hq hf hv => ⟨fun e => (by cases e), fun _ ea => ?_⟩)⟩
  refine c_isModulus hm (fun m1 m2 => b_f (by decide) ⟨_, _, _, _, _, _, _, _, _, _, _, _, _, _, _, _, _, _, _, hL.obj, ?_⟩) (fun hc => b_t rfl (h0 (fun w => hc (by omega))))
  refine c_laysClasses hK hL hf hv ⟨m1, m2⟩ (fun S1 N1 hL1 hk1 he1 hr1 => ⟨m.toNat + 1, ?_⟩)
  exact c_never_34 hL1 ⟨m1, m2⟩ hv.1 hr1 hi m.toNat 0 0 (by omega) (by omega) (by omega) (by omega) (h1 s S1 N1 hs e hne m1 m2 (clEq.Q hL hc hu hL1 hk1 he1))
theorem cQ.slots {S S' : CS} {N N' : NM} {F : Nat → List tm} (hL : cL K a S N) (h : cQ K a S N S' N') (hF : cSlots K S N F) : cSlots K S' N' F := hF.kp hL h.2.1 h.2.2.2.2.1
theorem c_bars_2 {post : Int32 → NM → Prop} {S0 : CS} {N0 : NM} {F : Nat → List tm} {z : Int} (hK : kOk K) (hL0 : cL K a S0 N0) (hF0 : cSlots K S0 N0 F) (hz : i32 z) (h0 : ¬ (0 ≤ z ∧ z ≤ 3 ∧ F z.toNat ≠ []) → ∀ S' N', cQ K a S0 N0 S' N' → post (iI (-1)) N') : ∀ (q : Nat) (m : Int) (MC MS : Nat) (S : CS) (N : NM), m + q = 61 → 1 ≤ m → 3 * q ≤ MC → 210 * q ≤ MS → cQ K a S0 N0 S N → ((0 ≤ z ∧ z ≤ 3 ∧ F z.toNat ≠ []) → ∀ S' N', cQ K a S0 N0 S' N' → post (iI (barR (F z.toNat) q m)) N') → wX0_bars_2 K post (q + 1) (a 0) (iI z) (iI m) MC MS N := by
  intro q
  induction q with
  | zero =>
    intro m MC MS S N hq hm hMC hMS hI h
    unfold wX0_bars_2
    refine b_t (by simp (disch := omega) only [iLit, lLit, iI_add, iI_sub, iI_mul, iI_neg, lI_add, lI_sub, lI_mul, lI_neg, nI_i, lI_i, iI_l, iI_nat, iI_lt, iI_le, iI_eq, lI_lt, lI_le, lI_eq] <;> omega) ?_
    by_cases c : 0 ≤ z ∧ z ≤ 3 ∧ F z.toNat ≠ []
    · exact h c S N hI
    · exact h0 c S N hI
  | succ q ih =>
    intro m MC MS S N hq hm hMC hMS hI h
    unfold wX0_bars_2
    refine b_f (by simp (disch := omega) only [iLit, lLit, iI_add, iI_sub, iI_mul, iI_neg, lI_add, lI_sub, lI_mul, lI_neg, nI_i, lI_i, iI_l, iI_nat, iI_lt, iI_le, iI_eq, lI_lt, lI_le, lI_eq] <;> omega) ⟨_, _, _, _, _, _, _, _, _, _, _, _, _, _, _, _, _, _, _, hI.1.obj, 3, 210, by omega, by omega, ?_⟩
    rw [show (-1 : Int32) = iI (-1) from rfl]
    refine c_never hK hI.1 (hI.slots hL0 hF0) hI.2.2.2.2.2.2.1 hI.2.2.2.2.2.2.2 hz (by omega) (by omega) (by omega) (by omega) (fun c => ?_) (fun s S' N' hs e hne _ _ hI' => ?_)
    · have c' : ¬ (0 ≤ z ∧ z ≤ 3 ∧ F z.toNat ≠ []) := fun w => c ⟨w.1, w.2.1, w.2.2, by omega, by omega⟩
      refine b_t (by decide) ?_
      rw [show iI m + (1 : Int32) = iI (m + 1) from iI_add m 1]
      exact ih (m + 1) (MC - 3) (MS - 210) S N (by omega) (by omega) (by omega) (by omega) hI (fun w => absurd w c')
    · have hI2 := hI.trans hI'
      subst e
      rw [show ((s : Int)).toNat = s by omega] at h
      have hin := nevS_in (F s) (m := m) (by omega) (-1)
      have h := h ⟨by omega, by omega, hne⟩
      unfold barR at h
      rw [show (0 : Int32) = iI 0 from rfl, iI_le hin.1 hin.2 (by omega) (by omega)]
      refine ⟨fun e2 => ?_, fun e2 => ?_⟩
      · rw [if_pos e2] at h
        rw [show iI m + (1 : Int32) = iI (m + 1) from iI_add m 1]
        exact ih (m + 1) (MC - 3) (MS - 210) S' N' (by omega) (by omega) (by omega) (by omega) hI2 (fun _ => by rw [show ((s : Int)).toNat = s by omega]; exact h)
      · rw [if_neg e2] at h
        exact h S' N' hI2
theorem c_bars {post : Int32 → NM → Prop} {MC MS : Nat} {S : CS} {N : NM} {F : Nat → List tm} {z : Int} (hK : kOk K) (hL : cL K a S N) (hF : cSlots K S N F) (hc : cLaid K S N) (hu : cUnl K S N) (hz : i32 z) (hMC : 180 ≤ MC) (hMS : 12600 ≤ MS) (h0 : ¬ (0 ≤ z ∧ z ≤ 3 ∧ F z.toNat ≠ []) → ∀ S' N', cQ K a S N S' N' → post (iI (-1)) N') (h1 : ∀ (s : Nat) S' N', s < 4 → z = s → F s ≠ [] → cQ K a S N S' N' → post (iI (barR (F s) 60 1)) N') : wX0_bars K post MC MS N (a 0) (iI z) := by
  unfold wX0_bars
  exact ⟨61, c_bars_2 hK hL hF hz h0 60 1 MC MS S N (by omega) (by omega) (by omega) (by omega) (cQ.start hL hc hu) (fun w S' N' hI => h1 z.toNat S' N' (by omega) (by omega) w.2.2 hI)⟩
end
