set_option maxRecDepth 100000
set_option maxHeartbeats 4000000
section
variable {K : Nat → Nat → Nat} {a : Nat → Nat}
theorem spT_5 {t : tm} (h : vT t) : (wL t.2.1.toNat).length ≤ 6 ∧ t.2.1.toNat < 5 := by
  have := h.2.2.1
  have := h.2.2.2.1
  exact ⟨(wL_len t.2.1.toNat (by omega)).2, by omega⟩
theorem c_sp_72 {K23 : Nat → Option Nat → Nat → Int32 → Nat → Nat → NM → Prop} {post : Int32 → NM → Prop} {S0 S : CS} {N0 N : NM} {x mc ms z q : Nat} {t : tm} {x4 : Int32} {L : List Int} (hL0 : cL K a S0 N0) (ht : vT t) (hz : N0 z = some (oTm K t)) (hI : spI K a S0 N0 S N x L mc ms) (hl : L.length ≤ 2260) (h : ∀ N' mc' ms', spI K a S0 N0 S N' x (L ++ (wL t.2.1.toNat ++ spB t)) mc' ms' → K23 (a 0) (some q) x (x4 + 1) mc' ms' N') : wX0_spell_72 K K23 post (a 0) (some q) x x4 (some z) mc ms N := by
  obtain ⟨hQ, bc, bs, hB, hc, hs⟩ := hI
  have ht0 := ht
  obtain ⟨b1, b2, b3, b4, b5, b6, b7, -⟩ := ht
  have hk := spT_5 ht0
  have oz : ∀ {N' : NM} {S' : CS}, cQ K a S0 N0 S' N' → N' z = some (oTm K t) := fun {N' S'} hq => hq.2.1 z _ hz (hL0.out hz rfl)
  unfold wX0_spell_72
  obtain ⟨wf, w1, w2⟩ := hQ.1.words
  obtain ⟨f1, f2, f3, f4, o1⟩ := hB.x
  refine ⟨_, _, _, _, _, _, _, _, _, _, _, _, _, _, _, _, _, _, _, hQ.1.obj, z, rfl, _, _, _, _, oz hQ, _, rfl, t.2.1.toNat, hk.2, rfl, _, rfl, _, _, w1, ?_⟩
  rw [nI_i, nat_i (by omega)]
  refine ⟨iI_in (by omega) (by omega) (by omega), _, w2 _ hk.2, _, rfl, _, _, _, _, o1, ?_⟩
  obtain ⟨uc, us, bc1, bs1, u1, u2, hA⟩ := c_appS (K := K) (t := t.2.1.toNat) hB (by omega) (by omega)
  refine ⟨uc, us, by omega, by omega, hA uc us (Nat.le_refl _) (Nat.le_refl _) _ (fun N1 hB1 hf1 => ?_)⟩
  have hQ1 := hQ.fb hL0 hf1
  have hI1 : spI K a S0 N0 S N1 x (L ++ wL t.2.1.toNat) (mc - uc) (ms - us) := ⟨hQ1, bc1, bs1, hB1, by omega, by omega⟩
  refine ⟨_, _, _, _, oz hQ1, ?_⟩
  have go : ∀ v : Int32, (v = 0 ∨ v = 1) → (v = 1 ↔ (t.2.2.1 = 0 ∧ t.2.2.2 = gtS t.1 t.2.1)) → wX0_spell_123 K K23 post (a 0) (some q) x x4 (some z) v (mc - uc) (ms - us) N1 := by
    intro v hv hvi
    refine c_sp_123 hL0 ht0 hz hI1 (by rw [List.length_append]; omega) hv (fun N' mc' ms' hi => h N' mc' ms' ?_)
    rw [List.append_assoc] at hi
    have : (if v = 0 then wL 6 ++ (numS t.2.2.1 ++ (wL 7 ++ numS t.2.2.2)) else []) = spB t := by
      unfold spB
      rcases hv with e | e
      · rw [if_pos e, if_neg (fun c => by have := hvi.2 c; rw [e] at this; exact absurd this (by decide))]
      · rw [if_neg (by rw [e]; decide), if_pos (hvi.1 e)]
    rw [this] at hi
    exact hi
  rw [show (0 : Int32) = iI 0 from rfl, iI_eq (by omega) (by omega) (by omega) (by omega)]
  refine ⟨fun c => ?_, fun c => ?_⟩
  · rw [show (1 : Int32) = iI 1 from rfl, iI_add, iI_l (by omega) (by omega)]
    refine c_value ht0 (oz hQ1) (by omega) (by omega) ?_
    have hg := gtS_iff ht0 c
    have hb := kV_leN (k := t.2.1) (x := t.2.2.2 + 1) (by omega) (by omega)
    have hb1 : tv t (t.2.2.2 + 1) < 9223372036854775808 ∧ -9223372036854775808 ≤ tv t (t.2.2.2 + 1) := by
      unfold tv
      have c1 : t.1 * kV t.2.1 (t.2.2.2 + 1) ≤ 99 * 10000000000000000 := by
        by_cases c0 : 0 ≤ kV t.2.1 (t.2.2.2 + 1)
        · exact Int.mul_le_mul b2 hb.2 c0 (by omega)
        · have := Int.mul_nonneg (a := t.1) (b := -(kV t.2.1 (t.2.2.2 + 1))) (by omega) (by omega)
          rw [Int.mul_neg] at this
          omega
      have c2 : -(99 * 10000000000000000) ≤ t.1 * kV t.2.1 (t.2.2.2 + 1) := by
        by_cases c0 : 0 ≤ kV t.2.1 (t.2.2.2 + 1)
        · have := Int.mul_nonneg (a := t.1) (b := kV t.2.1 (t.2.2.2 + 1)) (by omega) c0
          omega
        · have := Int.mul_le_mul (a := t.1) (b := -(kV t.2.1 (t.2.2.2 + 1))) (c := 99) (d := 10000000000000000) b2 (by omega) (by omega) (by omega)
          rw [Int.mul_neg] at this
          omega
      omega
    rw [show (3000 : Int64) = lI 3000 from rfl, lI_le (by omega) (by omega) (by omega) (by omega)]
    refine ⟨fun d => ?_, fun d => go 1 (Or.inr rfl) ⟨fun _ => ⟨c, hg.2 (by omega)⟩, fun _ => rfl⟩⟩
    unfold wX0_spell_122
    exact go 0 (Or.inl rfl) ⟨fun e => absurd e (by decide), fun e => by have := hg.1 e.2; omega⟩
  · unfold wX0_spell_122
    exact go 0 (Or.inl rfl) ⟨fun e => absurd e (by decide), fun e => absurd e.1 c⟩
theorem c_sp_53 {K23 : Nat → Option Nat → Nat → Int32 → Nat → Nat → NM → Prop} {post : Int32 → NM → Prop} {S0 S : CS} {N0 N : NM} {x mc ms z q : Nat} {t : tm} {x4 : Int32} {L : List Int} (hL0 : cL K a S0 N0) (ht : vT t) (hz : N0 z = some (oTm K t)) (hI : spI K a S0 N0 S N x L mc ms) (hl : L.length ≤ 2250) (h : ∀ N' mc' ms', spI K a S0 N0 S N' x (L ++ spT t) mc' ms' → K23 (a 0) (some q) x (x4 + 1) mc' ms' N') : wX0_spell_53 K K23 post (a 0) (some q) x x4 (some z) mc ms N := by
  have hI0 := hI
  obtain ⟨hQ, bc, bs, hB, hc, hs⟩ := hI
  have ht0 := ht
  obtain ⟨b1, b2, b3, b4, b5, b6, b7, -⟩ := ht
  have oz : ∀ {N' : NM} {S' : CS}, cQ K a S0 N0 S' N' → N' z = some (oTm K t) := fun {N' S'} hq => hq.2.1 z _ hz (hL0.out hz rfl)
  unfold wX0_spell_53
  unfold spT at h
  refine ⟨z, rfl, _, _, _, _, oz hQ, ?_⟩
  rw [show (1 : Int32) = iI 1 from rfl, iI_le (by omega) (by omega) (by omega) (by omega)]
  refine ⟨fun c => ?_, fun c => ?_⟩
  · rw [if_pos (by omega), List.nil_append] at h
    exact c_sp_72 hL0 ht0 hz hI0 (by omega) h
  · rw [if_neg (by omega)] at h
    obtain ⟨f1, f2, f3, f4, o1⟩ := hB.x
    refine ⟨_, _, _, _, o1, ?_⟩
    have hn1 := numS_len t.1
    obtain ⟨uc, us, bc1, bs1, u1, u2, hA⟩ := c_appI (K := K) (v := t.1) hB (by omega) (by omega)
    refine ⟨uc, us, by omega, by omega, hA uc us (Nat.le_refl _) (Nat.le_refl _) _ (fun N1 hB1 hf1 => ?_)⟩
    refine c_sp_72 hL0 ht0 hz ⟨hQ.fb hL0 hf1, bc1, bs1, hB1, by omega, by omega⟩ (by rw [List.length_append]; omega) (fun N' mc' ms' hi => h N' mc' ms' ?_)
    rw [List.append_assoc] at hi
    exact hi
theorem c_sp_23 {post : Int32 → NM → Prop} {S0 S : CS} {N0 : NM} {x q : Nat} {ts : List tm} (hL0 : cL K a S0 N0) (hv : vF ts) (hF : cF K N0 q ts) : ∀ (m i : Nat) (L : List Int) (N : NM) (mc ms : Nat), i + m = ts.length → L.length ≤ 50 * i → spI K a S0 N0 S N x L mc ms → (∀ S' N', cT K a S0 N0 S' N' (L ++ spA (ts.drop i) i) → post (iI ((L ++ spA (ts.drop i) i).length : Nat)) N') → wX0_spell_23 K post (m + 1) (a 0) (some q) x (iI (i : Nat)) mc ms N := by
  intro m
  induction m with
  | zero =>
    intro i L N mc ms hm hl hI h
    obtain ⟨hQ, bc, bs, hB, hc, hs⟩ := hI
    have hF' : cF K N q ts := hF.kp hL0 hQ.2.1
    have h5 := hv.1
    unfold wX0_spell_23
    obtain ⟨y, f, p1, p2, p3⟩ := hF'
    refine ⟨q, rfl, _, p1, c_many0 ⟨y, f, p1, p2, p3⟩ (b_t (by simp (disch := omega) only [iLit, lLit, iI_add, iI_sub, iI_mul, iI_neg, lI_add, lI_sub, lI_mul, lI_neg, nI_i, lI_i, iI_l, iI_nat, iI_lt, iI_le, iI_eq, lI_lt, lI_le, lI_eq] <;> omega) ⟨_, _, _, _, _, _, _, _, _, _, _, _, _, _, _, _, _, _, _, hQ.1.obj, mc, ms, Nat.le_refl _, Nat.le_refl _, ?_⟩)⟩
    rw [List.drop_eq_nil_of_le (by omega), show spA [] i = [] from rfl, List.append_nil] at h
    exact c_shows hQ hB (by omega) (by omega) h
  | succ m ih =>
    intro i L N mc ms hm hl hI h
    have hI0 := hI
    obtain ⟨hQ, bc, bs, hB, hc, hs⟩ := hI
    have hF' : cF K N q ts := hF.kp hL0 hQ.2.1
    have h5 := hv.1
    obtain ⟨t, ht⟩ : ∃ t, ts[i]? = some t := ⟨_, List.getElem?_eq_getElem (by omega)⟩
    have hvt : vT t := hv.2 t (List.mem_of_getElem? ht)
    have hdr : ts.drop i = t :: ts.drop (i + 1) := by
      have hi : i < ts.length := by omega
      rw [List.drop_eq_getElem_cons hi]
      rw [List.getElem?_eq_getElem hi] at ht
      rw [Option.some.inj ht]
    unfold wX0_spell_23
    obtain ⟨y0, f0, r1, r2, r3⟩ := hF
    obtain ⟨y, f, p1, p2, p3⟩ := hF'
    have ey : y = y0 := by
      have := hQ.2.1 q _ r1 (hL0.out r1 rfl)
      rw [this] at p1; cases p1; rfl
    have ef : f = f0 := by
      have := hQ.2.1 y0 _ r2 (hL0.out r2 rfl)
      rw [← ey, p2] at this; cases this; rfl
    obtain ⟨z, z1, z2⟩ := r3 i t ht
    refine ⟨q, rfl, _, p1, c_many0 ⟨y, f, p1, p2, p3⟩ (b_f (by simp (disch := omega) only [iLit, lLit, iI_add, iI_sub, iI_mul, iI_neg, lI_add, lI_sub, lI_mul, lI_neg, nI_i, lI_i, iI_l, iI_nat, iI_lt, iI_le, iI_eq, lI_lt, lI_le, lI_eq] <;> omega) ⟨_, p1, y, rfl, _, _, p2, iI_in (by omega) (by omega) (by omega), ?_⟩)⟩
    rw [nat_i (by omega), ef, z1, show (0 : Int32) = iI 0 from rfl, iI_le (by omega) (by omega) (by omega) (by omega)]
    rw [hdr, show spA (t :: ts.drop (i + 1)) i = (if i = 0 then [] else [43]) ++ (spT t ++ spA (ts.drop (i + 1)) (i + 1)) from rfl] at h
    have hsp := spT_len hvt
    have nx : ∀ (L1 : List Int) (N' : NM) (mc' ms' : Nat), L ++ ((if i = 0 then [] else [43]) ++ (spT t ++ spA (ts.drop (i + 1)) (i + 1))) = L1 ++ spT t ++ spA (ts.drop (i + 1)) (i + 1) → L1.length ≤ 50 * i + 1 → spI K a S0 N0 S N' x (L1 ++ spT t) mc' ms' → wX0_spell_23 K post (m + 1) (a 0) (some q) x (iI (i : Nat) + 1) mc' ms' N' := by
      intro L1 N' mc' ms' e hl1 hi
      rw [show iI (i : Int) + 1 = iI ((i + 1 : Nat) : Int) by rw [show (1 : Int32) = iI 1 from rfl, iI_add]; rfl]
      refine ih (i + 1) (L1 ++ spT t) N' mc' ms' (by omega) (by rw [List.length_append]; omega) hi (fun S' N'' hT => ?_)
      rw [← e] at hT ⊢
      exact h S' N'' hT
    refine ⟨fun c => ?_, fun c => ?_⟩
    · exact c_sp_53 hL0 hvt z2 hI0 (by omega) (fun N' mc' ms' hi => nx L N' mc' ms' (by rw [if_pos (by omega), List.nil_append, List.append_assoc]) (by omega) hi)
    · obtain ⟨f1, f2, f3, f4, o1⟩ := hB.x
      refine ⟨_, _, _, _, o1, ?_⟩
      obtain ⟨uc, us, bc1, bs1, u1, u2, hA⟩ := c_appC (K := K) (c := 43) hB (by omega) (by omega)
      refine ⟨uc, us, by omega, by omega, hA uc us (Nat.le_refl _) (Nat.le_refl _) _ (fun N1 hB1 hf1 => ?_)⟩
      exact c_sp_53 hL0 hvt z2 ⟨hQ.fb hL0 hf1, bc1, bs1, hB1, by omega, by omega⟩ (by rw [List.length_append, List.length_singleton]; omega) (fun N' mc' ms' hi => nx (L ++ [43]) N' mc' ms' (by rw [if_neg (by omega)]; simp only [List.append_assoc]) (by rw [List.length_append, List.length_singleton]; omega) hi)
theorem c_spell {post : Int32 → NM → Prop} {MC MS : Nat} {S : CS} {N : NM} {F : Nat → List tm} {z : Int} (hL : cL K a S N) (hF : cSlots K S N F) (hc : cLaid K S N) (hu : cUnl K S N) (hz : i32 z) (hMC : 300 ≤ MC) (hMS : 10000 ≤ MS) (h0 : ¬ (0 ≤ z ∧ z ≤ 3 ∧ F z.toNat ≠ []) → post (iI (-1)) N) (h1 : ∀ (s : Nat) S' N', s < 4 → z = s → F s ≠ [] → cT K a S N S' N' (spA (F s) 0) → post (iI ((spA (F s) 0).length : Nat)) N') : wX0_spell K post MC MS N (a 0) (iI z) := by
  unfold wX0_spell
  refine ⟨_, _, _, _, _, _, _, _, _, _, _, _, _, _, _, _, _, _, _, hL.obj, 3, 210, by omega, by omega, ?_⟩
  refine c_at hL hF hz (by omega) (by omega) (fun hn => ⟨fun _ => h0 hn, fun a28 e => by cases e⟩) (fun s q hs ez hne hsl hf hv => ⟨fun e => (by cases e), fun a28 _ => ⟨by omega, by omega, fun nq hnq N34 e34 => ?_⟩⟩)
  subst e34
  have n1 := (nw.refl N).new hnq (eO 17 [va_rf none, .int 0, .int 0, .int 0])
  have hQ1 := (cQ.start hL hc hu).nw n1
  have hd : dm N (va_up N nq (some (eO 17 [va_rf none, .int 0, .int 0, .int 0]))) := (show dm N N from fun z h => h).up nq _
  refine ⟨1, 16, by omega, by omega, ?_⟩
  refine c_newB hnq hd (up_eq _ _ _) (by omega) (by omega) (fun N' hB hf1 => ⟨(F s).length + 1, ?_⟩)
  refine c_sp_23 hL hv hf (F s).length 0 [] N' _ _ (by omega) (by simp) ⟨hQ1.fb hL hf1, 7, 4558, hB, by omega, by omega⟩ (fun S' N'' hT => ?_)
  rw [List.drop_zero, List.nil_append] at hT ⊢
  exact h1 s S' N'' hs ez hne hT
end
