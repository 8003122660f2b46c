set_option maxRecDepth 100000
set_option maxHeartbeats 4000000
/-! the component: drop, lead, look, end -/
section
variable {K : Nat → Nat → Nat} {a : Nat → Nat}
theorem c_drop {post : Int32 → NM → Prop} {MC MS : Nat} {S : CS} {N : NM} {F : Nat → List tm} {z i : Int} (hL : cL K a S N) (hF : cSlots K S N F) (hz : i32 z) (hi : i32 i) (hMC : 20 ≤ MC) (hMS : 1000 ≤ MS) (h0 : ¬ (0 ≤ z ∧ z ≤ 3 ∧ 0 ≤ i ∧ i < (F z.toNat).length) → post 0 N) (h1 : ∀ (s j : Nat) S' N', s < 4 → z = s → i = j → j < (F s).length → cM K a S N s ((F s).eraseIdx j) S' N' → post 1 N') : wX0_drop K post MC MS N (a 0) (iI z) (iI i) := by
  unfold wX0_drop
  refine ⟨_, _, _, _, _, _, _, _, _, _, _, _, _, _, _, _, _, _, _, hL.obj, 3, 210, by omega, by omega, c_at hL hF hz (by omega) (by omega) (fun hq => ⟨fun _ => h0 (fun w => hq ⟨w.1, w.2.1, fun e => by rw [e] at w; have := w.2.2.2; simp at this; omega⟩), fun _ e => by cases e⟩) (fun s q hs e hne hq hf hv => ⟨fun e => (by cases e), fun _ ea => ?_⟩)⟩
  cases ea
  subst e
  have h5 := hv.1
  rw [show ((s : Int)).toNat = s by omega] at h0
  have hf' := hf
  obtain ⟨y, f, f1, f2, f3⟩ := hf'
  refine ⟨_, f1, c_many0 hf ?_⟩
  rw [show iI ((F s).length : Int) - 1 = iI (((F s).length : Int) - 1) from iI_sub _ 1, iI_l hi.1 hi.2, iI_l (z := ((F s).length : Int) - 1) (by omega) (by omega)]
  refine c_isIn (b := 0) (by omega) (by omega) (by omega) (fun c1 c2 => b_f (by decide) ?_) (fun c => b_t rfl (h0 (fun w => c (by omega))))
  obtain ⟨j, rfl⟩ : ∃ j : Nat, i = j := ⟨i.toNat, by omega⟩
  have e0 : (0 : Int32).toNatClampNeg = 0 := by decide
  have e5 : (5 : Int32).toNatClampNeg = 5 := by decide
  have ej : (iI (j : Int)).toNatClampNeg = j := nat_i (by omega)
  have ej1 : iI (j : Int) + 1 = iI ((j + 1 : Nat) : Int) := iI_add j 1
  have ej2 : (iI ((j + 1 : Nat) : Int)).toNatClampNeg = j + 1 := nat_i (by omega)
  have er : iI ((F s).length : Int) - iI (j : Int) - 1 = iI (((F s).length - j - 1 : Nat) : Int) := by
    rw [iI_sub, show (1 : Int32) = iI 1 from rfl, iI_sub]; congr 1; omega
  have er2 : (iI (((F s).length - j - 1 : Nat) : Int)).toNatClampNeg = (F s).length - j - 1 := nat_i (by omega)
  have hneg : ∀ k : Nat, k < 100 → ¬ iI (k : Int) < 0 := fun k hk => by
    rw [show (0 : Int32) = iI 0 from rfl, iI_lt (by omega) (by omega) (by omega) (by omega)]; omega
  rw [e5]
  refine ⟨by decide, by omega, by omega, by omega, fun nq hnq N42 e42 => ?_⟩
  subst e42
  have hnw : ∀ g', nw N (va_up N nq (some (eR 5 5 g'))) := fun g' => (nw.refl N).new hnq _
  have f1' := hnw (fun _ => none) _ _ f1
  have f2' := hnw (fun _ => none) _ _ f2
  rw [e0, ej]
  have hel : ∀ (M : NM), nw N M → ∀ k, k < (F s).length → ∀ y', f k = some y' → ∃ fs, M y' = some (eO 6 fs) := fun M hM k hk y' hy' => by
    obtain ⟨t, ht⟩ : ∃ t, (F s)[k]? = some t := ⟨_, List.getElem?_eq_getElem hk⟩
    obtain ⟨z, z1, z2⟩ := f3 k t ht
    rw [z1] at hy'
    cases hy'
    exact ⟨_, hM _ _ z2⟩
  refine ⟨_, f1', y, rfl, _, _, f2', by decide, by decide, hneg j (by omega), by omega, by omega, fun k hk y' hy' => hel _ (hnw _) k (by omega) y' (by rw [Nat.zero_add] at hy'; exact hy'), fun N64 e64 => ?_⟩
  rw [up_up] at e64
  subst e64
  refine c_many0 (hf.nw (hnw _)) ⟨_, _, up_eq _ _ _, _, _, hnw _ _ _ f2, ?_⟩
  rw [er, ej1]
  refine ⟨hneg _ (by omega), hneg _ (by omega), hneg _ (by omega), ?_⟩
  rw [er2, ej2]
  refine ⟨by omega, by omega, fun k hk y' hy' => hel _ (hnw _) _ (by omega) y' hy', fun N88 e88 => ?_⟩
  rw [up_up] at e88
  subst e88
  have hlen : ((F s).eraseIdx j).length = (F s).length - 1 := by
    rw [List.length_eraseIdx, if_pos (by omega)]
  refine ⟨_, _, _, _, _, _, _, _, _, _, _, _, _, _, _, _, _, _, _, (hL.nw (hnw _)).obj, _, hnw _ _ _ f1, c_many0 (hf.nw (hnw _)) ⟨MC - 3 - 1, MS - 210 - 5, Nat.le_refl _, Nat.le_refl _, ?_⟩⟩
  rw [show iI ((F s).length : Int) - 1 = iI ((((F s).eraseIdx j).length : Nat) : Int) by
    rw [hlen, show (1 : Int32) = iI 1 from rfl, iI_sub]; congr 1; omega]
  refine c_formOf (n := 5) (up_eq _ _ _) (by omega) (by omega) (fun k t ht => ?_) (by omega) (by omega) (fun N' q' hn hqn hFq => ?_)
  · have hk := (List.getElem?_eq_some_iff.mp ht).1
    rw [List.getElem?_eraseIdx] at ht
    by_cases c : k < j
    · rw [if_pos c] at ht
      obtain ⟨z, z1, z2⟩ := f3 k t ht
      refine ⟨z, ?_, hnw _ _ _ z2⟩
      unfold va_cpy
      rw [if_neg (by omega), if_pos (by omega), Nat.zero_add, Nat.sub_zero]
      exact z1
    · rw [if_neg c] at ht
      obtain ⟨z, z1, z2⟩ := f3 _ t ht
      refine ⟨z, ?_, hnw _ _ _ z2⟩
      unfold va_cpy
      rw [if_pos (by omega), show j + 1 + (k - j) = k + 1 by omega]
      exact z1
  · have hL' := (hL.nw (hnw _)).nw hn
    have hFq' := hFq
    obtain ⟨y2, g2, k1, k2, k3⟩ := hFq'
    refine ⟨a 3, rfl, _, _, hL'.slots, iI_in (by omega) (by omega) (by omega), q', rfl, _, k1, fun N2 e2 => ?_⟩
    rw [nat_i (by omega)] at e2
    subst e2
    exact h1 s j _ _ hs rfl rfl (by omega) (cM.put hL' (((hnw _).trans hn).kp a) hFq)
theorem c_lead_50 {post : Int32 → NM → Prop} {S : CS} {N : NM} {s j q nq y mc ms : Nat} {ts : List tm} {f : Nat → Option Nat} (hL : cL K a S N) (hs : s < 4) (hf : cF K N q ts) (h5 : ts.length ≤ 5) (hj : j < ts.length) (hnq : N nq = none) (f1 : N q = some (eO 7 [va_rf (some y)])) (f2 : N y = some (eR 5 ts.length f)) (f3 : rTs K N f ts) (hmc : 1 ≤ mc) (hms : 1 ≤ ms) (h1 : ∀ S' N', cM K a S N s (ldL ts j) S' N' → post 1 N') : ∀ (m k : Nat) (g : Nat → Option Nat), k + m + 1 = ts.length → (∀ i t, i < k + 1 → (ldL ts j)[i]? = some t → ∃ z, g i = some z ∧ N z = some (oTm K t)) → wX0_lead_50 K post (m + 1) (a 0) (iI s) (iI j) (some q) nq (iI k) mc ms (va_up N nq (some (eR 5 ts.length g))) := by
  have hnw : ∀ g', nw N (va_up N nq (some (eR 5 ts.length g'))) := fun g' => (nw.refl N).new hnq _
  have el : iI (ts.length : Int) - 1 = iI ((ts.length : Int) - 1) := iI_sub _ 1
  intro m
  induction m with
  | zero =>
    intro k g hk hg
    unfold wX0_lead_50
    refine ⟨q, rfl, _, hnw _ _ _ f1, c_many0 (hf.nw (hnw _)) ?_⟩
    rw [el]
    have hL1 := hL.nw (hnw g)
    refine b_t (by simp (disch := omega) only [iLit, lLit, iI_add, iI_sub, iI_mul, iI_neg, lI_add, lI_sub, lI_mul, lI_neg, nI_i, lI_i, iI_l, iI_nat, iI_lt, iI_le, iI_eq, lI_lt, lI_le, lI_eq] <;> omega) ⟨_, _, _, _, _, _, _, _, _, _, _, _, _, _, _, _, _, _, _, hL1.obj, hmc, hms, fun q2 hq2 N99 e99 => ?_⟩
    subst e99
    have hq2N : N q2 = none := (hnw g).none hq2
    have hne : nq ≠ q2 := fun e => by rw [e, up_eq] at hq2; cases hq2
    unfold wX6_init
    refine ⟨_, up_eq _ _ _, fun N3 e3 => ?_⟩
    rw [up_up] at e3
    subst e3
    have n3 := (hnw g).new hq2N (eO 7 [va_rf (some nq)])
    have hL3 := hL.nw n3
    have hll : (ldL ts j).length = ts.length := ldL_len hj
    have hF3 : cF K (va_up (va_up N nq (some (eR 5 ts.length g))) q2 (some (eO 7 [va_rf (some nq)]))) q2 (ldL ts j) := by
      refine ⟨nq, g, up_eq _ _ _, by rw [up_ne _ _ _ hne, hll]; exact up_eq _ _ _, fun i t ht => ?_⟩
      have hi := (List.getElem?_eq_some_iff.mp ht).1
      obtain ⟨z, z1, z2⟩ := hg i t (by omega) ht
      exact ⟨z, z1, n3 _ _ z2⟩
    refine ⟨a 3, rfl, _, _, hL3.slots, iI_in (by omega) (by omega) (by omega), _, up_eq _ _ _, fun N2 e2 => ?_⟩
    rw [nat_i (by omega)] at e2
    subst e2
    exact h1 _ _ (cM.put hL3 (n3.kp a) hF3)
  | succ m ih =>
    intro k g hk hg
    have k1 : iI (k : Int) + 1 = iI ((k + 1 : Nat) : Int) := iI_add k 1
    have run : ∀ v : Nat, v < ts.length → ts[v]? = (ldL ts j)[k + 1]? → wX0_lead_86 K (fun x0 x1 x2 x3 x4 x5 mc ms N => wX0_lead_50 K post (m + 1) x0 x1 x2 x3 x4 x5 mc ms N) post (a 0) (iI s) (iI j) (some q) nq (iI k) (iI (v : Nat)) (some y) (iI ((k + 1 : Nat) : Int)) nq mc ms (va_up N nq (some (eR 5 ts.length g))) := fun v hv ev => by
      obtain ⟨t, ht⟩ : ∃ t, ts[v]? = some t := ⟨_, List.getElem?_eq_getElem hv⟩
      obtain ⟨z, z1, z2⟩ := f3 v t ht
      unfold wX0_lead_86
      refine ⟨y, rfl, _, _, hnw _ _ _ f2, iI_in (by omega) (by omega) (by omega), _, _, up_eq _ _ _, iI_in (by omega) (by omega) (by omega), z, by rw [nat_i (by omega)]; exact z1, _, _, _, _, hnw _ _ _ z2, fun N2 e2 => ?_⟩
      rw [up_up, nat_i (by omega)] at e2
      subst e2
      rw [k1]
      refine ih (k + 1) _ (by omega) (fun i u hi hu => ?_)
      by_cases c : i = k + 1
      · subst c
        rw [← ev, ht] at hu
        cases hu
        exact ⟨z, up_eq _ _ _, z2⟩
      · rw [up_ne _ _ _ c]; exact hg i u (by omega) hu
    unfold wX0_lead_50
    refine ⟨q, rfl, _, hnw _ _ _ f1, c_many0 (hf.nw (hnw _)) ?_⟩
    rw [el]
    refine b_f (by simp (disch := omega) only [iLit, lLit, iI_add, iI_sub, iI_mul, iI_neg, lI_add, lI_sub, lI_mul, lI_neg, nI_i, lI_i, iI_l, iI_nat, iI_lt, iI_le, iI_eq, lI_lt, lI_le, lI_eq] <;> omega) ⟨_, hnw _ _ _ f1, ?_⟩
    rw [iI_le (by omega) (by omega) (by omega) (by omega), k1]
    have hls := ldL_s (i := j) (k := k + 1) hj (by omega)
    rw [show k + 1 - 1 = k by omega, List.getElem?_eraseIdx] at hls
    refine ⟨fun e => run (k + 1) (by omega) ?_, fun e => run k (by omega) ?_⟩
    · rw [hls, if_neg (by omega)]
    · rw [hls, if_pos (by omega)]
theorem c_lead {post : Int32 → NM → Prop} {MC MS : Nat} {S : CS} {N : NM} {F : Nat → List tm} {z i : Int} (hL : cL K a S N) (hF : cSlots K S N F) (hz : i32 z) (hi : i32 i) (hMC : 20 ≤ MC) (hMS : 1000 ≤ MS) (h0 : ¬ (0 ≤ z ∧ z ≤ 3 ∧ 0 ≤ i ∧ i < (F z.toNat).length) → post 0 N) (h1 : ∀ (s j : Nat) S' N', s < 4 → z = s → i = j → j < (F s).length → cM K a S N s (ldL (F s) j) S' N' → post 1 N') : wX0_lead K post MC MS N (a 0) (iI z) (iI i) := by
  unfold wX0_lead
  refine ⟨_, _, _, _, _, _, _, _, _, _, _, _, _, _, _, _, _, _, _, hL.obj, 3, 210, by omega, by omega, c_at hL hF hz (by omega) (by omega) (fun hq => ⟨fun _ => h0 (fun w => hq ⟨w.1, w.2.1, fun e => by rw [e] at w; have := w.2.2.2; simp at this; omega⟩), fun _ e => by cases e⟩) (fun s q hs e hne hq hf hv => ⟨fun e => (by cases e), fun _ ea => ?_⟩)⟩
  cases ea
  subst e
  have h5 := hv.1
  rw [show ((s : Int)).toNat = s by omega] at h0
  have hf' := hf
  obtain ⟨y, f, f1, f2, f3⟩ := hf'
  refine ⟨_, f1, c_many0 hf ?_⟩
  rw [show iI ((F s).length : Int) - 1 = iI (((F s).length : Int) - 1) from iI_sub _ 1, iI_l hi.1 hi.2, iI_l (z := ((F s).length : Int) - 1) (by omega) (by omega)]
  refine c_isIn (b := 0) (by omega) (by omega) (by omega) (fun c1 c2 => b_f (by decide) ⟨_, f1, c_many0 hf ?_⟩) (fun c => b_t rfl (h0 (fun w => c (by omega))))
  obtain ⟨j, rfl⟩ : ∃ j : Nat, i = j := ⟨i.toNat, by omega⟩
  have el : (iI ((F s).length : Int)).toNatClampNeg = (F s).length := nat_i (by omega)
  rw [el]
  refine ⟨?_, by omega, by omega, by omega, fun nq hnq N46 e46 => ?_⟩
  · rw [show (0 : Int32) = iI 0 from rfl, iI_lt (by omega) (by omega) (by omega) (by omega)]; omega
  subst e46
  have hnw : ∀ g', nw N (va_up N nq (some (eR 5 (F s).length g'))) := fun g' => (nw.refl N).new hnq _
  obtain ⟨t, ht⟩ : ∃ t, (F s)[j]? = some t := ⟨_, List.getElem?_eq_getElem (by omega)⟩
  obtain ⟨u, u1, u2⟩ := f3 j t ht
  refine ⟨_, hnw _ _ _ f1, y, rfl, _, _, hnw _ _ _ f2, iI_in (by omega) (by omega) (by omega), iI_in (z := 0) (by omega) (by omega) (by omega), u, by rw [nat_i (by omega)]; exact u1, _, _, _, _, hnw _ _ _ u2, fun N63 e63 => ⟨(F s).length - 1 + 1, ?_⟩⟩
  rw [up_up] at e63
  subst e63
  refine c_lead_50 hL hs hf h5 (by omega) hnq f1 f2 f3 (by omega) (by omega) (fun S' N' hM => h1 s j S' N' hs rfl rfl (by omega) hM) ((F s).length - 1) 0 _ (by omega) (fun i v hi hv' => ?_)
  have hi0 : i = 0 := by omega
  subst hi0
  rw [ldL_0 (by omega), ht] at hv'
  cases hv'
  exact ⟨u, rfl, u2⟩
theorem c_look {post : Int32 → NM → Prop} {MC MS : Nat} {S : CS} {N : NM} {F : Nat → List tm} {n l p k : Int} (hL : cL K a S N) (hF : cSlots K S N F) (h13 : S.1.2 13 = iI n) (h9 : S.1.2 9 = iI l) (h10 : S.1.2 10 = iI p) (hk : i32 k) (hMC : 6 ≤ MC) (hMS : 420 ≤ MS) (h : post (iI (if 0 ≤ k ∧ k ≤ 3 then ((F k.toNat).length : Int) else if k = 4 then n else if k = 5 then l else if k = 6 then p else -1)) N) : wX0_look K post MC MS N (a 0) (iI k) := by
  unfold wX0_look
  refine c_isSlot hk (fun k1 k2 => b_f (by decide) ?_) (fun c => b_t rfl ?_)
  · rw [if_pos ⟨k1, k2⟩] at h
    refine ⟨_, _, _, _, _, _, _, _, _, _, _, _, _, _, _, _, _, _, _, hL.obj, 3, 210, by omega, by omega, c_at hL hF hk (by omega) (by omega) (fun hq => ⟨fun _ => ?_, fun _ e => by cases e⟩) (fun s q hs e hne hq hf hv => ⟨fun e => (by cases e), fun _ ea => ⟨_, _, _, _, _, _, _, _, _, _, _, _, _, _, _, _, _, _, _, hL.obj, 3, 210, by omega, by omega, ?_⟩⟩)⟩
    · have : F k.toNat = [] := Classical.byContradiction fun c => hq ⟨k1, k2, c⟩
      rw [this] at h
      exact h
    · refine c_at hL hF hk (by omega) (by omega) (fun hq2 => absurd ⟨k1, k2, by rw [show k.toNat = s by omega]; exact hne⟩ hq2) (fun s2 q2 hs2 e2 hne2 hq2 hf2 hv2 => ?_)
      have hf' := hf2
      obtain ⟨y, f, f1, f2, f3⟩ := hf'
      refine ⟨q2, rfl, _, f1, c_many0 hf2 ?_⟩
      rw [show k.toNat = s2 by omega] at h
      exact h
  · rw [if_neg c] at h
    simp (disch := omega) only [iLit, lLit, iI_add, iI_sub, iI_mul, iI_neg, lI_add, lI_sub, lI_mul, lI_neg, nI_i, lI_i, iI_eq]
    refine ⟨fun e => ⟨_, _, _, _, _, _, _, _, _, _, _, _, _, _, _, _, _, _, _, hL.obj, ?_⟩, fun e => ⟨fun e2 => ⟨_, _, _, _, _, _, _, _, _, _, _, _, _, _, _, _, _, _, _, hL.obj, ?_⟩, fun e2 => ⟨fun e3 => ⟨_, _, _, _, _, _, _, _, _, _, _, _, _, _, _, _, _, _, _, hL.obj, ?_⟩, fun e3 => ?_⟩⟩⟩
    · rw [if_pos e] at h; rw [h13]; exact h
    · rw [if_neg e, if_pos e2] at h; rw [h9]; exact h
    · rw [if_neg e, if_neg e2, if_pos e3] at h; rw [h10]; exact h
    · rw [if_neg e, if_neg e2, if_neg e3] at h; exact h
theorem c_end {post : Int32 → NM → Prop} {S : CS} {N : NM} {n : Nat} {k : Int} (hL : cL K a S N) (h13 : S.1.2 13 = iI n) (hn : n ≤ 800) (hk : i32 k) (h0 : ¬ (0 ≤ k ∧ k ≤ n) → post 0 N) (h1 : ∀ j : Nat, k = j → j ≤ n → ∀ N', cL K a (cN S 13 (iI j)) N' → kp a N N' → post 1 N') : wX0_end K post N (a 0) (iI k) := by
  unfold wX0_end
  refine ⟨_, _, _, _, _, _, _, _, _, _, _, _, _, _, _, _, _, _, _, hL.obj, ?_⟩
  rw [h13, iI_l hk.1 hk.2, iI_l (by omega) (by omega)]
  refine c_isIn (b := 0) (by omega) (by omega) (by omega) (fun c1 c2 => b_f (by decide) (fun N23 e23 => ?_)) (fun c => b_t rfl (h0 c))
  obtain ⟨j, rfl⟩ : ∃ j : Nat, k = j := ⟨k.toNat, by omega⟩
  have e23 : N23 = va_up N (a 0) (some (oT a (cN S 13 (iI j)))) := e23
  subst e23
  exact h1 j rfl (by omega) _ (hL.setV rfl) ((kp.refl a N).at (by omega) _)
end
