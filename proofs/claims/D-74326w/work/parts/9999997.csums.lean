set_option maxRecDepth 100000
set_option maxHeartbeats 4000000
/-! the component reads powers, products, sums -/
section
variable {K : Nat → Nat → Nat} {a : Nat → Nat}
theorem pw_bd {T : Nat → Int} {n j : Nat} {rcP : Nat → xst → xR} {s : xst} (hgr : rcGr n rcP) (hs : xOk n s) : bdX s (ptR T n rcP j s) ≤ bdX s (pwR T n rcP j s) := by
  unfold pwR
  cases e : ptR T n rcP j s with
  | inl y => exact Nat.le_refl _
  | inr s1 =>
    have g := ptR_gr hgr hs e
    have g1 := g.1.2.1
    unfold pwC
    dsimp only
    split
    · exact Nat.le_refl _
    split
    · show s1.2.2.1 - s.2.2.1 ≤ 61 - s.2.2.1; omega
    split
    · show s1.2.2.1 - s.2.2.1 ≤ 61 - s.2.2.1; omega
    · exact Nat.le_refl _
theorem c_raised {rcW : rcT} {rcP : Nat → xst → xR} {post : Option Nat → NM → Prop} {xp : Nat → List Nat → NM → Prop} {S : CS} {N : NM} {T : Nat → Int} {n x rp MC MS j : Nat} {b : Int32} {s : xst} (hT : cTape S T n) (hgr : rcGr n rcP) (hrc : j < 6 → rcC K a S n x rp rcW rcP (j + 1)) (hs : xOk n s) (hj : j ≤ 6) (hL : cL K a S N) (hx : N x = some (rdr a s.1 b (iI (j : Nat)))) (hr : N rp = some (rpC s.2.2.1 s.2.2.2)) (hMC : 16 * bdX s (pwR T n rcP j s) ≤ MC + 2) (hMS : 160 * bdX s (pwR T n rcP j s) ≤ MS + 20) (hO : xO a x rp N s.2.1 j (pwR T n rcP j s) post xp) : wX2_raised K rcW post xp MC MS N x (some rp) := by
  have ht8 := hT.1
  have hne := rp_ne hx hr
  have hle := pw_bd (T := T) (j := j) hgr hs
  have hΔ : 1 ≤ bdX s (ptR T n rcP j s) ∧ bdX s (ptR T n rcP j s) ≤ 61 - s.2.2.1 := bdX_pos hs (fun s' h => ptR_gr hgr hs h)
  unfold wX2_raised
  refine ⟨_, _, _, _, hx, 16 * bdX s (ptR T n rcP j s) - 6, 160 * bdX s (ptR T n rcP j s) - 60, by omega, by omega, c_part hT hgr hrc hs hj hL hx hr (by omega) (by omega) ⟨fun s1 hR N1 q b1 X k1 x1 r1 eX hS1 => ?_, fun k pl i hR N1 y f1 f2 f3 f4 g p' b' k1 d1 x1 y0 hy fs hfs => hO.2 k pl i (by unfold pwR; rw [hR]; rfl) N1 y f1 f2 f3 f4 g p' b' k1 d1 x1 y0 hy⟩⟩
  have g := ptR_gr hgr hs hR
  have hs1 := g.1
  have hL1 := hL.k2 hx hr k1
  have hO1 := hO.st k1 x1 r1
  have eR : pwR T n rcP j s = pwC T n j (.inr s1) := by unfold pwR; rw [hR]
  refine ⟨_, _, _, _, x1, ?_⟩
  rw [show (94 : Int32) = iI 94 from rfl]
  refine c_passesS hL1 hT x1 hs1.1 (by omega) (fun c1 c2 => b_f (by decide) ?_) (fun c => b_t rfl ?_)
  · have c94 : sgIs T n s1.1 94 := (sgIs_iff (by decide)).2 ⟨c1, c2⟩
    have k3 := (k2.refl x rp N1).atx (some (rdr a (sk T n (s1.1 + 1)) b1 (iI (j : Nat))))
    have x3 := up_eq N1 x (some (rdr a (sk T n (s1.1 + 1)) b1 (iI (j : Nat))))
    have r3 : va_up N1 x (some (rdr a (sk T n (s1.1 + 1)) b1 (iI (j : Nat)))) rp = some (rpC s1.2.2.1 s1.2.2.2) := by rw [up_ne _ _ _ (Ne.symm hne)]; exact r1
    have hL3 := hL1.k2 x1 r1 k3
    have hO3 := hO1.st k3 x3 r3
    have hS3 := hS1.k2 x1 r1 k3
    obtain ⟨N3, eN3⟩ : ∃ N3, N3 = va_up N1 x (some (rdr a (sk T n (s1.1 + 1)) b1 (iI (j : Nat)))) := ⟨_, rfl⟩
    rw [← eN3] at x3 r3 hL3 hO3 hS3 ⊢
    rw [← nxT_sg c94] at x3
    obtain ⟨p2, ep2⟩ : ∃ p2, p2 = nxT T n s1.1 := ⟨_, rfl⟩
    have hp2 : p2 ≤ n := by rw [ep2]; exact (nxT_le hs1.1).2
    rw [← ep2] at x3
    have eR2 : pwR T n rcP j s = if ¬ isNb T n p2 then .inl (1, p2, (j : Nat)) else if 6 < numV T n p2 then .inl (10, p2, (j : Nat)) else .inr (nxT T n p2, s1.2.1 ++ [(94, numV T n p2)], s1.2.2) := by
      rw [eR]; unfold pwC; dsimp only; rw [if_neg (fun z => z c94), ← ep2]
    have e1 : bdX s (ptR T n rcP j s) = s1.2.2.1 - s.2.2.1 := by rw [hR]; rfl
    refine ⟨_, _, _, _, x3, 2, 16, by omega, by omega, c_rdNumD hL3 hT x3 hp2 (by omega) (by omega) (fun hb => ?_) (fun hb p' b' y f1 f2 f3 f4 g hy fs hfs => hO3.bad' x3 (by rw [eR2, if_pos hb]) hy)⟩
    have k4 := (k2.refl x rp N3).atx (some (rdr a (nxT T n p2) (iI (p2 : Nat)) (iI (j : Nat))))
    have x4 := up_eq N3 x (some (rdr a (nxT T n p2) (iI (p2 : Nat)) (iI (j : Nat))))
    have r4 : va_up N3 x (some (rdr a (nxT T n p2) (iI (p2 : Nat)) (iI (j : Nat)))) rp = some (rpC s1.2.2.1 s1.2.2.2) := by rw [up_ne _ _ _ (Ne.symm hne)]; exact r3
    have hO4 := hO3.st k4 x4 r4
    have hS4 := hS3.k2 x3 r3 k4
    obtain ⟨N4, eN4⟩ : ∃ N4, N4 = va_up N3 x (some (rdr a (nxT T n p2) (iI (p2 : Nat)) (iI (j : Nat)))) := ⟨_, rfl⟩
    rw [← eN4] at x4 r4 hO4 hS4 ⊢
    rw [if_neg (fun z => z hb)] at eR2
    have hv := numV_in (T := T) (n := n) (p := p2)
    rw [show (6 : Int32) = iI 6 from rfl, iI_lt (by omega) (by omega) (by omega) (by omega)]
    refine ⟨fun c => ?_, fun c => ?_⟩
    · unfold wX2_raised_34
      exact ⟨_, _, _, _, x4, _, _, _, _, x4, 1, 8, by omega, by omega, c_mustE 10 (p2 : Nat) rfl rfl (by omega) (by omega) (fun e => absurd rfl e) (fun _ y f1 f2 f3 f4 g hy fs hfs => hO4.bad x4 (by rw [eR2, if_pos c]) hy)⟩
    · unfold wX2_raised_34
      refine ⟨_, _, _, _, x4, _, _, _, _, x4, 1, 8, by omega, by omega, c_mustE 10 (p2 : Nat) rfl rfl (by omega) (by omega) (fun _ => ⟨1, 2, by omega, by omega, c_power (by omega) (by omega) (fun q2 hq2 => ?_)⟩) (fun e => absurd e (by decide))⟩
      have q2x : x ≠ q2 := fun c => by rw [← c, x4] at hq2; cases hq2
      have q2r : rp ≠ q2 := fun c => by rw [← c, r4] at hq2; cases hq2
      have n5 := (nw.refl N4).new hq2 (eO 11 [va_rf (some q), .int (iI (numV T n p2))])
      refine hO4.1 (nxT T n p2, s1.2.1 ++ [(94, numV T n p2)], s1.2.2) (by rw [eR2, if_neg c]) _ q2 (iI (p2 : Nat)) (X ++ [(94, numV T n p2)]) n5.k2 (n5 _ _ x4) (n5 _ _ r4) (by show s1.2.1 ++ _ = _; rw [eX, List.append_assoc]) ?_
      unfold cS
      rw [List.length_append, List.length_singleton]
      exact Or.inr (Or.inr (Or.inr ⟨numV T n p2, q, X, up_eq _ _ _, hv.1, by omega, rfl, hS4.k2 x4 r4 n5.k2⟩))
  · have c94 : ¬ sgIs T n s1.1 94 := fun z => c ((sgIs_iff (by decide)).1 z)
    exact hO1.1 s1 (by rw [eR]; unfold pwC; dsimp only; rw [if_pos c94]) N1 q b1 X (k2.refl x rp N1) x1 r1 eX hS1
theorem bd_seq {s s1 : xst} {R : xR} {n : Nat} (h1 : s.2.2.1 ≤ s1.2.2.1) (h2 : s1.2.2.1 ≤ 60) (h3 : ∀ s', R = .inr s' → s1.2.2.1 ≤ s'.2.2.1) : bdX s R = (s1.2.2.1 - s.2.2.1) + bdX s1 R := by
  cases R with
  | inl y => show 61 - s.2.2.1 = (s1.2.2.1 - s.2.2.1) + (61 - s1.2.2.1); omega
  | inr s' => show s'.2.2.1 - s.2.2.1 = (s1.2.2.1 - s.2.2.1) + (s'.2.2.1 - s1.2.2.1); have := h3 s' rfl; omega
theorem bd_at (s : xst) (p : Nat) (C : List (Int × Int)) (R : xR) : bdX (p, C, s.2.2) R = bdX s R := by cases R <;> rfl
/-- two sums are joined -/
theorem cS.join {N : NM} {q qa qb : Nat} {c : Int} {Xa Xb : List (Int × Int)} (ha : cS N qa Xa) (hb : cS N qb Xb) (hc : c = 42 ∨ c = 43 ∨ c = 45) (hq : N q = some (eO 10 [va_rf (some qa), va_rf (some qb), .int (iI c)])) : cS N q (Xa ++ (Xb ++ [(c, 0)])) := by
  unfold cS
  rw [List.length_append, List.length_append, List.length_singleton, ← Nat.add_assoc]
  exact Or.inr (Or.inr (Or.inl ⟨c, qa, qb, Xa, Xb, hq, hc, rfl, cSm.le ha (by omega), cSm.le hb (by omega)⟩))
theorem c_pd6 {rcW : rcT} {rcP : Nat → xst → xR} {post : Option Nat → NM → Prop} {xp : Nat → List Nat → NM → Prop} {S : CS} {T : Nat → Int} {n x rp j : Nat} {C : List (Int × Int)} (hT : cTape S T n) (hgr : rcGr n rcP) (hrc : j < 6 → rcC K a S n x rp rcW rcP (j + 1)) (hj : j ≤ 6) : ∀ (m : Nat) (s : xst) (N : NM) (qa : Nat) (Xa : List (Int × Int)) (b : Int32) (mc ms : Nat), xOk n s → 61 ≤ m + s.2.2.1 → s.2.1 = C ++ Xa → cS N qa Xa → cL K a S N → N x = some (rdr a s.1 b (iI (j : Nat))) → N rp = some (rpC s.2.2.1 s.2.2.2) → 16 * bdX s (pdL T n rcP j m s) ≤ mc → 160 * bdX s (pdL T n rcP j m s) ≤ ms → xO a x rp N C j (pdL T n rcP j m s) post xp → wX2_product_6 K rcW post xp (m + 1) x (some rp) (some qa) mc ms N := by
  have ht8 := hT.1
  intro m
  induction m with
  | zero => intro s N qa Xa b mc ms hs h61; have := hs.2.1; omega
  | succ m ih =>
    intro s N qa Xa b mc ms hs h61 eC hS hL hx hr hmc hms hO
    have hne := rp_ne hx hr
    unfold wX2_product_6
    refine ⟨_, _, _, _, hx, ?_⟩
    rw [show (42 : Int32) = iI 42 from rfl]
    refine c_passesS hL hT hx hs.1 (by omega) (fun c1 c2 => b_f (by decide) ?_) (fun c => b_t rfl ?_)
    · have c42 : sgIs T n s.1 42 := (sgIs_iff (by decide)).2 ⟨c1, c2⟩
      have k1 := (k2.refl x rp N).atx (some (rdr a (sk T n (s.1 + 1)) b (iI (j : Nat))))
      have x1 := up_eq N x (some (rdr a (sk T n (s.1 + 1)) b (iI (j : Nat))))
      have r1 : va_up N x (some (rdr a (sk T n (s.1 + 1)) b (iI (j : Nat)))) rp = some (rpC s.2.2.1 s.2.2.2) := by rw [up_ne _ _ _ (Ne.symm hne)]; exact hr
      have hL1 := hL.k2 hx hr k1
      have hO1 := hO.st k1 x1 r1
      have hS1 := hS.k2 hx hr k1
      obtain ⟨N1, eN1⟩ : ∃ N1, N1 = va_up N x (some (rdr a (sk T n (s.1 + 1)) b (iI (j : Nat)))) := ⟨_, rfl⟩
      rw [← eN1] at x1 r1 hL1 hO1 hS1 ⊢
      rw [← nxT_sg c42] at x1
      obtain ⟨s0, es0⟩ : ∃ s0 : xst, s0 = (nxT T n s.1, s.2) := ⟨_, rfl⟩
      have hs0 : xOk n s0 := by rw [es0]; exact hs.at (nxT_le hs.1).2
      have eL : pdL T n rcP j (m + 1) s = xBind (pwR T n rcP j s0) (fun s' => pdL T n rcP j m (xPut 42 s')) := by
        show (if ¬ sgIs T n s.1 42 then _ else _) = _
        rw [if_neg (fun z => z c42), es0]
      have e0 : s0.2 = s.2 := by rw [es0]
      have x1' : N1 x = some (rdr a s0.1 b (iI (j : Nat))) := by rw [es0]; exact x1
      have r1' : N1 rp = some (rpC s0.2.2.1 s0.2.2.2) := by rw [e0]; exact r1
      have bE : ∀ R, bdX s R = bdX s0 R := fun R => by rw [es0]; exact (bd_at s _ _ R).symm
      have hΔ : 1 ≤ bdX s0 (pwR T n rcP j s0) ∧ bdX s0 (pwR T n rcP j s0) ≤ 61 - s0.2.2.1 := bdX_pos hs0 (fun s' h => pwR_gr hgr hs0 h)
      have tot : ∀ s1, pwR T n rcP j s0 = .inr s1 → bdX s (pdL T n rcP j (m + 1) s) = bdX s0 (pwR T n rcP j s0) + bdX (xPut 42 s1) (pdL T n rcP j m (xPut 42 s1)) := fun s1 h => by
        have g := pwR_gr hgr hs0 h
        have hs1 : xOk n (xPut 42 s1) := (xPut_ge hs (by rw [es0] : s0.2 = s.2) (Or.inl rfl) g).1
        have e1 : pdL T n rcP j (m + 1) s = pdL T n rcP j m (xPut 42 s1) := by rw [eL, h]; rfl
        rw [e1, h, bE, bd_seq (n := n) (s1 := s1) (by have := g.2.1; omega) g.1.2.1 (fun s' h' => (pdL_gr hgr m _ _ hs1 h').2.1)]
        rfl
      have bad : ∀ y, pwR T n rcP j s0 = .inl y → pdL T n rcP j (m + 1) s = .inl y := fun y h => by rw [eL, h]; rfl
      have hle : bdX s0 (pwR T n rcP j s0) ≤ bdX s (pdL T n rcP j (m + 1) s) := by
        cases e : pwR T n rcP j s0 with
        | inl y => rw [bad y e, bE]; exact Nat.le_refl _
        | inr s1 => have := tot s1 e; rw [e] at this; omega
      refine ⟨_, _, _, _, x1, 16 * bdX s0 (pwR T n rcP j s0) - 2, 160 * bdX s0 (pwR T n rcP j s0) - 20, by omega, by omega, c_raised hT hgr hrc hs0 hj hL1 x1' r1' (by omega) (by omega) ⟨fun s1 hR N2 q b2 X k2' x2 r2 eX hS2 => ?_, fun k pl i hR N2 y f1 f2 f3 f4 g p' b' k2' d2 x2 y0 hy fs hfs => hO1.2 k pl i (bad _ hR) N2 y f1 f2 f3 f4 g p' b' k2' d2 x2 y0 hy⟩⟩
      have g := pwR_gr hgr hs0 hR
      have g1 := g.2.1
      have ge := xPut_ge hs e0 (Or.inl rfl) g
      have hS2a := hS1.k2 x1' r1' k2'
      have t := tot s1 hR
      refine ⟨1, 3, by omega, by omega, c_both (by omega) (by omega) (fun q3 hq3 => ?_)⟩
      have n3 := (nw.refl N2).new hq3 (eO 10 [va_rf (some qa), va_rf (some q), .int (iI 42)])
      have x3 := n3 _ _ x2
      have r3 := n3 _ _ r2
      refine ih (xPut 42 s1) _ q3 (Xa ++ (X ++ [(42, 0)])) b2 _ _ ge.1 (by show 61 ≤ m + s1.2.2.1; rw [e0] at g1; omega) (by show s1.2.1 ++ [(42, 0)] = _; rw [eX, e0, eC, List.append_assoc, List.append_assoc]) (cS.join (hS2a.k2 x2 r2 n3.k2) (hS2.k2 x2 r2 n3.k2) (Or.inl rfl) (up_eq _ _ _)) ((hL1.k2 x1' r1' k2').k2 x2 r2 n3.k2) x3 r3 (by omega) (by omega) ?_
      have e1 : pdL T n rcP j (m + 1) s = pdL T n rcP j m (xPut 42 s1) := by rw [eL, hR]; rfl
      rw [e1] at hO1
      exact (hO1.st k2' x2 r2).st n3.k2 x3 r3
    · have c42 : ¬ sgIs T n s.1 42 := fun z => c ((sgIs_iff (by decide)).1 z)
      have e1 : pdL T n rcP j (m + 1) s = .inr s := by
        show (if ¬ sgIs T n s.1 42 then _ else _) = _
        rw [if_pos c42]
      exact hO.1 s e1 N qa b Xa (k2.refl x rp N) hx hr eC hS
theorem c_product2 {rcW : rcT} {rcP : Nat → xst → xR} {post : Option Nat → NM → Prop} {xp : Nat → List Nat → NM → Prop} {S : CS} {N : NM} {T : Nat → Int} {n x rp MC MS j : Nat} {b : Int32} {s : xst} (hT : cTape S T n) (hgr : rcGr n rcP) (hrc : j < 6 → rcC K a S n x rp rcW rcP (j + 1)) (hs : xOk n s) (hj : j ≤ 6) (hL : cL K a S N) (hx : N x = some (rdr a s.1 b (iI (j : Nat)))) (hr : N rp = some (rpC s.2.2.1 s.2.2.2)) (hMC : 16 * bdX s (pdR T n rcP j s) ≤ MC + 1) (hMS : 160 * bdX s (pdR T n rcP j s) ≤ MS + 10) (hO : xO a x rp N s.2.1 j (pdR T n rcP j s) post xp) : wX2_product K rcW post xp MC MS N x (some rp) := by
  have hΔ : 1 ≤ bdX s (pwR T n rcP j s) ∧ bdX s (pwR T n rcP j s) ≤ 61 - s.2.2.1 := bdX_pos hs (fun s' h => pwR_gr hgr hs h)
  have tot : ∀ s1, pwR T n rcP j s = .inr s1 → bdX s (pdR T n rcP j s) = bdX s (pwR T n rcP j s) + bdX s1 (pdL T n rcP j 61 s1) := fun s1 h => by
    have g := pwR_gr hgr hs h
    have e1 : pdR T n rcP j s = pdL T n rcP j 61 s1 := by unfold pdR; rw [h]; rfl
    rw [e1, h, bd_seq (n := n) (s1 := s1) (by have := g.2.1; omega) g.1.2.1 (fun s' h' => (pdL_gr hgr 61 _ _ g.1 h').2.1)]
    rfl
  have bad : ∀ y, pwR T n rcP j s = .inl y → pdR T n rcP j s = .inl y := fun y h => by unfold pdR; rw [h]; rfl
  have hle : bdX s (pwR T n rcP j s) ≤ bdX s (pdR T n rcP j s) := by
    cases e : pwR T n rcP j s with
    | inl y => rw [bad y e]; exact Nat.le_refl _
    | inr s1 => have := tot s1 e; rw [e] at this; omega
  unfold wX2_product
  refine ⟨_, _, _, _, hx, 16 * bdX s (pwR T n rcP j s) - 2, 160 * bdX s (pwR T n rcP j s) - 20, by omega, by omega, c_raised hT hgr hrc hs hj hL hx hr (by omega) (by omega) ⟨fun s1 hR N2 q b2 X k2' x2 r2 eX hS2 => ⟨62, ?_⟩, fun k pl i hR N2 y f1 f2 f3 f4 g p' b' k2' d2 x2 y0 hy fs hfs => hO.2 k pl i (bad _ hR) N2 y f1 f2 f3 f4 g p' b' k2' d2 x2 y0 hy⟩⟩
  have g := pwR_gr hgr hs hR
  have g1 := g.2.1
  have t := tot s1 hR
  have e1 : pdR T n rcP j s = pdL T n rcP j 61 s1 := by unfold pdR; rw [hR]; rfl
  rw [e1] at hO
  exact c_pd6 hT hgr hrc hj 61 s1 N2 q X b2 _ _ g.1 (by omega) eX hS2 (hL.k2 hx hr k2') x2 r2 (by omega) (by omega) (hO.st k2' x2 r2)
theorem c_sm11 {rcW : rcT} {rcP : Nat → xst → xR} {post : Option Nat → NM → Prop} {xp : Nat → List Nat → NM → Prop} {S : CS} {T : Nat → Int} {n x rp j : Nat} {C : List (Int × Int)} (hT : cTape S T n) (hgr : rcGr n rcP) (hrc : j < 6 → rcC K a S n x rp rcW rcP (j + 1)) (hj : j ≤ 6) : ∀ (m : Nat) (s : xst) (N : NM) (qa : Nat) (Xa : List (Int × Int)) (b : Int32) (mc ms : Nat), xOk n s → 61 ≤ m + s.2.2.1 → s.2.1 = C ++ Xa → cS N qa Xa → cL K a S N → N x = some (rdr a s.1 b (iI (j : Nat))) → N rp = some (rpC s.2.2.1 s.2.2.2) → 16 * bdX s (smL T n rcP j m s) ≤ mc → 160 * bdX s (smL T n rcP j m s) ≤ ms → xO a x rp N C j (smL T n rcP j m s) post xp → wX2_sum_11 K rcW post xp (m + 1) x (some rp) (some qa) (iI (chr T n s.1)) mc ms N := by
  have ht8 := hT.1
  intro m
  induction m with
  | zero => intro s N qa Xa b mc ms hs h61; have := hs.2.1; omega
  | succ m ih =>
    intro s N qa Xa b mc ms hs h61 eC hS hL hx hr hmc hms hO
    have hne := rp_ne hx hr
    have hcc := hT.sg s.1
    have eS : ∀ c, isL c = false ∧ isD c = false → 0 ≤ c → (chr T n s.1 = c ↔ sgIs T n s.1 c) := fun c hc h0 => by
      rw [sgIs_iff hc]
      unfold chr
      by_cases c1 : s.1 < n
      · rw [if_pos c1]; exact ⟨fun e => ⟨c1, e⟩, fun e => e.2⟩
      · rw [if_neg c1]; exact ⟨fun e => by omega, fun e => absurd e.1 c1⟩
    have go : ∀ c : Int, (c = 43 ∨ c = 45) → sgIs T n s.1 c → wX2_sum_23 K rcW (fun x0 x1 x2 x3 mc ms N => wX2_sum_11 K rcW post xp (m + 1) x0 x1 x2 x3 mc ms N) post xp x (some rp) (some qa) (iI c) mc ms N := by
      intro c hc0 hc
      have hpn := sg_lt hc
      unfold wX2_sum_23
      refine ⟨_, _, _, _, hx, fun N32 e32 => ?_⟩
      rw [rp_inc] at e32
      have hL0 : cL K a S N32 := by rw [e32]; exact hL.rd hx _
      refine c_skips hL0 hT (at_up e32) (by omega) ?_
      rw [e32, up_up]
      have k1 := (k2.refl x rp N).atx (some (rdr a (sk T n (s.1 + 1)) b (iI (j : Nat))))
      have x1 := up_eq N x (some (rdr a (sk T n (s.1 + 1)) b (iI (j : Nat))))
      have r1 : va_up N x (some (rdr a (sk T n (s.1 + 1)) b (iI (j : Nat)))) rp = some (rpC s.2.2.1 s.2.2.2) := by rw [up_ne _ _ _ (Ne.symm hne)]; exact hr
      have hL1 := hL.k2 hx hr k1
      have hO1 := hO.st k1 x1 r1
      have hS1 := hS.k2 hx hr k1
      obtain ⟨N1, eN1⟩ : ∃ N1, N1 = va_up N x (some (rdr a (sk T n (s.1 + 1)) b (iI (j : Nat)))) := ⟨_, rfl⟩
      rw [← eN1] at x1 r1 hL1 hO1 hS1 ⊢
      rw [← nxT_sg hc] at x1
      obtain ⟨s0, es0⟩ : ∃ s0 : xst, s0 = (nxT T n s.1, s.2) := ⟨_, rfl⟩
      have hs0 : xOk n s0 := by rw [es0]; exact hs.at (nxT_le hs.1).2
      have esg : sgnV T n s.1 = c := by unfold sgnV; rw [if_pos hc.1]; exact hc.2
      have eL : smL T n rcP j (m + 1) s = xBind (pdR T n rcP j s0) (fun s' => smL T n rcP j m (xPut c s')) := by
        show (if ¬ (sgIs T n s.1 43 ∨ sgIs T n s.1 45) then _ else _) = _
        rw [if_neg (fun z => z (by rcases hc0 with e | e; exact Or.inl (by rw [← e]; exact hc); exact Or.inr (by rw [← e]; exact hc))), es0, esg]
      have hc42 : c = 42 ∨ c = 43 ∨ c = 45 := Or.inr hc0
      have e0 : s0.2 = s.2 := by rw [es0]
      have x1' : N1 x = some (rdr a s0.1 b (iI (j : Nat))) := by rw [es0]; exact x1
      have r1' : N1 rp = some (rpC s0.2.2.1 s0.2.2.2) := by rw [e0]; exact r1
      have bE : ∀ R, bdX s R = bdX s0 R := fun R => by rw [es0]; exact (bd_at s _ _ R).symm
      have hΔ : 1 ≤ bdX s0 (pdR T n rcP j s0) ∧ bdX s0 (pdR T n rcP j s0) ≤ 61 - s0.2.2.1 := bdX_pos hs0 (fun s' h => pdR_gr hgr hs0 h)
      have tot : ∀ s1, pdR T n rcP j s0 = .inr s1 → bdX s (smL T n rcP j (m + 1) s) = bdX s0 (pdR T n rcP j s0) + bdX (xPut c s1) (smL T n rcP j m (xPut c s1)) := fun s1 h => by
        have g := pdR_gr hgr hs0 h
        have hs1 : xOk n (xPut c s1) := (xPut_ge hs (by rw [es0] : s0.2 = s.2) hc42 g).1
        have e1 : smL T n rcP j (m + 1) s = smL T n rcP j m (xPut c s1) := by rw [eL, h]; rfl
        rw [e1, h, bE, bd_seq (n := n) (s1 := s1) (by have := g.2.1; omega) g.1.2.1 (fun s' h' => (smL_gr hgr m _ _ hs1 h').2.1)]
        rfl
      have bad : ∀ y, pdR T n rcP j s0 = .inl y → smL T n rcP j (m + 1) s = .inl y := fun y h => by rw [eL, h]; rfl
      have hle : bdX s0 (pdR T n rcP j s0) ≤ bdX s (smL T n rcP j (m + 1) s) := by
        cases e : pdR T n rcP j s0 with
        | inl y => rw [bad y e, bE]; exact Nat.le_refl _
        | inr s1 => have := tot s1 e; rw [e] at this; omega
      refine ⟨_, _, _, _, x1, 16 * bdX s0 (pdR T n rcP j s0) - 1, 160 * bdX s0 (pdR T n rcP j s0) - 10, by omega, by omega, c_product2 hT hgr hrc hs0 hj hL1 x1' r1' (by omega) (by omega) ⟨fun s1 hR N2 q b2 X k2' x2 r2 eX hS2 => ?_, fun k pl i hR N2 y f1 f2 f3 f4 g p' b' k2' d2 x2 y0 hy fs hfs => hO1.2 k pl i (bad _ hR) N2 y f1 f2 f3 f4 g p' b' k2' d2 x2 y0 hy⟩⟩
      have g := pdR_gr hgr hs0 hR
      have g1 := g.2.1
      have ge := xPut_ge hs e0 hc42 g
      have hS2a := hS1.k2 x1' r1' k2'
      have t := tot s1 hR
      refine ⟨1, 3, by omega, by omega, c_both (by omega) (by omega) (fun q3 hq3 => ?_)⟩
      have n3 := (nw.refl N2).new hq3 (eO 10 [va_rf (some qa), va_rf (some q), .int (iI c)])
      have x3 := n3 _ _ x2
      have r3 := n3 _ _ r2
      have hL3 := (hL1.k2 x1' r1' k2').k2 x2 r2 n3.k2
      refine ⟨_, _, _, _, x3, c_here hL3 hT x3 (by have := g.1.1; omega) ?_⟩
      refine ih (xPut c s1) _ q3 (Xa ++ (X ++ [(c, 0)])) b2 _ _ ge.1 (by show 61 ≤ m + s1.2.2.1; rw [e0] at g1; omega) (by show s1.2.1 ++ [(c, 0)] = _; rw [eX, e0, eC, List.append_assoc, List.append_assoc]) (cS.join (hS2a.k2 x2 r2 n3.k2) (hS2.k2 x2 r2 n3.k2) hc42 (up_eq _ _ _)) hL3 x3 r3 (by omega) (by omega) ?_
      have e1 : smL T n rcP j (m + 1) s = smL T n rcP j m (xPut c s1) := by rw [eL, hR]; rfl
      rw [e1] at hO1
      exact (hO1.st k2' x2 r2).st n3.k2 x3 r3
    unfold wX2_sum_11
    have e43 := eS 43 (by decide) (by omega)
    have e45 := eS 45 (by decide) (by omega)
    rw [show (43 : Int32) = iI 43 from rfl, show (45 : Int32) = iI 45 from rfl, iI_eq (by omega) (by omega) (by omega) (by omega), iI_eq (by omega) (by omega) (by omega) (by omega)]
    refine ⟨fun c => ?_, fun c => ⟨fun c2 => ?_, fun c2 => ?_⟩⟩
    · rw [c]; exact go 43 (Or.inl rfl) (e43.1 c)
    · rw [c2]; exact go 45 (Or.inr rfl) (e45.1 c2)
    · have e1 : smL T n rcP j (m + 1) s = .inr s := by
        show (if ¬ (sgIs T n s.1 43 ∨ sgIs T n s.1 45) then _ else _) = _
        rw [if_pos (fun z => z.elim (fun z => c (e43.2 z)) (fun z => c2 (e45.2 z)))]
      exact hO.1 s e1 N qa b Xa (k2.refl x rp N) hx hr eC hS
theorem c_sumB {rcW : rcT} {rcP : Nat → xst → xR} {post : Option Nat → NM → Prop} {xp : Nat → List Nat → NM → Prop} {S : CS} {N : NM} {T : Nat → Int} {n x rp MC MS j : Nat} {b : Int32} {s : xst} (hT : cTape S T n) (hgr : rcGr n rcP) (hrc : j < 6 → rcC K a S n x rp rcW rcP (j + 1)) (hs : xOk n s) (hj : j ≤ 6) (hL : cL K a S N) (hx : N x = some (rdr a s.1 b (iI (j : Nat)))) (hr : N rp = some (rpC s.2.2.1 s.2.2.2)) (hMC : 16 * bdX s (smB T n rcP j s) ≤ MC) (hMS : 160 * bdX s (smB T n rcP j s) ≤ MS) (hO : xO a x rp N s.2.1 j (smB T n rcP j s) post xp) : wX2_sumB K rcW post xp MC MS N x (some rp) := by
  have ht8 := hT.1
  have hΔ : 1 ≤ bdX s (pdR T n rcP j s) ∧ bdX s (pdR T n rcP j s) ≤ 61 - s.2.2.1 := bdX_pos hs (fun s' h => pdR_gr hgr hs h)
  have tot : ∀ s1, pdR T n rcP j s = .inr s1 → bdX s (smB T n rcP j s) = bdX s (pdR T n rcP j s) + bdX s1 (smL T n rcP j 61 s1) := fun s1 h => by
    have g := pdR_gr hgr hs h
    have e1 : smB T n rcP j s = smL T n rcP j 61 s1 := by unfold smB; rw [h]; rfl
    rw [e1, h, bd_seq (n := n) (s1 := s1) (by have := g.2.1; omega) g.1.2.1 (fun s' h' => (smL_gr hgr 61 _ _ g.1 h').2.1)]
    rfl
  have bad : ∀ y, pdR T n rcP j s = .inl y → smB T n rcP j s = .inl y := fun y h => by unfold smB; rw [h]; rfl
  have hle : bdX s (pdR T n rcP j s) ≤ bdX s (smB T n rcP j s) := by
    cases e : pdR T n rcP j s with
    | inl y => rw [bad y e]; exact Nat.le_refl _
    | inr s1 => have := tot s1 e; rw [e] at this; omega
  unfold wX2_sumB
  refine ⟨_, _, _, _, hx, 16 * bdX s (pdR T n rcP j s) - 1, 160 * bdX s (pdR T n rcP j s) - 10, by omega, by omega, c_product2 hT hgr hrc hs hj hL hx hr (by omega) (by omega) ⟨fun s1 hR N2 q b2 X k2' x2 r2 eX hS2 => ?_, fun k pl i hR N2 y f1 f2 f3 f4 g p' b' k2' d2 x2 y0 hy fs hfs => hO.2 k pl i (bad _ hR) N2 y f1 f2 f3 f4 g p' b' k2' d2 x2 y0 hy⟩⟩
  have g := pdR_gr hgr hs hR
  have g1 := g.2.1
  have t := tot s1 hR
  have hL2 := hL.k2 hx hr k2'
  have e1 : smB T n rcP j s = smL T n rcP j 61 s1 := by unfold smB; rw [hR]; rfl
  rw [e1] at hO
  refine ⟨_, _, _, _, x2, c_here hL2 hT x2 (by have := g.1.1; omega) ⟨62, ?_⟩⟩
  exact c_sm11 hT hgr hrc hj 61 s1 N2 q X b2 _ _ g.1 (by omega) eX hS2 hL2 x2 r2 (by omega) (by omega) (hO.st k2' x2 r2)
/-- a sum is read -/
theorem c_sumR {S : CS} {T : Nat → Int} {n x rp : Nat} (hT : cTape S T n) : ∀ (dw dp j : Nat), j ≤ 6 → 7 ≤ j + dp → 7 ≤ j + dw → rcC K a S n x rp (fun post xp MC MS N x0 x1 => wX2_sum K dw post xp MC MS N x0 x1) (sxR T n dp) j := by
  intro dw
  induction dw with
  | zero => intro dp j h1 h2 h3; omega
  | succ dw ih =>
    intro dp j h1 h2 h3
    obtain ⟨dp, rfl⟩ : ∃ d, dp = d + 1 := ⟨dp - 1, by omega⟩
    intro s N b post xp MC MS hs hL hx hr hMC hMS hO
    show wX2_sumB K (fun post xp MC MS N x0 x1 => wX2_sum K dw post xp MC MS N x0 x1) post xp MC MS N x (some rp)
    exact c_sumB hT (sxR_gr dp) (fun hj => ih dp (j + 1) (by omega) (by omega) (by omega)) hs h1 hL hx hr hMC hMS hO
end
