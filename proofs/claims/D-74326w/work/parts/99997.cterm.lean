set_option maxRecDepth 100000
set_option maxHeartbeats 4000000
/-! the component's reader: a term -/
theorem dm.rf (N : NM) : dm N N := fun _ h => h
theorem dm.tr {N N1 N2 : NM} (h : dm N N1) (g : dm N1 N2) : dm N N2 := fun z hz => g z (h z hz)
theorem dm.no {N0 N : NM} (h : dm N0 N) {v : Nat} (hv : N v = none) : N0 v = none := Classical.byContradiction (fun c => h v c hv)
theorem kx.dm {x : Nat} {N0 N : NM} {e : NE} (h : kx x N0 N) (hx : N x = some e) : dm N0 N := fun z hz c => hz (h.none hx c)
/-- what a reading of a term leaves -/
def tmO (K : Nat → Nat → Nat) (a : Nat → Nat) (x : Nat) (d : Int32) (N : NM) (R : (Int × Nat) ⊕ (tm × Nat)) (post : Option Nat → NM → Prop) (xp : Nat → List Nat → NM → Prop) : Prop :=
  (∀ t p', R = .inr (t, p') → ∀ N' y b', kx x N N' → N' x = some (rdr a p' b' d) → N y = none → N' y = some (oTm K t) → post (some y) N') ∧
  (∀ w q, R = .inl (w, q) → ∀ N' y f1 f2 f3 f4 g, kx x N N' → dm N N' → N y = none → N' y = some (oWr f1 f2 f3 f4 g w (q : Nat)) → xp y [y] N')
section
variable {K : Nat → Nat → Nat} {a : Nat → Nat}
theorem tmO.st {x : Nat} {d : Int32} {N N1 : NM} {R : (Int × Nat) ⊕ (tm × Nat)} {post : Option Nat → NM → Prop} {xp : Nat → List Nat → NM → Prop} {e : NE} (h : tmO K a x d N R post xp) (hk : kx x N N1) (hx : N1 x = some e) : tmO K a x d N1 R post xp :=
  ⟨fun t p' hR N' y b' k1 k2 k3 k4 => h.1 t p' hR N' y b' (hk.trans k1) k2 (hk.none hx k3) k4, fun w q hR N' y f1 f2 f3 f4 g k1 k2 k3 k4 => h.2 w q hR N' y f1 f2 f3 f4 g (hk.trans k1) ((hk.dm hx).tr k2) (hk.none hx k3) k4⟩
/-- a fault of a term -/
theorem tmO.bad {x : Nat} {d : Int32} {N : NM} {R : (Int × Nat) ⊕ (tm × Nat)} {post : Option Nat → NM → Prop} {xp : Nat → List Nat → NM → Prop} {w : Int} {q : Nat} (h : tmO K a x d N R post xp) (hR : R = .inl (w, q)) {y : Nat} {f1 f2 f3 f4 : Option Nat} {g : Int32} (hy : N y = none) : xp y [y] (va_up N y (some (oWr f1 f2 f3 f4 g w (q : Nat)))) :=
  h.2 w q hR _ y f1 f2 f3 f4 g ((kx.refl x N).new hy _) ((dm.rf N).up y _) hy (up_eq _ _ _)
theorem tmO.bad' {x : Nat} {d : Int32} {N : NM} {R : (Int × Nat) ⊕ (tm × Nat)} {post : Option Nat → NM → Prop} {xp : Nat → List Nat → NM → Prop} {w : Int} {q : Nat} (h : tmO K a x d N R post xp) (hR : R = .inl (w, q)) {e : NE} {y : Nat} {f1 f2 f3 f4 : Option Nat} {g : Int32} (hy : N y = none) : xp y [y] (va_up (va_up N x (some e)) y (some (oWr f1 f2 f3 f4 g w (q : Nat)))) :=
  h.2 w q hR _ y f1 f2 f3 f4 g (((kx.refl x N).at _).new hy _) (((dm.rf N).up x _).up y _) hy (up_eq _ _ _)
theorem c_tm274 {post : Option Nat → NM → Prop} {xp : Nat → List Nat → NM → Prop} {S : CS} {N : NM} {p x mc ms k : Nat} {d ok : Int32} {f lo hi : Int} {bq : Nat} {R : (Int × Nat) ⊕ (tm × Nat)} (hL : cL K a S N) (hx : N x = some (rdr a p (iI (bq : Nat)) d)) (hk : k < 5) (hmc : 2 ≤ mc) (hms : 12 ≤ ms) (hO : tmO K a x d N R post xp) (h1 : ok ≠ 0 → R = .inr ((f, (k : Nat), lo, hi), p)) (h0 : ok = 0 → R = .inl (3, bq)) : wX2_term_274 K post xp x (iI f) (iI (k : Nat)) (iI lo) (iI hi) ok x mc ms N := by
  unfold wX2_term_274
  refine ⟨_, _, _, _, hx, _, _, _, _, hx, 1, 8, by omega, by omega, c_mustE 3 (bq : Nat) rfl rfl (by omega) (by omega) (fun e => ⟨by omega, by omega, fun y hy N6 e6 => ?_⟩) (fun e q f1 f2 f3 f4 g hq fs hfs => hO.bad (h0 e) hq)⟩
  subst e6
  have n1 := (nw.refl N).new hy (eO 6 [.int 0, .int 0, .int 0, va_rf none])
  have hL1 := hL.nw n1
  obtain ⟨g, u1, u2⟩ := hL1.kinds
  refine ⟨_, _, _, _, n1 _ _ hx, _, rfl, _, _, _, _, _, _, _, _, _, _, _, _, _, _, _, _, _, _, _, hL1.obj, _, rfl, _, _, u1, iI_in (by omega) (by omega) (by omega), ?_⟩
  rw [nat_i (by omega), u2 k hk]
  refine c_tmInit (up_eq _ _ _) ?_
  rw [up_up]
  have n2 := (nw.refl N).new hy (oTm K (f, (k : Nat), lo, hi))
  exact hO.1 _ _ (h1 e) _ y _ n2.kx (n2 _ _ hx) hy (up_eq _ _ _)
theorem c_tm97 {post : Option Nat → NM → Prop} {xp : Nat → List Nat → NM → Prop} {S : CS} {N : NM} {T : Nat → Int} {n p x mc ms : Nat} {b d ok : Int32} {f : Int} (hL : cL K a S N) (hT : cTape S T n) (hx : N x = some (rdr a p b d)) (hp : p ≤ n) (hf : 1 ≤ f ∧ f ≤ 99) (hmc : 20 ≤ mc) (hms : 160 ≤ ms) (hok : ok = 0 ↔ kdAt T n p = -1) (hO : tmO K a x d N (tmB T n f p) post xp) : wX2_term_97 K post xp x (iI f) (iI (kdAt T n p)) ok x mc ms N := by
  have ht8 := hT.1
  unfold wX2_term_97
  refine ⟨_, _, _, _, hx, _, _, _, _, hx, 1, 8, by omega, by omega, c_mustE 1 (p : Nat) rfl rfl (by omega) (by omega) (fun e => ?_) (fun e q f1 f2 f3 f4 g hq fs hfs => hO.bad (by unfold tmB; rw [if_pos (hok.1 e)]) hq)⟩
  have hk : kdAt T n p ≠ -1 := fun c => e (hok.2 c)
  obtain ⟨k, ek⟩ : ∃ k : Nat, kdAt T n p = (k : Nat) := ⟨(kdAt T n p).toNat, by have := kdAt_in T n p; omega⟩
  have hk5 : k < 5 := by have := kdAt_in T n p; omega
  have hw := kdAt_wd ek
  have eB : tmB T n f p = if ¬ wdIs T n (nxT T n p) 9 then .inr ((f, (k : Nat), 0, gtS f (k : Nat)), nxT T n p) else tmC T n f (k : Nat) (nxT T n (nxT T n p)) := by
    unfold tmB
    rw [if_neg hk, ek]
  have hle := ende_in (T := T) hp
  have hex := hw.2.1
  obtain ⟨g, u1, u2⟩ := hL.words
  rw [ek]
  refine ⟨_, _, _, _, hx, _, rfl, _, _, _, _, _, _, _, _, _, _, _, _, _, _, _, _, _, _, _, hL.obj, _, rfl, _, _, u1, iI_in (by omega) (by omega) (by omega), K 0 k, by rw [nat_i (by omega)]; exact u2 k hk5, K 1 k, sLen.getD k 0, fun j => (sByt.getD k []).getD j 0, ⟨sLen_lt k, Or.inl ⟨k, show k < 12 by omega, rfl, rfl, rfl, rfl⟩⟩, fun N127 e127 => ?_⟩
  rw [nI_i, iI_add, show (p : Int) + (sLen.getD k 0 : Nat) = ((p + sLen.getD k 0 : Nat) : Int) by omega] at e127
  subst e127
  refine c_skips (hL.rd hx _) hT (up_eq _ _ _) (by omega) ?_
  rw [up_up, ← hex, show sk T n (ende T n p) = nxT T n p from rfl]
  obtain ⟨p2, ep2⟩ : ∃ p2, p2 = nxT T n p := ⟨_, rfl⟩
  have hp2 : p2 ≤ n := by rw [ep2]; exact (nxT_le hp).2
  rw [← ep2] at eB ⊢
  have hLa := hL.rd hx (rdr a p2 b d)
  have ha := up_eq N x (some (rdr a p2 b d))
  have hO := hO.st ((kx.refl x N).at (some (rdr a p2 b d))) ha
  obtain ⟨N0, eN0⟩ : ∃ N0, N0 = va_up N x (some (rdr a p2 b d)) := ⟨_, rfl⟩
  rw [← eN0] at hLa ha hO ⊢
  refine ⟨by omega, by omega, fun y hy N1 eN1 => ?_⟩
  have n1 : nw N0 N1 := by rw [eN1]; exact (nw.refl N0).new hy _
  have y1 : N1 y = some (eO 6 [.int 0, .int 0, .int 0, va_rf none]) := by rw [eN1]; exact up_eq _ _ _
  have hL1 := hLa.nw n1
  obtain ⟨g2, v1, v2⟩ := hL1.kinds
  refine ⟨_, _, _, _, n1 _ _ ha, _, rfl, _, _, _, _, _, _, _, _, _, _, _, _, _, _, _, _, _, _, _, hL1.obj, _, rfl, _, _, v1, iI_in (by omega) (by omega) (by omega), ?_⟩
  rw [nat_i (by omega), v2 k hk5]
  refine c_tmInit (k := k) (f := f) (lo := 0) (hi := 0) y1 ?_
  rw [eN1, up_up]
  have n2 := (nw.refl N0).new hy (oTm K (f, (k : Nat), 0, 0))
  have y2 := up_eq N0 y (some (oTm K (f, (k : Nat), 0, 0)))
  have hL2 := hLa.nw n2
  have x2 := n2 _ _ ha
  have hO := hO.st n2.kx x2
  clear hL1 v1 v2 y1 n1 eN1 N1
  obtain ⟨N2, eN2⟩ : ∃ N2, N2 = va_up N0 y (some (oTm K (f, (k : Nat), 0, 0))) := ⟨_, rfl⟩
  rw [← eN2] at n2 y2 hL2 x2 hO ⊢
  refine ⟨_, _, _, _, x2, 4, 40, by omega, by omega, c_passesW hL2 hT x2 hp2 (by decide) (by decide) (by decide) (by omega) (by omega) (fun w N3 n3 => b_f (by decide) ?_) (fun w N3 n3 => b_t rfl ⟨by omega, by omega, fun z hz N4 eN4 => ?_⟩)⟩
  · have eB : tmB T n f p = tmC T n f (k : Nat) (nxT T n p2) := by rw [eB, if_neg (fun c => c w)]
    obtain ⟨p3, ep3⟩ : ∃ p3, p3 = nxT T n p2 := ⟨_, rfl⟩
    have hp3 : p3 ≤ n := by rw [ep3]; exact (nxT_le hp2).2
    rw [← ep3] at eB ⊢
    have yx : y ≠ x := fun c => by rw [c, ha] at hy; cases hy
    have hL3 := (hL2.nw n3).rd (n3 _ _ x2) (rdr a p3 b d)
    have x3 := up_eq N3 x (some (rdr a p3 b d))
    have y3 : va_up N3 x (some (rdr a p3 b d)) y = some (oTm K (f, (k : Nat), 0, 0)) := by rw [up_ne _ _ _ yx]; exact n3 _ _ y2
    have hO := hO.st (n3.kx.at (some (rdr a p3 b d))) x3
    obtain ⟨M, eM⟩ : ∃ M, M = va_up N3 x (some (rdr a p3 b d)) := ⟨_, rfl⟩
    rw [← eM] at hL3 x3 y3 hO ⊢
    clear n3 hL2 x2 n2 y2 eN2
    obtain ⟨A1, eA1⟩ : ∃ A1, A1 = whA T n p3 := ⟨_, rfl⟩
    obtain ⟨V1, eV1⟩ : ∃ V1, V1 = whV T n p3 := ⟨_, rfl⟩
    obtain ⟨p4, ep4⟩ : ∃ p4, p4 = nxT T n A1 := ⟨_, rfl⟩
    obtain ⟨p5, ep5⟩ : ∃ p5, p5 = nxT T n p4 := ⟨_, rfl⟩
    obtain ⟨A2, eA2⟩ : ∃ A2, A2 = whA T n p5 := ⟨_, rfl⟩
    obtain ⟨V2, eV2⟩ : ∃ V2, V2 = whV T n p5 := ⟨_, rfl⟩
    obtain ⟨p6, ep6⟩ : ∃ p6, p6 = nxT T n A2 := ⟨_, rfl⟩
    have hA1 : A1 ≤ n := by rw [eA1]; exact (whA_le hp3).2
    have hp4 : p4 ≤ n := by rw [ep4]; exact (nxT_le hA1).2
    have hp5 : p5 ≤ n := by rw [ep5]; exact (nxT_le hp4).2
    have hA2 : A2 ≤ n := by rw [eA2]; exact (whA_le hp5).2
    have hp6 : p6 ≤ n := by rw [ep6]; exact (nxT_le hA2).2
    have hV1 : -10000 < V1 ∧ V1 < 10000 := by rw [eV1]; exact whV_in
    have hV2 : -10000 < V2 ∧ V2 < 10000 := by rw [eV2]; exact whV_in
    have eC : tmB T n f p = if ¬ isNb T n A1 then .inl (1, A1) else if ¬ (-3000 ≤ f * kV (k : Nat) V1 ∧ f * kV (k : Nat) V1 ≤ 3000) then .inl (3, A1) else if ¬ wdIs T n p4 10 then .inl (1, p4) else if ¬ isNb T n A2 then .inl (1, A2) else if V2 < V1 ∨ ¬ (-3000 ≤ f * kV (k : Nat) V2 ∧ f * kV (k : Nat) V2 ≤ 3000) then .inl (3, A2) else .inr ((f, (k : Nat), V1, V2), p6) := by
      rw [eB, ep6, eA2, eV2, ep5, ep4, eA1, eV1]; rfl
    have hb1 := kV_leN (k := (k : Nat)) (x := V1) (by omega) (by omega)
    have hb1 := abs_mul_le (show -99 ≤ f by omega) hf.2 hb1.1 hb1.2
    have hb2 := kV_leN (k := (k : Nat)) (x := V2) (by omega) (by omega)
    have hb2 := abs_mul_le (show -99 ≤ f by omega) hf.2 hb2.1 hb2.2
    refine ⟨_, _, _, _, x3, 2, 16, by omega, by omega, c_whole hL3 hT x3 hp3 (by omega) (by omega) (fun hb => ?_) (fun hb e q f1 f2 f3 f4 g hq fs hfs => ?_)⟩
    rotate_left
    · rw [← eA1] at hb ⊢
      exact hO.bad' (by rw [eC, if_pos hb]) hq
    rw [← eA1] at hb ⊢
    rw [← eV1, ← ep4]
    have hL4 := hL3.rd x3 (rdr a p4 (iI (A1 : Nat)) d)
    have x4 := up_eq M x (some (rdr a p4 (iI (A1 : Nat)) d))
    have y4 : va_up M x (some (rdr a p4 (iI (A1 : Nat)) d)) y = some (oTm K (f, (k : Nat), 0, 0)) := by rw [up_ne _ _ _ yx]; exact y3
    have hO := hO.st ((kx.refl x M).at (some (rdr a p4 (iI (A1 : Nat)) d))) x4
    obtain ⟨M4, eM4⟩ : ∃ M4, M4 = va_up M x (some (rdr a p4 (iI (A1 : Nat)) d)) := ⟨_, rfl⟩
    rw [← eM4] at hL4 x4 y4 hO ⊢
    rw [if_neg (fun c => c hb)] at eC
    refine ⟨_, _, _, _, y4, ?_⟩
    rw [iI_l (by omega) (by omega)]
    refine c_vl hf hk5 y4 (by omega) (by omega) ?_
    rw [show (-3000 : Int64) = lI (-3000) from rfl, show (3000 : Int64) = lI 3000 from rfl]
    refine c_isIn (by unfold i64; omega) (by unfold i64; omega) (by unfold i64; omega) (fun s1 s2 => ⟨_, _, _, _, x4, 1, 8, by omega, by omega, c_mustE 3 (A1 : Nat) rfl rfl (by omega) (by omega) (fun _ => ?_) (fun e => absurd e (by decide))⟩) (fun s => ⟨_, _, _, _, x4, 1, 8, by omega, by omega, c_mustE 3 (A1 : Nat) rfl rfl (by omega) (by omega) (fun e => absurd rfl e) (fun _ q f1 f2 f3 f4 g hq fs hfs => hO.bad (by rw [eC, if_pos s]) hq)⟩)
    rw [if_neg (fun c => c ⟨s1, s2⟩)] at eC
    refine ⟨_, _, _, _, x4, 4, 40, by omega, by omega, c_passesW hL4 hT x4 hp4 (by decide) (by decide) (by decide) (by omega) (by omega) (fun w2 N5 n5 => ?_) (fun w2 N5 n5 => ?_)⟩
    · rw [if_neg (fun c => c w2)] at eC
      rw [← ep5]
      have hL5 := (hL4.nw n5).rd (n5 _ _ x4) (rdr a p5 (iI (A1 : Nat)) d)
      have x5 := up_eq N5 x (some (rdr a p5 (iI (A1 : Nat)) d))
      have y5 : va_up N5 x (some (rdr a p5 (iI (A1 : Nat)) d)) y = some (oTm K (f, (k : Nat), 0, 0)) := by rw [up_ne _ _ _ yx]; exact n5 _ _ y4
      have hO := hO.st (n5.kx.at (some (rdr a p5 (iI (A1 : Nat)) d))) x5
      obtain ⟨M5, eM5⟩ : ∃ M5, M5 = va_up N5 x (some (rdr a p5 (iI (A1 : Nat)) d)) := ⟨_, rfl⟩
      rw [← eM5] at hL5 x5 y5 hO ⊢
      refine ⟨_, _, _, _, x5, 1, 8, by omega, by omega, c_mustE 1 (p5 : Nat) rfl rfl (by omega) (by omega) (fun _ => ?_) (fun e => absurd e (by decide))⟩
      refine ⟨_, _, _, _, x5, 2, 16, by omega, by omega, c_whole hL5 hT x5 hp5 (by omega) (by omega) (fun hb => ?_) (fun hb e q f1 f2 f3 f4 g hq fs hfs => ?_)⟩
      rotate_left
      · rw [← eA2] at hb ⊢
        exact hO.bad' (by rw [eC, if_pos hb]) hq
      rw [← eA2] at hb ⊢
      rw [← eV2, ← ep6]
      have hL6 := hL5.rd x5 (rdr a p6 (iI (A2 : Nat)) d)
      have x6 := up_eq M5 x (some (rdr a p6 (iI (A2 : Nat)) d))
      have y6 : va_up M5 x (some (rdr a p6 (iI (A2 : Nat)) d)) y = some (oTm K (f, (k : Nat), 0, 0)) := by rw [up_ne _ _ _ yx]; exact y5
      have hO := hO.st ((kx.refl x M5).at (some (rdr a p6 (iI (A2 : Nat)) d))) x6
      obtain ⟨M6, eM6⟩ : ∃ M6, M6 = va_up M5 x (some (rdr a p6 (iI (A2 : Nat)) d)) := ⟨_, rfl⟩
      rw [← eM6] at hL6 x6 y6 hO ⊢
      rw [if_neg (fun c => c hb)] at eC
      rw [iI_lt (by omega) (by omega) (by omega) (by omega)]
      refine ⟨fun lt => ?_, fun ge => ⟨_, _, _, _, y6, ?_⟩⟩
      · unfold wX2_term_273
        exact c_tm274 hL6 x6 hk5 (by omega) (by omega) hO (fun e => absurd rfl e) (fun _ => by rw [eC, if_pos (Or.inl lt)])
      rw [iI_l (by omega) (by omega)]
      refine c_vl hf hk5 y6 (by omega) (by omega) ?_
      refine c_isIn (by unfold i64; omega) (by unfold i64; omega) (by unfold i64; omega) (fun s3 s4 => b_f (by decide) ?_) (fun s => b_t rfl ?_)
      · exact c_tm274 hL6 x6 hk5 (by omega) (by omega) hO (fun _ => by rw [eC, if_neg (fun c => c.elim ge (fun c => c ⟨s3, s4⟩))]) (fun e => absurd e (by decide))
      · unfold wX2_term_273
        exact c_tm274 hL6 x6 hk5 (by omega) (by omega) hO (fun e => absurd rfl e) (fun _ => by rw [eC, if_pos (Or.inr s)])
    · have hO := hO.st n5.kx (n5 _ _ x4)
      exact ⟨_, _, _, _, n5 _ _ x4, 1, 8, by omega, by omega, c_mustE 1 (p4 : Nat) rfl rfl (by omega) (by omega) (fun e => absurd rfl e) (fun _ q f1 f2 f3 f4 g hq fs hfs => hO.bad (by rw [eC, if_pos w2]) hq)⟩
  · have eB : tmB T n f p = .inr ((f, (k : Nat), 0, gtS f (k : Nat)), p2) := by rw [eB, if_pos w]
    have n4 : nw N3 N4 := by rw [eN4]; exact (nw.refl N3).new hz _
    have z4 : N4 z = some (eO 6 [.int 0, .int 0, .int 0, va_rf none]) := by rw [eN4]; exact up_eq _ _ _
    have n34 := n3.trans n4
    have hL4 := hL2.nw n34
    obtain ⟨g4, v1, v2⟩ := hL4.kinds
    refine ⟨_, _, _, _, n34 _ _ x2, _, rfl, _, _, _, _, _, _, _, _, _, _, _, _, _, _, _, _, _, _, _, hL4.obj, _, rfl, _, _, v1, iI_in (by omega) (by omega) (by omega), ?_⟩
    rw [v2 k hk5]
    refine c_highest hf hk5 (n34 _ _ y2) ?_
    refine c_tmInit (k := k) (f := f) (lo := 0) z4 ?_
    have n5 := n3.trans ((nw.refl N3).new hz (oTm K (f, (k : Nat), 0, gtS f (k : Nat))))
    rw [eN4, up_up]
    exact hO.1 _ _ eB _ z b n5.kx (n5 _ _ x2) (n3.none hz) (up_eq _ _ _)
/-- a term is read -/
theorem c_rdTerm {post : Option Nat → NM → Prop} {xp : Nat → List Nat → NM → Prop} {S : CS} {N : NM} {T : Nat → Int} {n p x MC MS i : Nat} {b d : Int32} (hL : cL K a S N) (hT : cTape S T n) (hx : N x = some (rdr a p b d)) (hp : p ≤ n) (hi : i ≤ 5) (hmc : 70 ≤ MC) (hms : 640 ≤ MS) (hO : tmO K a x d N (tmRd T n p i) post xp) : wX2_term K post xp MC MS N x (iI (i : Nat)) := by
  have ht8 := hT.1
  have c74 : ∀ (f : Int) (p1 mc ms : Nat) (b : Int32) (ok : Int32) (N : NM), cL K a S N → N x = some (rdr a p1 b d) → p1 ≤ n → 1 ≤ f ∧ f ≤ 99 → 41 ≤ mc → 368 ≤ ms → tmO K a x d N (if ok = 0 then .inl (4, p) else tmB T n f p1) post xp → wX2_term_74 K post xp x (iI f) (iI (p : Nat)) ok x mc ms N := by
    intro f p1 mc ms b ok N hL hx hp1 hf hmc hms hO
    unfold wX2_term_74
    refine ⟨_, _, _, _, hx, 1, 8, by omega, by omega, c_mustE 4 (p : Nat) rfl rfl (by omega) (by omega) (fun e => ?_) (fun e q f1 f2 f3 f4 g hq fs hfs => hO.bad (by rw [if_pos e]) hq)⟩
    rw [if_neg e] at hO
    refine ⟨_, _, _, _, hx, 20, 200, by omega, by omega, c_kind hL hT hx hp1 (by omega) (by omega) (fun N1 n1 => ?_)⟩
    have hkd := kdAt_in T n p1
    have hO := hO.st n1.kx (n1 _ _ hx)
    rw [show (-1 : Int32) = iI (-1) from rfl, iI_eq (by omega) (by omega) (by omega) (by omega)]
    refine ⟨fun c => c_tm97 (hL.nw n1) hT (n1 _ _ hx) hp1 hf (by omega) (by omega) ⟨fun _ => c, fun _ => rfl⟩ hO, fun c => c_tm97 (hL.nw n1) hT (n1 _ _ hx) hp1 hf (by omega) (by omega) ⟨fun e => absurd e (by decide), fun e => absurd e c⟩ hO⟩
  have c63 : ∀ (f : Int) (p1 mc ms : Nat) (b : Int32) (N : NM), cL K a S N → N x = some (rdr a p1 b d) → p1 ≤ n → 1 ≤ f ∧ f ≤ 99 → 41 ≤ mc → 368 ≤ ms → tmO K a x d N (if i = 5 then .inl (4, p) else tmB T n f p1) post xp → wX2_term_63 K post xp x (iI (i : Nat)) (iI f) (iI (p : Nat)) mc ms N := by
    intro f p1 mc ms b N hL hx hp1 hf hmc hms hO
    unfold wX2_term_63
    rw [show (5 : Int32) = iI 5 from rfl, iI_le (by omega) (by omega) (by omega) (by omega)]
    refine ⟨fun c => c74 f p1 mc ms b 0 N hL hx hp1 hf hmc hms ?_, fun c => c74 f p1 mc ms b 1 N hL hx hp1 hf hmc hms ?_⟩
    · rw [if_pos rfl]; rw [if_pos (by omega)] at hO; exact hO
    · rw [if_neg (by decide)]; rw [if_neg (by omega)] at hO; exact hO
  have c28 : ∀ (mc ms : Nat) (ok : Int32) (N : NM), cL K a S N → N x = some (rdr a p b d) → 45 ≤ mc → 410 ≤ ms → (ok = 0 ↔ ¬ (isD (chr T n p) = true ∨ kdAt T n p ≠ -1)) → tmO K a x d N (tmRd T n p i) post xp → wX2_term_28 K post xp x (iI (i : Nat)) (iI 1) (iI (p : Nat)) ok x mc ms N := by
    intro mc ms ok N hL hx hmc hms hok hO
    have nbD : isNb T n p → isD (chr T n p) = true := fun c => srt2.1 c.1
    unfold wX2_term_28
    refine ⟨_, _, _, _, hx, 1, 8, by omega, by omega, c_mustE 1 (p : Nat) rfl rfl (by omega) (by omega) (fun e => ?_) (fun e q f1 f2 f3 f4 g hq fs hfs => hO.bad (by unfold tmRd; rw [if_pos (fun c => hok.1 e (c.imp nbD id))]) hq)⟩
    have hdk : isD (chr T n p) = true ∨ kdAt T n p ≠ -1 := Classical.byContradiction (fun c => e (hok.2 c))
    have kdD : isD (chr T n p) = true → kdAt T n p = -1 := fun c => Classical.byContradiction (fun c2 => by
      have h1 := kdAt_w c2
      have h2 := srt2.2 c
      omega)
    refine ⟨_, _, _, _, hx, c_isDigit hL hT hx (by omega) (fun hd => b_f (by decide) ?_) (fun hd => b_t rfl ?_)⟩
    · refine ⟨_, _, _, _, hx, 2, 16, by omega, by omega, c_rdNum hL hT hx hp (by omega) (by omega) (fun hb => ?_) (fun hb e q f1 f2 f3 f4 g hq fs hfs => hO.bad' (by unfold tmRd; rw [if_pos (fun c => c.elim hb (fun c => c (kdD hd)))]) hq)⟩
      have hv := numV_in (T := T) (n := n) (p := p)
      have hL1 := hL.rd hx (rdr a (nxT T n p) (iI (p : Nat)) d)
      have x1 := up_eq N x (some (rdr a (nxT T n p) (iI (p : Nat)) d))
      have hO := hO.st ((kx.refl x N).at (some (rdr a (nxT T n p) (iI (p : Nat)) d))) x1
      obtain ⟨M, eM⟩ : ∃ M, M = va_up N x (some (rdr a (nxT T n p) (iI (p : Nat)) d)) := ⟨_, rfl⟩
      rw [← eM] at hL1 x1 hO ⊢
      rw [iI_l (by omega) (by omega), show (1 : Int64) = lI 1 from rfl, show (99 : Int64) = lI 99 from rfl]
      refine c_isIn (by unfold i64; omega) (by unfold i64; omega) (by unfold i64; omega) (fun s1 s2 => ⟨_, _, _, _, x1, 1, 8, by omega, by omega, c_mustE 2 (p : Nat) rfl rfl (by omega) (by omega) (fun _ => ?_) (fun e => absurd e (by decide))⟩) (fun s => ⟨_, _, _, _, x1, 1, 8, by omega, by omega, c_mustE 2 (p : Nat) rfl rfl (by omega) (by omega) (fun e => absurd rfl e) (fun _ q f1 f2 f3 f4 g hq fs hfs => hO.bad (by unfold tmRd; rw [if_neg (fun c => c (Or.inl hb)), if_pos ⟨hb, s⟩]) hq)⟩)
      refine c63 _ _ _ _ _ M hL1 x1 (nxT_le hp).2 ⟨s1, s2⟩ (by omega) (by omega) ?_
      unfold tmRd at hO
      rw [if_neg (fun c => c (Or.inl hb)), if_neg (fun c => c.2 ⟨s1, s2⟩), if_pos hb, if_pos hb] at hO
      exact hO
    · have nb : ¬ isNb T n p := fun c => by rw [nbD c] at hd; cases hd
      refine c63 1 p _ _ _ N hL hx hp (by omega) (by omega) (by omega) ?_
      unfold tmRd at hO
      rw [if_neg (fun c => c (Or.inr (hdk.elim (fun z => by rw [z] at hd; cases hd) id))), if_neg (fun c => nb c.1), if_neg nb, if_neg nb] at hO
      exact hO
  unfold wX2_term
  refine ⟨_, _, _, _, hx, c_isDigit hL hT hx (by omega) (fun hd => b_f (by decide) ?_) (fun hd => b_t rfl ?_)⟩
  · unfold wX2_term_23
    exact c28 MC MS 1 N hL hx (by omega) (by omega) ⟨fun e => absurd e (by decide), fun e => absurd (Or.inl hd) e⟩ hO
  · refine ⟨_, _, _, _, hx, 20, 200, by omega, by omega, c_kind hL hT hx hp (by omega) (by omega) (fun N1 n1 => ?_)⟩
    have hkd := kdAt_in T n p
    have hO := hO.st n1.kx (n1 _ _ hx)
    rw [show (-1 : Int32) = iI (-1) from rfl, iI_eq (by omega) (by omega) (by omega) (by omega)]
    refine ⟨fun c => c28 _ _ 0 N1 (hL.nw n1) (n1 _ _ hx) (by omega) (by omega) ⟨fun _ z => z.elim (fun z => by rw [z] at hd; cases hd) (fun z => z c), fun _ => rfl⟩ hO, fun c => ?_⟩
    unfold wX2_term_23
    exact c28 _ _ 1 N1 (hL.nw n1) (n1 _ _ hx) (by omega) (by omega) ⟨fun e => absurd e (by decide), fun e => absurd (Or.inr c) e⟩ hO
end
