set_option maxRecDepth 100000
set_option maxHeartbeats 4000000
/-! the component reads a part of an identity: the law -/
section
variable {K : Nat → Nat → Nat} {a : Nat → Nat}
abbrev rcT : Type := (Option Nat → NM → Prop) → (Nat → List Nat → NM → Prop) → Nat → Nat → NM → Nat → Option Nat → Prop
def rcC (K : Nat → Nat → Nat) (a : Nat → Nat) (S : CS) (n x rp : Nat) (rcW : rcT) (rcP : Nat → xst → xR) (j : Nat) : Prop := ∀ (s : xst) (N : NM) (b : Int32) (post : Option Nat → NM → Prop) (xp : Nat → List Nat → NM → Prop) (MC MS : Nat), xOk n s → cL K a S N → N x = some (rdr a s.1 b (iI (j : Nat))) → N rp = some (rpC s.2.2.1 s.2.2.2) → 16 * bdX s (rcP j s) ≤ MC → 160 * bdX s (rcP j s) ≤ MS → xO a x rp N s.2.1 j (rcP j s) post xp → rcW post xp MC MS N x (some rp)
theorem rp_ne {N : NM} {x rp p m l : Nat} {b d : Int32} (hx : N x = some (rdr a p b d)) (hr : N rp = some (rpC m l)) : x ≠ rp := fun c => by rw [c, hr] at hx; cases hx
theorem rp_inc (m : Nat) : iI (m : Int) + 1 = iI ((m + 1 : Nat) : Int) := by rw [show (1 : Int32) = iI 1 from rfl, iI_add]; rfl
theorem c_pt103 {rcW : rcT} {post : Option Nat → NM → Prop} {xp : Nat → List Nat → NM → Prop} {N : NM} {n x rp p p' mc ms j : Nat} {b ok : Int32} {v : Int} {s : xst} {R : xR} (hs : xOk n s) (hp : s.1 = p) (hv : 0 ≤ v ∧ v < 10000) (hx : N x = some (rdr a p' b (iI (j : Nat)))) (hr : N rp = some (rpC s.2.2.1 s.2.2.2)) (hmc : 2 ≤ mc) (hms : 9 ≤ ms) (hO : xO a x rp N s.2.1 j R post xp) (h1 : ok ≠ 0 → R = .inr (p', s.2.1 ++ [(0, v)], s.2.2.1 + 1, s.2.2.2)) (h0 : ok = 0 → R = .inl (12, p, (j : Nat))) : wX2_part_103 K rcW post xp (some rp) (iI (p : Nat)) (iI v) ok x mc ms N := by
  have hne := rp_ne hx hr
  unfold wX2_part_103
  refine ⟨_, _, _, _, hx, 1, 8, by omega, by omega, c_mustE 12 (p : Nat) rfl rfl (by omega) (by omega) (fun e => ?_) (fun e y f1 f2 f3 f4 g hy fs hfs => hO.bad hx (h0 e) hy)⟩
  refine ⟨rp, rfl, _, _, hr, fun N1 e1 => ⟨1, 1, by omega, by omega, ?_⟩⟩
  rw [rp_inc] at e1
  have e1 : N1 = va_up N rp (some (rpC (s.2.2.1 + 1) s.2.2.2)) := e1
  rw [iI_l (by omega) (by omega)]
  refine c_plain (by omega) (by omega) (fun q hq => ?_)
  have qr : rp ≠ q := fun c => by rw [← c, e1, up_eq] at hq; cases hq
  have hq0 : N q = none := by rw [e1, up_ne _ _ _ (Ne.symm qr)] at hq; exact hq
  have qx : x ≠ q := fun c => by rw [← c, hx] at hq0; cases hq0
  refine hO.1 _ (h1 e) _ q b [(0, v)] ?_ ?_ ?_ rfl (Or.inl ⟨v, up_eq _ _ _, rfl, hv⟩)
  · rw [e1]; exact ((k2.refl x rp N).atr _).new hq0 _
  · rw [up_ne _ _ _ qx, e1, up_ne _ _ _ hne]; exact hx
  · rw [up_ne _ _ _ qr, e1]; exact up_eq _ _ _
theorem c_pt167 {rcW : rcT} {rcP : Nat → xst → xR} {post : Option Nat → NM → Prop} {xp : Nat → List Nat → NM → Prop} {S : CS} {N : NM} {T : Nat → Int} {n x rp mc ms j r v : Nat} {b ok fl : Int32} {s : xst} {R : xR} (hT : cTape S T n) (hs : xOk n s) (hL : cL K a S N) (hx : N x = some (rdr a s.1 b (iI (j : Nat)))) (hr : N rp = some (rpC s.2.2.1 s.2.2.2)) (hw : sTx N r v (snL T n 8 s.1)) (hpn : s.1 < n) (hfl : fl ≠ 0 → ltAt T n s.1) (hfl0 : fl = 0 → sgIs T n s.1 40 ∧ j < 6)
    (hrc : fl = 0 → rcC K a S n x rp rcW rcP (j + 1)) (hgr : rcGr n rcP) (hmc : 3 ≤ mc) (hms : 24 ≤ ms) (hmc1 : ok ≠ 0 → fl = 0 → 3 + 16 * bdX (nxT T n s.1, s.2.1, s.2.2.1 + 1, s.2.2.2) (rcP (j + 1) (nxT T n s.1, s.2.1, s.2.2.1 + 1, s.2.2.2)) ≤ mc) (hms1 : ok ≠ 0 → fl = 0 → 24 + 160 * bdX (nxT T n s.1, s.2.1, s.2.2.1 + 1, s.2.2.2) (rcP (j + 1) (nxT T n s.1, s.2.1, s.2.2.1 + 1, s.2.2.2)) ≤ ms)
    (hO : xO a x rp N s.2.1 j R post xp) (h0 : ok = 0 → R = .inl (12, s.1, (j : Nat))) (hok : ok ≠ 0 → s.2.2.1 < 60)
    (h1 : ok ≠ 0 → fl ≠ 0 → R = .inr (nxT T n s.1, s.2.1 ++ [(1, wrdV T n s.1 - 1)], s.2.2.1 + 1, s.2.2.2 ||| 1 <<< (wrdV T n s.1 - 1).toNat))
    (h2 : ok ≠ 0 → fl = 0 → R = ptC T n j (rcP (j + 1) (nxT T n s.1, s.2.1, s.2.2.1 + 1, s.2.2.2))) : wX2_part_167 K rcW post xp x (some rp) (iI (s.1 : Nat)) (some r) fl ok x mc ms N := by
  have hne := rp_ne hx hr
  have ht8 := hT.1
  have hp := hs.1
  unfold wX2_part_167
  refine ⟨_, _, _, _, hx, 1, 8, by omega, by omega, c_mustE 12 (s.1 : Nat) rfl rfl (by omega) (by omega) (fun e => ?_) (fun e y f1 f2 f3 f4 g hy fs hfs => hO.bad hx (h0 e) hy)⟩
  refine ⟨rp, rfl, _, _, hr, fun N1 e1 => ⟨_, _, _, _, at_ne e1 hne hx, fun N2 e2 => ?_⟩⟩
  rw [rp_inc] at e1
  rw [rp_inc] at e2
  have e1 : N1 = va_up N rp (some (rpC (s.2.2.1 + 1) s.2.2.2)) := e1
  have e2 : N2 = va_up N1 x (some (rdr a (s.1 + 1) b (iI (j : Nat)))) := e2
  have k12 : k2 x rp N N2 := by rw [e2, e1]; exact ((k2.refl x rp N).atr _).atx _
  have hL2 := hL.k2 hx hr k12
  have x2 := at_up e2
  refine c_skips hL2 hT x2 (by omega) ?_
  have eS : sk T n (s.1 + 1) = nxT T n s.1 := by
    by_cases c : fl = 0
    · rw [nxT_sg (hfl0 c).1]
    · unfold nxT; rw [(hfl c).2.1]
  rw [eS, e2, up_up]
  have k13 : k2 x rp N (va_up N1 x (some (rdr a (nxT T n s.1) b (iI (j : Nat))))) := by rw [e1]; exact ((k2.refl x rp N).atr _).atx _
  have x3 := up_eq N1 x (some (rdr a (nxT T n s.1) b (iI (j : Nat))))
  have r3 : va_up N1 x (some (rdr a (nxT T n s.1) b (iI (j : Nat)))) rp = some (rpC (s.2.2.1 + 1) s.2.2.2) := by rw [up_ne _ _ _ (Ne.symm hne)]; exact at_up e1
  obtain ⟨N3, eN3⟩ : ∃ N3, N3 = va_up N1 x (some (rdr a (nxT T n s.1) b (iI (j : Nat)))) := ⟨_, rfl⟩
  rw [← eN3] at k13 x3 r3 ⊢
  have hL3 := hL.k2 hx hr k13
  have hO3 := hO.st k13 x3 r3
  have hnx := nxT_le (T := T) hp
  refine ⟨fun c => ?_, fun c => ?_⟩
  · have hmc := hmc1 e c
    have hms := hms1 e c
    have eR := h2 e c
    obtain ⟨s1, es1⟩ : ∃ s1 : xst, s1 = (nxT T n s.1, s.2.1, s.2.2.1 + 1, s.2.2.2) := ⟨_, rfl⟩
    rw [← es1] at hmc hms eR
    have hs1 : xOk n s1 := by
      rw [es1]
      have := hok e
      exact ⟨hnx.2, by show s.2.2.1 + 1 ≤ 60; omega, by show s.2.1.length ≤ 3 * (s.2.2.1 + 1); have := hs.2.2.1; omega, hs.2.2.2.1, hs.2.2.2.2⟩
    refine ⟨_, _, _, _, x3, fun N4 e4 => ⟨16 * bdX s1 (rcP (j + 1) s1), 160 * bdX s1 (rcP (j + 1) s1), by omega, by omega, ?_⟩⟩
    rw [rp_inc] at e4
    have e4 : N4 = va_up N3 x (some (rdr a (nxT T n s.1) b (iI ((j + 1 : Nat) : Int)))) := e4
    have k4 : k2 x rp N3 N4 := by rw [e4]; exact (k2.refl x rp N3).atx _
    have x4 := at_up e4
    have r4 : N4 rp = some (rpC (s.2.2.1 + 1) s.2.2.2) := at_ne e4 (Ne.symm hne) r3
    have hO4 := hO3.st k4 x4 r4
    refine hrc c s1 N4 b _ _ _ _ hs1 (hL3.k2 x3 r3 k4) (by rw [es1]; exact x4) (by rw [es1]; exact r4) (Nat.le_refl _) (Nat.le_refl _) ⟨fun s' hR N5 q b5 X k5 x5 r5 eX hS5 => ?_, fun k pl i hR N5 y f1 f2 f3 f4 g p' b' k5 d5 x5 y0 hy fs hfs => ?_⟩
    · have hL5 := (hL3.k2 x3 r3 k4).k2 x4 r4 k5
      have hO5 := hO4.st k5 x5 r5
      rw [hR] at eR
      have hs'n : s'.1 ≤ n := (hgr (j + 1) s1 s' hs1 hR).1.1
      refine ⟨_, _, _, _, x5, 1, 8, by omega, by omega, ?_⟩
      rw [show (41 : Int32) = iI 41 from rfl]
      refine c_asks hL5 hT x5 hs'n (by omega) (by omega) (by omega) (fun c1 c2 => ?_) (fun cc y f1 f2 f3 f4 g hy fs hfs => hO5.bad x5 (by rw [eR]; unfold ptC; dsimp only; rw [if_pos (fun z => cc ((sgIs_iff (by decide)).1 z))]) hy)
      have c41 : sgIs T n s'.1 41 := (sgIs_iff (by decide)).2 ⟨c1, c2⟩
      refine ⟨_, _, _, _, up_eq _ _ _, fun N6 e6 => ?_⟩
      rw [up_up, show iI ((j + 1 : Nat) : Int) - 1 = iI (j : Nat) by rw [show (1 : Int32) = iI 1 from rfl, iI_sub]; congr 1; omega] at e6
      have k6 : k2 x rp N5 N6 := by rw [e6]; exact (k2.refl x rp N5).atx _
      refine hO5.1 (nxT T n s'.1, s'.2) (by rw [eR]; unfold ptC; dsimp only; rw [if_neg (fun z => z c41)]) N6 q b5 X k6 ?_ (at_ne e6 (Ne.symm hne) r5) ?_ (hS5.k2 x5 r5 k6)
      · rw [nxT_sg c41]; exact at_up e6
      · rw [eX, es1]
    · rw [hR] at eR
      exact hO4.2 k pl i (by rw [eR]; rfl) N5 y f1 f2 f3 f4 g p' b' k5 d5 x5 y0 hy
  · have hl := hfl c
    obtain ⟨d, hd1, hd2, hd3, hd4⟩ := lt_iff.1 hl
    have hlv := lt_val hl
    have hw3 : sTx N3 r v (snL T n 8 s.1) := by
      obtain ⟨f, hh, zz, t1, t2, t3⟩ := hw
      refine ⟨f, hh, zz, k13 _ _ t1 (fun w => by rw [w, hx] at t1; cases t1) (fun w => by rw [w, hr] at t1; cases t1), k13 _ _ t2 (fun w => by rw [w, hx] at t2; cases t2) (fun w => by rw [w, hr] at t2; cases t2), t3⟩
    rw [hd1] at hw3
    have hcd : ((iI d &&& 255).toUInt32 % 65536).toInt32 = iI d := by
      have := ch255 ⟨d.toNat, by omega⟩
      dsimp only at this
      rw [show ((d.toNat : Nat) : Int) = d by omega] at this
      exact this
    have hvp : vp_in 0 [d].length := show vp_in (iI 0) 1 from iI_in (by omega) (by omega) (by omega)
    have e00 : (0 : Int32).toNatClampNeg = 0 := by decide
    obtain ⟨f, g1, g2, g3, g4⟩ := hw3.kn (K := K)
    refine ⟨_, _, r3, r, rfl, v, _, f, g1, hvp, fun N4 e4 => ?_⟩
    have x4 := at_ne e4 hne x3
    have k4 : k2 x rp N3 N4 := by rw [e4]; exact (k2.refl x rp N3).atr _
    have hw4 : sTx N4 r v [d] := by
      obtain ⟨f, hh, zz, t1, t2, t3⟩ := hw3
      exact ⟨f, hh, zz, k4 _ _ t1 (fun w => by rw [w, x3] at t1; cases t1) (fun w => by rw [w, r3] at t1; cases t1), k4 _ _ t2 (fun w => by rw [w, x3] at t2; cases t2) (fun w => by rw [w, r3] at t2; cases t2), t3⟩
    obtain ⟨f', g1', g2', g3', g4'⟩ := hw4.kn (K := K)
    rw [e00, g2 0 d rfl, hcd, show (97 : Int32) = iI 97 from rfl, iI_sub, bit_or hs.2.2.2.1 (by omega) (by omega)] at e4
    have e4 : N4 = va_up N3 rp (some (rpC (s.2.2.1 + 1) (s.2.2.2 ||| 1 <<< (d - 97).toNat))) := e4
    refine ⟨v, _, f', g1', hvp, 1, 1, by omega, by omega, ?_⟩
    rw [e00, g2' 0 d rfl, hcd, show (97 : Int32) = iI 97 from rfl, iI_sub]
    refine c_letter (by omega) (by omega) (fun q hq => ?_)
    have r4 := at_up e4
    have qr : rp ≠ q := fun c => by rw [← c, r4] at hq; cases hq
    have qx : x ≠ q := fun c => by rw [← c, x4] at hq; cases hq
    have hO4 := hO3.st k4 x4 r4
    refine hO4.1 _ (h1 e c) _ q b [(1, wrdV T n s.1 - 1)] ((k2.refl x rp N4).new hq _) ?_ ?_ rfl (Or.inr (Or.inl ⟨wrdV T n s.1 - 1, ?_, rfl, by omega, by omega⟩))
    · rw [up_ne _ _ _ qx]; exact x4
    · rw [up_ne _ _ _ qr, r4, show d - 97 = wrdV T n s.1 - 1 by omega]
    · rw [up_eq, show d - 97 = wrdV T n s.1 - 1 by omega]
theorem bdX_pos {n : Nat} {s : xst} {R : xR} {e : Nat} (hs : xOk n s) (h : ∀ s', R = .inr s' → xGr n e s s') : 1 ≤ bdX s R ∧ bdX s R ≤ 61 - s.2.2.1 := by
  have := hs.2.1
  cases R with
  | inl y => show 1 ≤ 61 - s.2.2.1 ∧ 61 - s.2.2.1 ≤ 61 - s.2.2.1; omega
  | inr s' =>
    have h1 := (h s' rfl).2.1
    have h2 := (h s' rfl).1.2.1
    show 1 ≤ s'.2.2.1 - s.2.2.1 ∧ s'.2.2.1 - s.2.2.1 ≤ 61 - s.2.2.1
    omega
theorem c_part {rcW : rcT} {rcP : Nat → xst → xR} {post : Option Nat → NM → Prop} {xp : Nat → List Nat → NM → Prop} {S : CS} {N : NM} {T : Nat → Int} {n x rp MC MS j : Nat} {b : Int32} {s : xst} (hT : cTape S T n) (hgr : rcGr n rcP) (hrc : j < 6 → rcC K a S n x rp rcW rcP (j + 1)) (hs : xOk n s) (hj : j ≤ 6) (hL : cL K a S N) (hx : N x = some (rdr a s.1 b (iI (j : Nat)))) (hr : N rp = some (rpC s.2.2.1 s.2.2.2)) (hMC : 16 * bdX s (ptR T n rcP j s) ≤ MC + 6) (hMS : 160 * bdX s (ptR T n rcP j s) ≤ MS + 60) (hO : xO a x rp N s.2.1 j (ptR T n rcP j s) post xp) : wX2_part K rcW post xp MC MS N x (some rp) := by
  have ht8 := hT.1
  have hp := hs.1
  have hm60 := hs.2.1
  have hΔ : 1 ≤ bdX s (ptR T n rcP j s) ∧ bdX s (ptR T n rcP j s) ≤ 61 - s.2.2.1 := bdX_pos hs (fun s' h => ptR_gr hgr hs h)
  have hne := rp_ne hx hr
  have bsub : ∀ s1 : xst, s1 = (nxT T n s.1, s.2.1, s.2.2.1 + 1, s.2.2.2) → s.2.2.1 < 60 → ptR T n rcP j s = ptC T n j (rcP (j + 1) s1) → bdX s1 (rcP (j + 1) s1) + 1 ≤ bdX s (ptR T n rcP j s) := by
    intro s1 es1 hm eR
    have hs1 : xOk n s1 := by
      rw [es1]
      exact ⟨(nxT_le hp).2, by show s.2.2.1 + 1 ≤ 60; omega, by show s.2.1.length ≤ 3 * (s.2.2.1 + 1); have := hs.2.2.1; omega, hs.2.2.2.1, hs.2.2.2.2⟩
    have e1 : s1.2.2.1 = s.2.2.1 + 1 := by rw [es1]
    rw [eR]
    cases e : rcP (j + 1) s1 with
    | inl y => show 61 - s1.2.2.1 + 1 ≤ 61 - s.2.2.1; omega
    | inr s' =>
      have g := hgr (j + 1) s1 s' hs1 e
      have g1 := g.2.1
      have g2 := g.1.2.1
      unfold ptC
      dsimp only
      by_cases c : ¬ sgIs T n s'.1 41
      · rw [if_pos c]; show s'.2.2.1 - s1.2.2.1 + 1 ≤ 61 - s.2.2.1; omega
      · rw [if_neg c]; show s'.2.2.1 - s1.2.2.1 + 1 ≤ s'.2.2.1 - s.2.2.1; omega
  have c70 : ∀ (fl ok : Int32) (mc ms r v : Nat) (N : NM), cL K a S N → N x = some (rdr a s.1 b (iI (j : Nat))) → N rp = some (rpC s.2.2.1 s.2.2.2) → sTx N r v (snL T n 8 s.1) → (fl = 0 ↔ ¬ ltAt T n s.1) → (ok = 0 ↔ ¬ (isD (chr T n s.1) = true ∨ ltAt T n s.1 ∨ sgIs T n s.1 40)) → 16 * bdX s (ptR T n rcP j s) ≤ mc + 10 → 160 * bdX s (ptR T n rcP j s) ≤ ms + 100 → xO a x rp N s.2.1 j (ptR T n rcP j s) post xp → wX2_part_70 K rcW post xp x (some rp) (iI (s.1 : Nat)) (some r) fl ok x mc ms N := by
    intro fl ok mc ms r v N hL hx hr hw hfl hok hmc hms hO
    have nbD : isNb T n s.1 → isD (chr T n s.1) = true := fun c => srt2.1 c.1
    have lD : ltAt T n s.1 → ¬ isD (chr T n s.1) = true := fun c d => by have := c.1; have := srt2.2 d; omega
    have gD : sgIs T n s.1 40 → ¬ isD (chr T n s.1) = true := fun c d => by have := c.1; have := srt2.2 d; omega
    unfold wX2_part_70
    refine ⟨_, _, _, _, hx, 1, 8, by omega, by omega, c_mustE 1 (s.1 : Nat) rfl rfl (by omega) (by omega) (fun e => ?_) (fun e y f1 f2 f3 f4 g hy fs hfs => hO.bad hx (by unfold ptR; rw [if_pos (fun z => hok.1 e (z.imp nbD id))]) hy)⟩
    have hor : isD (chr T n s.1) = true ∨ ltAt T n s.1 ∨ sgIs T n s.1 40 := Classical.byContradiction (fun c => e (hok.2 c))
    refine ⟨_, _, _, _, hx, c_isDigit hL hT hx (by omega) (fun hd => b_f (by decide) ?_) (fun hd => b_t rfl ?_)⟩
    · have nl : ¬ ltAt T n s.1 := fun c => lD c hd
      have ng : ¬ sgIs T n s.1 40 := fun c => gD c hd
      refine ⟨_, _, _, _, hx, 2, 16, by omega, by omega, c_rdNumD hL hT hx hp (by omega) (by omega) (fun hb => ?_) (fun hb p' b' y f1 f2 f3 f4 g hy fs hfs => hO.bad' hx (by unfold ptR; rw [if_pos (fun z => z.elim hb (fun z => z.elim nl ng))]) hy)⟩
      have k1 := (k2.refl x rp N).atx (some (rdr a (nxT T n s.1) (iI (s.1 : Nat)) (iI (j : Nat))))
      have x1 := up_eq N x (some (rdr a (nxT T n s.1) (iI (s.1 : Nat)) (iI (j : Nat))))
      have r1 : va_up N x (some (rdr a (nxT T n s.1) (iI (s.1 : Nat)) (iI (j : Nat)))) rp = some (rpC s.2.2.1 s.2.2.2) := by rw [up_ne _ _ _ (Ne.symm (rp_ne hx hr))]; exact hr
      have hO1 := hO.st k1 x1 r1
      refine ⟨rp, rfl, _, _, r1, ?_⟩
      rw [show (60 : Int32) = iI 60 from rfl, iI_le (by omega) (by omega) (by omega) (by omega)]
      refine ⟨fun c => c_pt103 hs rfl numV_in x1 r1 (by omega) (by omega) hO1 (fun e => absurd rfl e) (fun _ => ?_), fun c => c_pt103 hs rfl numV_in x1 r1 (by omega) (by omega) hO1 (fun _ => ?_) (fun e => absurd e (by decide))⟩
      · unfold ptR; rw [if_neg (fun z => z (Or.inl hb)), if_neg (fun z => ng z.1), if_pos (by omega)]
      · unfold ptR; rw [if_neg (fun z => z (Or.inl hb)), if_neg (fun z => ng z.1), if_neg (by omega), if_neg ng, if_neg nl]
    · have hor2 : ltAt T n s.1 ∨ sgIs T n s.1 40 := hor.elim (fun z => by rw [z] at hd; cases hd) id
      have hpn : s.1 < n := by
        refine Classical.byContradiction (fun c => ?_)
        have : srt T n s.1 = 0 := by unfold srt; rw [if_pos (by omega)]
        rcases hor2 with z | z
        · have := z.1; omega
        · have := z.1; omega
      have c146 : ∀ ok : Int32, (ok = 0 → sgIs T n s.1 40 ∧ j = 6) → (ok ≠ 0 → ¬ (sgIs T n s.1 40 ∧ j = 6)) → wX2_part_146 K rcW post xp x (some rp) (iI (s.1 : Nat)) (some r) fl ok x (mc - 1) (ms - 8) N := by
        intro ok h0 h1
        unfold wX2_part_146
        refine ⟨_, _, _, _, hx, 1, 8, by omega, by omega, c_mustE 11 (s.1 : Nat) rfl rfl (by omega) (by omega) (fun e => ?_) (fun e y f1 f2 f3 f4 g hy fs hfs => hO.bad hx (by unfold ptR; rw [if_neg (fun z => z (Or.inr hor2)), if_pos (h0 e)]) hy)⟩
        have n6 := h1 e
        refine ⟨rp, rfl, _, _, hr, ?_⟩
        rw [show (60 : Int32) = iI 60 from rfl, iI_le (by omega) (by omega) (by omega) (by omega)]
        have hfl1 : fl ≠ 0 → ltAt T n s.1 := fun c => Classical.byContradiction (fun z => c (hfl.2 z))
        have hfl0 : fl = 0 → sgIs T n s.1 40 ∧ j < 6 := fun c => by
          have c40 := hor2.elim (fun z => absurd z (hfl.1 c)) id
          exact ⟨c40, by have : ¬ j = 6 := fun z => n6 ⟨c40, z⟩; omega⟩
        refine ⟨fun c => ?_, fun c => ?_⟩
        · have eR : ptR T n rcP j s = .inl (12, s.1, (j : Nat)) := by unfold ptR; rw [if_neg (fun z => z (Or.inr hor2)), if_neg n6, if_pos (by omega)]
          exact c_pt167 (rcP := rcP) hT hs hL hx hr hw hpn hfl1 hfl0 (fun c0 => hrc (hfl0 c0).2) hgr (by omega) (by omega) (fun e => absurd rfl e) (fun e => absurd rfl e) hO (fun _ => eR) (fun e => absurd rfl e) (fun e => absurd rfl e) (fun e => absurd rfl e)
        · have hb1 : ∀ c0 : fl = 0, ptR T n rcP j s = ptC T n j (rcP (j + 1) (nxT T n s.1, s.2.1, s.2.2.1 + 1, s.2.2.2)) := fun c0 => by
            unfold ptR; rw [if_neg (fun z => z (Or.inr hor2)), if_neg n6, if_neg (by omega), if_pos (hfl0 c0).1]
          refine c_pt167 hT hs hL hx hr hw hpn hfl1 hfl0 (fun c0 => hrc (hfl0 c0).2) hgr (by omega) (by omega) (fun _ c0 => ?_) (fun _ c0 => ?_) hO (fun e => absurd e (by decide)) (fun _ => by omega) (fun _ c0 => ?_) (fun _ c0 => hb1 c0)
          · have := bsub _ rfl (by omega) (hb1 c0)
            omega
          · have := bsub _ rfl (by omega) (hb1 c0)
            omega
          · have nl := hfl1 c0
            have ng : ¬ sgIs T n s.1 40 := fun z => by have := nl.1; have := z.1; omega
            unfold ptR; rw [if_neg (fun z => z (Or.inr hor2)), if_neg n6, if_neg (by omega), if_neg ng, if_pos nl]
      refine ⟨fun c => ⟨_, _, _, _, hx, ?_⟩, fun c => ?_⟩
      · have c40 := hor2.elim (fun z => absurd z (hfl.1 c)) id
        rw [show (6 : Int32) = iI 6 from rfl, iI_le (by omega) (by omega) (by omega) (by omega)]
        refine ⟨fun c6 => c146 0 (fun _ => ⟨c40, by omega⟩) (fun e => absurd rfl e), fun c6 => ?_⟩
        unfold wX2_part_141
        exact c146 1 (fun e => absurd e (by decide)) (fun _ z => by omega)
      · unfold wX2_part_141
        have nl : ltAt T n s.1 := Classical.byContradiction (fun z => c (hfl.2 z))
        exact c146 1 (fun e => absurd e (by decide)) (fun _ z => by have := nl.1; have := z.1.1; omega)
  have c41 : ∀ (fl : Int32) (mc ms r v : Nat) (N : NM), cL K a S N → N x = some (rdr a s.1 b (iI (j : Nat))) → N rp = some (rpC s.2.2.1 s.2.2.2) → sTx N r v (snL T n 8 s.1) → (fl = 0 ↔ ¬ ltAt T n s.1) → 16 * bdX s (ptR T n rcP j s) ≤ mc + 10 → 160 * bdX s (ptR T n rcP j s) ≤ ms + 100 → xO a x rp N s.2.1 j (ptR T n rcP j s) post xp → wX2_part_41 K rcW post xp x (some rp) (iI (s.1 : Nat)) (some r) fl mc ms N := by
    intro fl mc ms r v N hL hx hr hw hfl hmc hms hO
    unfold wX2_part_41
    refine ⟨_, _, _, _, hx, c_isDigit hL hT hx (by omega) (fun hd => b_f (by decide) ?_) (fun hd => b_t rfl ⟨fun c => ⟨_, _, _, _, hx, c_here hL hT hx (by omega) ?_⟩, fun c => ?_⟩)⟩
    · unfold wX2_part_65
      exact c70 fl 1 mc ms r v N hL hx hr hw hfl ⟨fun e => absurd e (by decide), fun e => absurd (Or.inl hd) e⟩ hmc hms hO
    · have hcc := hT.sg s.1
      have e40 : chr T n s.1 = 40 ↔ sgIs T n s.1 40 := by
        rw [sgIs_iff (by decide)]
        unfold chr
        by_cases c : s.1 < n
        · rw [if_pos c]; exact ⟨fun e => ⟨c, e⟩, fun e => e.2⟩
        · rw [if_neg c]; exact ⟨fun e => by omega, fun e => absurd e.1 c⟩
      rw [show (40 : Int32) = iI 40 from rfl, iI_eq (by omega) (by omega) (by omega) (by omega), e40]
      refine ⟨fun c2 => ?_, fun c2 => ?_⟩
      · unfold wX2_part_65
        exact c70 fl 1 mc ms r v N hL hx hr hw hfl ⟨fun e => absurd e (by decide), fun e => absurd (Or.inr (Or.inr c2)) e⟩ hmc hms hO
      · exact c70 fl 0 mc ms r v N hL hx hr hw hfl ⟨fun _ z => z.elim (fun z => by rw [z] at hd; cases hd) (fun z => z.elim (hfl.1 c) c2), fun _ => rfl⟩ hmc hms hO
    · unfold wX2_part_65
      have nl : ltAt T n s.1 := Classical.byContradiction (fun z => c (hfl.2 z))
      exact c70 fl 1 mc ms r v N hL hx hr hw hfl ⟨fun e => absurd e (by decide), fun e => absurd (Or.inr (Or.inl nl)) e⟩ hmc hms hO
  unfold wX2_part
  refine ⟨_, _, _, _, hx, 4, 40, by omega, by omega, c_seen hL hT hx hp (by omega) (by omega) (fun N1 r v r0 v0 n1 hw => ?_)⟩
  have hL1 := hL.nw n1
  have x1 := n1 _ _ hx
  have r1 := n1 _ _ hr
  have hO1 := hO.st n1.k2 x1 r1
  obtain ⟨f, g1, g2, g3, g4⟩ := hw.kn (K := K)
  refine ⟨r, rfl, v, _, f, g1, ?_⟩
  have hll := snL_len T n 8 s.1
  rw [nI_i, show (1 : Int32) = iI 1 from rfl, iI_eq (by omega) (by omega) (by omega) (by omega)]
  refine ⟨fun c => ?_, fun c => ?_⟩
  · obtain ⟨d, ed⟩ : ∃ d, snL T n 8 s.1 = [d] := List.length_eq_one_iff.mp (by omega)
    rw [ed] at g1 g2 g3
    have hd := g3 d (List.mem_singleton.mpr rfl)
    have hcd : ((iI d &&& 255).toUInt32 % 65536).toInt32 = iI d := by
      have := ch255 ⟨d.toNat, by omega⟩
      dsimp only at this
      rw [show ((d.toNat : Nat) : Int) = d by omega] at this
      exact this
    have dT : d = T s.1 := by
      have h := snL_at T n 8 s.1
      rw [ed] at h
      have h0 := congrArg (fun L => L[0]?) h
      have el := congrArg List.length h
      simp only [List.length_map, List.length_range, List.length_singleton] at el
      simp only [List.getElem?_map] at h0
      rw [List.getElem?_range (by omega)] at h0
      exact Option.some.inj h0
    rw [show (0 : Int32).toNatClampNeg = 0 by decide, g2 0 d rfl, hcd, iI_l (by omega) (by omega), show (97 : Int64) = lI 97 from rfl, show (102 : Int64) = lI 102 from rfl, ed]
    refine ⟨show vp_in (iI 0) 1 from iI_in (by omega) (by omega) (by omega), c_isIn (by unfold i64; omega) (by unfold i64; omega) (by unfold i64; omega) (fun s1 s2 => b_f (by decide) ?_) (fun sn => b_t rfl ?_)⟩
    · exact c41 1 _ _ r v N1 hL1 x1 r1 hw ⟨fun e => absurd e (by decide), fun e => absurd (lt_iff.2 ⟨d, ed, dT, s1, s2⟩) e⟩ (by omega) (by omega) hO1
    · unfold wX2_part_40
      exact c41 0 _ _ r v N1 hL1 x1 r1 hw ⟨fun _ z => by
        obtain ⟨d', e1, e2, e3, e4⟩ := lt_iff.1 z
        rw [ed] at e1; cases e1; exact sn ⟨e3, e4⟩, fun _ => rfl⟩ (by omega) (by omega) hO1
  · unfold wX2_part_40
    exact c41 0 _ _ r v N1 hL1 x1 r1 hw ⟨fun _ z => by
      obtain ⟨d', e1, e2, e3, e4⟩ := lt_iff.1 z
      rw [e1] at c; exact c rfl, fun _ => rfl⟩ (by omega) (by omega) hO1
end
