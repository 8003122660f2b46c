set_option maxRecDepth 100000
set_option maxHeartbeats 4000000
/-! the component reads an identity -/
section
variable {K : Nat → Nat → Nat} {a : Nat → Nat}
theorem cS.ob {N : NM} {q : Nat} {X : List (Int × Int)} (h : cS N q X) : sumOb N q := by
  unfold cS at h
  cases e : X.length with
  | zero => rw [e] at h; exact h.elim
  | succ d =>
    rw [e] at h
    rcases h with ⟨v, a1, a2⟩ | ⟨w, a1, a2⟩ | ⟨c, qa, qb, Xa, Xb, a1, a2, a3, a4, a5⟩ | ⟨e, qa, Xa, a1, a2, a3, a4, a5⟩
    · exact ⟨8, _, a1, Or.inl rfl⟩
    · exact ⟨9, _, a1, Or.inr (Or.inl rfl)⟩
    · exact ⟨10, _, a1, Or.inr (Or.inr (Or.inl rfl))⟩
    · exact ⟨11, _, a1, Or.inr (Or.inr (Or.inr rfl))⟩
/-- a fault of an identity is wrapped twice -/
theorem c_wrapJ {xp : Nat → List Nat → NM → Prop} {N : NM} {x p' q mc ms : Nat} {b' : Int32} {f1 f2 f3 f4 : Option Nat} {g : Int32} {w pl i : Int} {o : Int} {ov : Int32} (eo : ov = iI o) (hx : N x = some (rdr a p' b' (iI i))) (hq : N q = some (oWr f1 f2 f3 f4 g w pl)) (hmc : 2 ≤ mc) (hms : 14 ≤ ms) (h : ∀ N' y z, nw N N' → N y = none → N z = none → N' y = some (oOu z o) → N' z = some (oIn q i) → N' q = some (oWr f1 f2 f3 f4 g w pl) → xp y [z, y, q] N') :
    1 ≤ mc ∧ 7 ≤ ms ∧ (∀ nq40, N nq40 = none → (∀ N42, N42 = va_up N nq40 (some (eO 5 [va_rf none, va_rf none, va_rf none, va_rf none, va_rf none, .int (0 : Int32), .int (0 : Int32)])) → (1 ≤ mc - 1 ∧ 7 ≤ ms - 7 ∧ (∀ nq47, N42 nq47 = none → (∀ N49, N49 = va_up N42 nq47 (some (eO 4 [va_rf none, va_rf none, va_rf none, va_rf none, va_rf none, .int (0 : Int32), .int (0 : Int32)])) → (∃ f54 f55 f56 f57, N49 x = some (eO 2 [.int f54, .int f55, .int f56, va_rf f57]) ∧ (wX8_init K (fun _ N59 => wX5_init K (fun _ N61 => ∃ f63 f64 f65 f66 f67 f68 f69, N61 nq40 = some (eO 5 [va_rf f63, va_rf f64, va_rf f65, va_rf f66, va_rf f67, .int f68, .int f69]) ∧ (xp nq40 (nq47 :: (nq40 :: [q])) N61)) N59 nq40 ov (some nq47)) N49 nq47 f56 (some q)))))))) := by
  subst eo
  refine ⟨by omega, by omega, fun y hy N42 e42 => ⟨by omega, by omega, fun z hz N49 e49 => ?_⟩⟩
  have zy : z ≠ y := fun c => by rw [c, e42, up_eq] at hz; cases hz
  have z0 : N z = none := by rw [e42, up_ne _ _ _ zy] at hz; exact hz
  have xz : x ≠ z := fun c => by rw [c, z0] at hx; cases hx
  have xy : x ≠ y := fun c => by rw [c, hy] at hx; cases hx
  have qz : q ≠ z := fun c => by rw [c, z0] at hq; cases hq
  have qy : q ≠ y := fun c => by rw [c, hy] at hq; cases hq
  refine ⟨_, _, _, _, at_ne e49 xz (at_ne e42 xy hx), c_inner (at_up e49) ?_⟩
  rw [e49, up_up]
  refine c_outer (by rw [up_ne _ _ _ (Ne.symm zy)]; exact at_up e42) ?_
  refine ⟨_, _, _, _, _, _, _, up_eq _ _ _, h _ y z ?_ hy z0 (up_eq _ _ _) ?_ ?_⟩
  · rw [e42]; exact (((nw.refl N).new hy _).new z0 _).new hy _
  · rw [up_ne _ _ _ zy]; exact up_eq _ _ _
  · rw [up_ne _ _ _ qy, up_ne _ _ _ qz]; exact at_ne e42 qy hq
/-- what a reading of an identity leaves -/
def idP (K : Nat → Nat → Nat) (a : Nat → Nat) (x : Nat) (S : CS) (N : NM) (R : (Int × Nat × Nat × Int) ⊕ (Nat × xst)) (post : Unit → NM → Prop) (xp : Nat → List Nat → NM → Prop) : Prop :=
  (∀ e s, R = .inr (e, s) → ∀ N' ql qr, cL K a ((va_up (va_up S.1.1 7 (some ql)) 8 (some qr), va_up (va_up S.1.2 9 (iI (s.2.2.2 : Nat))) 10 (iI (s.2.2.1 : Nat))), S.2) N' → (∀ z u, N z = some u → (∀ i, i < 28 → z ≠ a i) → z ≠ x → N' z = some u) → cSm N' 200 ql (s.2.1.take e) → cSm N' 200 qr (s.2.1.drop e) → post () N') ∧
  (∀ k pl o i, R = .inl (k, pl, o, i) → ∀ N' y z r f1 f2 f3 f4 g, cL K a S N' → (∀ z u, N z = some u → z ≠ x → N' z = some u) → N y = none → N z = none → N r = none → N' y = some (oOu z (o : Nat)) → N' z = some (oIn r i) → N' r = some (oWr f1 f2 f3 f4 g k (pl : Nat)) → xp y [z, y, r] N')
theorem c_rdId {post : Unit → NM → Prop} {xp : Nat → List Nat → NM → Prop} {S : CS} {N : NM} {T : Nat → Int} {n x MC MS : Nat} {b : Int32} (hT : cTape S T n) (hL : cL K a S N) (hx : N x = some (rdr a (sk T n 0) b 0)) (hMC : 2100 ≤ MC) (hMS : 20100 ≤ MS) (hO : idP K a x S N (idR T n) post xp) : wX2_identity K post xp MC MS N x := by
  have ht8 := hT.1
  have e2 : (2 : Int32).toNatClampNeg = 2 := by decide
  have e1' : (1 : Int32).toNatClampNeg = 1 := by decide
  have e0' : (0 : Int32).toNatClampNeg = 0 := by decide
  have hp0 := (sk_le (T := T) (n := n) (p := 0) (Nat.zero_le n)).2
  unfold wX2_identity wX9_init
  rw [e2, e1', e0']
  refine ⟨by decide, by omega, by omega, by omega, fun q5 hq5 N7 e7 => ⟨by omega, by omega, fun rp hrp N14 e14 => ?_⟩⟩
  have q5r : q5 ≠ rp := fun c => by rw [← c, e7, up_eq] at hrp; cases hrp
  have rp0 : N rp = none := by rw [e7, up_ne _ _ _ (Ne.symm q5r)] at hrp; exact hrp
  have n14 : nw N N14 := by rw [e14, e7]; exact ((nw.refl N).new hq5 _).new rp0 _
  have x14 := n14 _ _ hx
  have r14 : N14 rp = some (rpC 0 0) := at_up e14
  have s14 : N14 q5 = some (eR 11 2 (fun _ => none)) := at_ne e14 q5r (at_up e7)
  have q5x : q5 ≠ x := fun c => by rw [c, hx] at hq5; cases hq5
  have hxr : x ≠ rp := rp_ne x14 r14
  have hL14 := hL.nw n14
  have x14' : N14 x = some (rdr a (sk T n 0) b (iI ((0 : Nat) : Int))) := x14
  obtain ⟨s0, es0⟩ : ∃ s0 : xst, s0 = (sk T n 0, [], 0, 0) := ⟨_, rfl⟩
  have hs0 : xOk n s0 := by rw [es0]; exact ⟨hp0, by show 0 ≤ 60; omega, by show 0 ≤ 3 * 0; omega, by show 0 < 64; omega, fun c hc => by cases hc⟩
  have b0 : bdX s0 (sxR T n 8 0 s0) ≤ 61 := by
    have h : 1 ≤ bdX s0 (sxR T n 8 0 s0) ∧ bdX s0 (sxR T n 8 0 s0) ≤ 61 - s0.2.2.1 := bdX_pos hs0 (fun s' h => sxR_gr 8 0 s0 s' hs0 h)
    omega
  -- what a fault leaves
  have flt : ∀ {N1 : NM} {y mc ms p' : Nat} {b' : Int32} {f1 f2 f3 f4 : Option Nat} {g : Int32} {k i : Int} {pl o : Nat} {ov : Int32}, ov = iI (o : Nat) → cL K a S N1 → (∀ z u, N z = some u → z ≠ x → N1 z = some u) → dm N N1 → N1 x = some (rdr a p' b' (iI i)) → N y = none → N1 y = some (oWr f1 f2 f3 f4 g k (pl : Nat)) → 2 ≤ mc → 14 ≤ ms → idR T n = .inl (k, pl, o, i) →
      1 ≤ mc ∧ 7 ≤ ms ∧ (∀ nq40, N1 nq40 = none → (∀ N42, N42 = va_up N1 nq40 (some (eO 5 [va_rf none, va_rf none, va_rf none, va_rf none, va_rf none, .int (0 : Int32), .int (0 : Int32)])) → (1 ≤ mc - 1 ∧ 7 ≤ ms - 7 ∧ (∀ nq47, N42 nq47 = none → (∀ N49, N49 = va_up N42 nq47 (some (eO 4 [va_rf none, va_rf none, va_rf none, va_rf none, va_rf none, .int (0 : Int32), .int (0 : Int32)])) → (∃ f54 f55 f56 f57, N49 x = some (eO 2 [.int f54, .int f55, .int f56, va_rf f57]) ∧ (wX8_init K (fun _ N59 => wX5_init K (fun _ N61 => ∃ f63 f64 f65 f66 f67 f68 f69, N61 nq40 = some (eO 5 [va_rf f63, va_rf f64, va_rf f65, va_rf f66, va_rf f67, .int f68, .int f69]) ∧ (xp nq40 (nq47 :: (nq40 :: [y])) N61)) N59 nq40 ov (some nq47)) N49 nq47 f56 (some y)))))))) := by
    intro N1 y mc ms p' b' f1 f2 f3 f4 g k i pl o ov eo hL1 hk hd hx1 y0 hy hmc hms eR
    exact c_wrapJ eo hx1 hy hmc hms (fun N' u z n1 u0 z0 hu hz hr => hO.2 k pl o i eR N' u z y f1 f2 f3 f4 g (hL1.nw n1) (fun w e hw wx => n1 _ _ (hk w e hw wx)) (hd.no u0) (hd.no z0) y0 hu hz hr)
  refine ⟨_, _, _, _, x14, 976, 9760, by omega, by omega, ?_⟩
  refine c_sumR hT 9 8 0 (by omega) (by omega) (by omega) s0 N14 b _ _ _ _ hs0 hL14 (by rw [es0]; exact x14') (by rw [es0]; exact r14) (by omega) (by omega) ⟨fun s1 hR N1 q1 b1 X1 k1 x1 r1 eX1 hS1 => ?_, fun k pl i hR N1 y f1 f2 f3 f4 g p' b' k1 d1 x1 y0 hy fs hfs => ?_⟩
  rotate_left
  · exact flt (o := 0) rfl (hL14.k2 x14' r14 k1) (fun z u hz zx => k1 _ _ (n14 _ _ hz) zx (fun c => by rw [c, rp0] at hz; cases hz)) ((n14.kx.dm x14).tr d1) x1 (n14.none y0) hy (by omega) (by omega) (by unfold idR; rw [← es0]; simp only [hR])
  have gr1 := sxR_gr 8 0 s0 s1 hs0 hR
  have hL1 := hL14.k2 x14' r14 k1
  have s1' : N1 q5 = some (eR 11 2 (fun _ => none)) := k1 _ _ s14 q5x q5r
  refine ⟨_, _, s1', show vp_in (iI 0) 2 from iI_in (by omega) (by omega) (by omega), q1, rfl, hS1.ob, fun N76 e76 => ?_⟩
  have k76 : k2 x rp N N76 := by
    intro z u hz zx zr
    rw [e76, up_ne _ _ _ (fun c => by rw [c, hq5] at hz; cases hz)]
    exact k1 _ _ (n14 _ _ hz) zx zr
  have o76 : ∀ z c fs, N1 z = some (eO c fs) → N76 z = some (eO c fs) := fun z c fs hz => by
    rw [e76, up_ne _ _ _ (fun w => by rw [w, s1'] at hz; cases hz)]; exact hz
  have x76 := o76 _ _ _ x1
  have r76 := o76 _ _ _ r1
  have hL76 : cL K a S N76 := by
    rw [e76]
    exact hL1.off (fun i hi c => hL.outN hq5 i hi c) _
  have hS76 : cS N76 q1 X1 := cSm.kq (fun z c fs hz _ _ => o76 z c fs hz) _ _ _ hS1
  have d76 : dm N N76 := fun z hz c => by
    cases e : N z with
    | none => exact hz e
    | some u =>
      by_cases zx : z = x
      · rw [zx, x76] at c; cases c
      · by_cases zr : z = rp
        · rw [zr, r76] at c; cases c
        · have := k76 z u e zx zr; rw [c] at this; cases this
  have s76 : N76 q5 = some (eR 11 2 (va_up (fun _ => none) 0 (some q1))) := at_up e76
  have kp76 : ∀ z u, N z = some u → z ≠ x → N76 z = some u := fun z u hz zx => k76 z u hz zx (fun c => by rw [c, rp0] at hz; cases hz)
  refine ⟨_, _, _, _, x76, 1, 8, by omega, by omega, ?_⟩
  rw [show (61 : Int32) = iI 61 from rfl]
  have hx0 : idR T n = if ¬ sgIs T n s1.1 61 then .inl (1, s1.1, 0, 0) else match sxR T n 8 0 (nxT T n s1.1, s1.2) with
    | .inl (k, q, i) => .inl (k, q, 1, i)
    | .inr s' => if srt T n s'.1 ≠ 0 then .inl (1, s'.1, 1, 0) else .inr (s1.2.1.length, s') := by
    unfold idR; rw [← es0]; simp only [hR]; rfl
  refine c_asks hL76 hT x76 gr1.1.1 (by omega) (by omega) (by omega) (fun c1 c2 => ?_) (fun c y f1 f2 f3 f4 g hy fs hfs => ?_)
  rotate_left
  · have n2 := (nw.refl N76).new hy (oWr f1 f2 f3 f4 g 1 (s1.1 : Nat))
    exact flt (o := 0) (i := 0) rfl (hL76.nw n2) (fun z u hz zx => n2 _ _ (kp76 z u hz zx)) (d76.up y _) (n2 _ _ x76) (d76.no hy) (up_eq _ _ _) (by omega) (by omega) (by rw [hx0, if_pos (fun z => c ((sgIs_iff (by decide)).1 z))])
  have c61 : sgIs T n s1.1 61 := (sgIs_iff (by decide)).2 ⟨c1, c2⟩
  rw [if_neg (fun z => z c61)] at hx0
  have k80 := (k2.refl x rp N76).atx (some (rdr a (sk T n (s1.1 + 1)) b1 (iI ((0 : Nat) : Int))))
  have x80 := up_eq N76 x (some (rdr a (sk T n (s1.1 + 1)) b1 (iI ((0 : Nat) : Int))))
  have r80 : va_up N76 x (some (rdr a (sk T n (s1.1 + 1)) b1 (iI ((0 : Nat) : Int)))) rp = some (rpC s1.2.2.1 s1.2.2.2) := by rw [up_ne _ _ _ (Ne.symm hxr)]; exact r76
  have hL80 := hL76.k2 x76 r76 k80
  have hS80 := hS76.k2 x76 r76 k80
  have s80 : va_up N76 x (some (rdr a (sk T n (s1.1 + 1)) b1 (iI ((0 : Nat) : Int)))) q5 = some (eR 11 2 (va_up (fun _ => none) 0 (some q1))) := by rw [up_ne _ _ _ q5x]; exact s76
  have kp80 : ∀ z u, N z = some u → z ≠ x → va_up N76 x (some (rdr a (sk T n (s1.1 + 1)) b1 (iI ((0 : Nat) : Int)))) z = some u := fun z u hz zx => by rw [up_ne _ _ _ zx]; exact kp76 z u hz zx
  have d80 : dm N (va_up N76 x (some (rdr a (sk T n (s1.1 + 1)) b1 (iI ((0 : Nat) : Int))))) := d76.up x _
  obtain ⟨N80, eN80⟩ : ∃ N80, N80 = va_up N76 x (some (rdr a (sk T n (s1.1 + 1)) b1 (iI ((0 : Nat) : Int)))) := ⟨_, rfl⟩
  rw [← eN80] at x80 r80 hL80 hS80 s80 kp80 d80 ⊢
  rw [← nxT_sg c61] at x80
  obtain ⟨s2, es2⟩ : ∃ s2 : xst, s2 = (nxT T n s1.1, s1.2) := ⟨_, rfl⟩
  rw [← es2] at hx0
  have hs2 : xOk n s2 := by rw [es2]; exact gr1.1.at (nxT_le gr1.1.1).2
  have b2 : bdX s2 (sxR T n 8 0 s2) ≤ 61 := by
    have h : 1 ≤ bdX s2 (sxR T n 8 0 s2) ∧ bdX s2 (sxR T n 8 0 s2) ≤ 61 - s2.2.2.1 := bdX_pos hs2 (fun s' h => sxR_gr 8 0 s2 s' hs2 h)
    omega
  refine ⟨_, _, _, _, x80, 976, 9760, by omega, by omega, ?_⟩
  refine c_sumR hT 9 8 0 (by omega) (by omega) (by omega) s2 N80 b1 _ _ _ _ hs2 hL80 (by rw [es2]; exact x80) (by rw [es2]; exact r80) (by omega) (by omega) ⟨fun s3 hR3 N3 q3 b3 X3 k3 x3 r3 eX3 hS3 => ?_, fun k pl i hR3 N3 y f1 f2 f3 f4 g p' b' k3 d3 x3 y0 hy fs hfs => ?_⟩
  rotate_left
  · exact flt (o := 1) rfl (hL80.k2 x80 r80 k3) (fun z u hz zx => k3 _ _ (kp80 z u hz zx) zx (fun c => by rw [c, rp0] at hz; cases hz)) (d80.tr d3) x3 (d80.no y0) hy (by omega) (by omega) (by rw [hx0]; simp only [hR3])
  have gr3 := sxR_gr 8 0 s2 s3 hs2 hR3
  rw [hR3] at hx0
  have hL3 := hL80.k2 x80 r80 k3
  have s3' : N3 q5 = some (eR 11 2 (va_up (fun _ => none) 0 (some q1))) := k3 _ _ s80 q5x q5r
  refine ⟨_, _, s3', show vp_in (iI 1) 2 from iI_in (by omega) (by omega) (by omega), q3, rfl, hS3.ob, fun N85 e85 => ?_⟩
  have o85 : ∀ z c fs, N3 z = some (eO c fs) → N85 z = some (eO c fs) := fun z c fs hz => by
    rw [e85, up_ne _ _ _ (fun w => by rw [w, s3'] at hz; cases hz)]; exact hz
  have x85 := o85 _ _ _ x3
  have r85 := o85 _ _ _ r3
  have hL85 : cL K a S N85 := by rw [e85]; exact hL3.off (fun i hi c => hL.outN hq5 i hi c) _
  have hS85a : cS N85 q1 X1 := cSm.kq (fun z c fs hz _ _ => o85 z c fs hz) _ _ _ (hS80.k2 x80 r80 k3)
  have hS85b : cS N85 q3 X3 := cSm.kq (fun z c fs hz _ _ => o85 z c fs hz) _ _ _ hS3
  have s85 : N85 q5 = some (eR 11 2 (va_up (va_up (fun _ => none) 0 (some q1)) 1 (some q3))) := at_up e85
  have kp85 : ∀ z u, N z = some u → z ≠ x → N85 z = some u := fun z u hz zx => by
    rw [e85, up_ne _ _ _ (fun c => by rw [c, hq5] at hz; cases hz)]
    exact k3 _ _ (kp80 z u hz zx) zx (fun c => by rw [c, rp0] at hz; cases hz)
  have d85 : dm N N85 := fun z hz c => by
    cases e : N z with
    | none => exact hz e
    | some u =>
      by_cases zx : z = x
      · rw [zx, x85] at c; cases c
      · have := kp85 z u e zx; rw [c] at this; cases this
  have sz : srt T n s3.1 = 0 ↔ n ≤ s3.1 := by
    unfold srt
    by_cases c : n ≤ s3.1
    · rw [if_pos c]; exact ⟨fun _ => c, fun _ => rfl⟩
    · rw [if_neg c]
      refine ⟨fun e => ?_, fun e => absurd e c⟩
      split at e
      · omega
      · split at e <;> omega
  refine ⟨_, _, _, _, x85, c_isOver hL85 hT x85 (by have := gr3.1.1; omega) (fun c => ⟨_, _, _, _, x85, 1, 8, by omega, by omega, c_mustE 1 (s3.1 : Nat) rfl rfl (by omega) (by omega) (fun _ => ?_) (fun e => absurd e (by decide))⟩) (fun c => ⟨_, _, _, _, x85, 1, 8, by omega, by omega, c_mustE 1 (s3.1 : Nat) rfl rfl (by omega) (by omega) (fun e => absurd rfl e) (fun _ y f1 f2 f3 f4 g hy fs hfs => ?_)⟩)⟩
  · have eR : idR T n = .inr (s1.2.1.length, s3) := by rw [hx0]; dsimp only; rw [if_neg (fun z => z (sz.2 c))]
    refine ⟨_, _, _, _, x85, _, _, s85, show vp_in (iI 0) 2 from iI_in (by omega) (by omega) (by omega), _, rfl, _, _, _, _, _, _, _, _, _, _, _, _, _, _, _, _, _, _, _, hL85.obj, fun N275 e275 => ⟨show vp_in (iI 1) 2 from iI_in (by omega) (by omega) (by omega), fun N280 e280 => ?_⟩⟩
    have ra : rp ≠ a 0 := fun c => hL.outN rp0 0 (by omega) c
    have r280 : N280 rp = some (rpC s3.2.2.1 s3.2.2.2) := at_ne e280 ra (at_ne e275 ra r85)
    refine ⟨_, _, r280, fun N288 e288 N294 e294 => ?_⟩
    have e294' : N294 = va_up N85 (a 0) (some (oT a ((va_up (va_up S.1.1 7 (some q1)) 8 (some q3), va_up (va_up S.1.2 9 (iI (s3.2.2.2 : Nat))) 10 (iI (s3.2.2.1 : Nat))), S.2))) := by
      rw [e294, e288, e280, e275, up_up, up_up, up_up]; rfl
    have hLf : cL K a ((va_up (va_up S.1.1 7 (some q1)) 8 (some q3), va_up (va_up S.1.2 9 (iI (s3.2.2.2 : Nat))) 10 (iI (s3.2.2.1 : Nat))), S.2) N294 := by rw [e294']; exact hL85.setV rfl
    have kS : ∀ z c fs, N85 z = some (eO c fs) → 8 ≤ c → c ≤ 11 → N294 z = some (eO c fs) := fun z c fs hz h8 _ => by
      rw [e294', up_ne _ _ _ (fun w => by rw [w, hL85.obj] at hz; have := (Prod.mk.inj (Sum.inr.inj (Option.some.inj hz))).1; omega)]; exact hz
    have eX1' : s1.2.1 = X1 := by rw [eX1, es0]; rfl
    have eX3' : s3.2.1 = X1 ++ X3 := by rw [eX3, es2, ← eX1']
    have l1 := gr1.1.2.2.1
    have l3 := gr3.1.2.2.1
    have m1 := gr1.1.2.1
    have m3 := gr3.1.2.1
    refine hO.1 _ _ eR N294 q1 q3 hLf (fun z u hz ho zx => ?_) ?_ ?_
    · rw [e294', up_ne _ _ _ (ho 0 (by omega))]; exact kp85 z u hz zx
    · rw [eX3', eX1', List.take_left]
      exact cSm.le (cSm.kq kS _ _ _ hS85a) (by rw [← eX1']; omega)
    · rw [eX3', eX1', List.drop_left]
      exact cSm.le (cSm.kq kS _ _ _ hS85b) (by rw [eX3', List.length_append] at l3; omega)
  · have n2 := (nw.refl N85).new hy (oWr f1 f2 f3 f4 g 1 (s3.1 : Nat))
    exact flt (o := 1) (i := 0) rfl (hL85.nw n2) (fun z u hz zx => n2 _ _ (kp85 z u hz zx)) (d85.up y _) (n2 _ _ x85) (d85.no hy) (up_eq _ _ _) (by omega) (by omega) (by rw [hx0]; dsimp only; rw [if_pos (fun z => by have := sz.1 z; omega)])
end
