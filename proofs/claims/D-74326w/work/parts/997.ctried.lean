set_option maxRecDepth 100000
set_option maxHeartbeats 4000000
/-! the component: side, tried -/
/-- an identity in force -/
def cIdn (S : CS) (N : NM) (e : Nat) (C : List (Int × Int)) (p l : Nat) : Prop := S.1.2 9 = iI l ∧ S.1.2 10 = iI p ∧ ∃ ql qr, S.1.1 7 = some ql ∧ S.1.1 8 = some qr ∧ cSm N 200 ql (C.take e) ∧ cSm N 200 qr (C.drop e)
theorem upd_upd (f : Nat → Int32) (k : Nat) (x y : Int32) : upd (upd f k x) k y = upd f k y := by
  funext j
  unfold upd
  split <;> rfl
theorem trR_fs (e : Nat) (C : List (Int × Int)) (l : Nat) (b : Int) (x : (Nat → Int) × Int) : ∀ (m : Nat) (n : Int) (lt : Nat → Int), (trR e C l b m n (some x) lt).2 = some x
  | 0, _, _ => rfl
  | m + 1, n, lt => by
    unfold trR
    cases gnR l b 6 lt with
    | none =>
      show (if bkS e C lt = 0 then some x else (some x).or _) = some x
      split <;> rfl
    | some lt' =>
      show (trR e C l b m _ (if bkS e C lt = 0 then some x else (some x).or _) lt').2 = some x
      have h : (if bkS e C lt = 0 then some x else (some x).or (some (lt, if bkS e C lt = 2 then 1 else 0))) = some x := by split <;> rfl
      rw [h]
      exact trR_fs e C l b x m _ lt'
theorem trR_n (e : Nat) (C : List (Int × Int)) (l : Nat) (b : Int) : ∀ (m : Nat) (n : Int) (fs fs' : Option ((Nat → Int) × Int)) (lt : Nat → Int), (trR e C l b m n fs lt).1 = (trR e C l b m n fs' lt).1
  | 0, _, _, _, _ => rfl
  | m + 1, n, fs, fs', lt => by
    unfold trR
    cases gnR l b 6 lt with
    | none => rfl
    | some lt' => exact trR_n e C l b m _ _ _ lt'
section
variable {K : Nat → Nat → Nat} {a : Nat → Nat}
theorem keepA {N : NM} {rx : Nat} {f : Nat → Int32} {x : Option NE} (hr : N rx = some (eN 0 7 f)) : ∀ z c fs, N z = some (eO c fs) → c ≠ 1 → (va_up N rx x) z = some (eO c fs) := fun z c fs hz _ => by
  rw [up_ne _ _ _ (fun w => by rw [w, hr] at hz; cases hz)]; exact hz
theorem c_isBroken {post : Int32 → NM → Prop} {MC MS : Nat} {S : CS} {N : NM} {rx e p l : Nat} {C : List (Int × Int)} {lt : Nat → Int} {f : Nat → Int32} (hL : cL K a S N) (hI : cIdn S N e C p l) (hlt : ∀ k, k < 6 → -100 ≤ lt k ∧ lt k ≤ 100) (hr : N rx = some (eN 0 7 f)) (hf : ∀ k, k < 6 → f k = iI (lt k)) (h : post (iI (if bkS e C lt = 0 then 0 else 1)) (va_up N rx (some (eN 0 7 (upd f 6 (if bkS e C lt = 2 then 1 else 0)))))) : wX0_isBroken K post MC MS N (a 0) rx := by
  obtain ⟨i1, i2, ql, qr, i3, i4, i5, i6⟩ := hI
  have ho : ∀ i, i < 28 → rx ≠ a i := hL.out hr rfl
  obtain ⟨oa, pa, ia⟩ := sm_ev hlt 200 ql _ i5
  obtain ⟨ob, pb, ib⟩ := sm_ev hlt 200 qr _ i6
  have ea : sdV lt (sdX e C 0) = oa := pa.sd
  have eb : sdV lt (sdX e C 1) = ob := pb.sd
  have e6 : (6 : Int32).toNatClampNeg = 6 := by decide
  have v6 : vp_in (6 : Int32) 7 := iI_in (z := 6) (by omega) (by omega) (by omega)
  unfold wX0_isBroken
  rw [e6]
  refine ⟨_, _, hr, v6, fun N4 e4 => ?_⟩
  subst e4
  have hL1 := hL.off ho (some (eN 0 7 (upd f 6 0)))
  have hf1 : ∀ k, k < 6 → (upd f 6 0) k = iI (lt k) := fun k hk => by rw [upd_ne _ _ _ (by omega)]; exact hf k hk
  have h60 : (upd f 6 0) 6 = 0 := upd_eq _ _ _
  have k0 := keepA (x := some (eN 0 7 (upd f 6 0))) hr
  have nb : nB (va_up N rx (some (eN 0 7 (upd f 6 0)))) rx (upd f 6 0) = va_up N rx (some (eN 0 7 (upd f 6 1))) := by
    unfold nB
    rw [up_up, upd_upd]
  refine ⟨_, _, _, _, _, _, _, _, _, _, _, _, _, _, _, _, _, _, _, hL1.obj, ql, i3, ?_⟩
  have fin2 : bkS e C lt = 2 → ∀ v0, wX0_isBroken_30 K post rx v0 MC MS (va_up N rx (some (eN 0 7 (upd f 6 1)))) := fun hb v0 => by
    rw [if_neg (by omega), if_pos hb] at h
    unfold wX0_isBroken_30 wX0_isBroken_43
    refine ⟨fun _ => ⟨_, _, up_eq _ _ _, v6, ?_⟩, fun _ => h⟩
    rw [e6, upd_eq]
    exact b_t rfl h
  refine c_sum hlt 200 ql _ _ _ _ oa (cSm.keep k0 200 ql _ i5) (up_eq _ _ _) hf1 pa (fun x ex hx => ⟨_, _, _, _, _, _, _, _, _, _, _, _, _, _, _, _, _, _, _, hL1.obj, qr, i4, ?_⟩) (fun hb r => ?_)
  · refine c_sum hlt 200 qr _ _ _ _ ob (cSm.keep k0 200 qr _ i6) (up_eq _ _ _) hf1 pb (fun y ey hy => ?_) (fun hb r => ?_)
    · have hbk : bkS e C lt = if x = y then 0 else 1 := by unfold bkS; rw [ea, eb, ex, ey]
      rw [lI_eq hx.1 hx.2 hy.1 hy.2]
      unfold wX0_isBroken_30 wX0_isBroken_43
      refine ⟨fun q => b_t rfl ⟨_, _, up_eq _ _ _, v6, ?_⟩, fun q => b_f (by decide) ?_⟩
      · rw [if_pos q] at hbk
        rw [if_pos hbk, if_neg (by omega)] at h
        rw [e6, h60]
        exact b_f (by decide) h
      · rw [if_neg q] at hbk
        rw [if_neg (by omega), if_neg (by omega)] at h
        exact h
    · have hbk : bkS e C lt = 2 := by
        rcases hb with z | z
        · unfold bkS; rw [ea, eb, z]; cases oa <;> rfl
        · rw [h60] at z; exact absurd z (by decide)
      rw [nb]
      exact ⟨fun _ => fin2 hbk _, fun _ => fin2 hbk _⟩
  · have hbk : bkS e C lt = 2 := by
      rcases hb with z | z
      · unfold bkS; rw [ea, z]
      · rw [h60] at z; exact absurd z (by decide)
    rw [nb]
    have hL2 := hL.off ho (some (eN 0 7 (upd f 6 1)))
    have k1 := keepA (x := some (eN 0 7 (upd f 6 1))) hr
    have hf2 : ∀ k, k < 6 → (upd f 6 1) k = iI (lt k) := fun k hk => by rw [upd_ne _ _ _ (by omega)]; exact hf k hk
    refine ⟨_, _, _, _, _, _, _, _, _, _, _, _, _, _, _, _, _, _, _, hL2.obj, qr, i4, ?_⟩
    refine c_sum hlt 200 qr _ _ _ _ ob (cSm.keep k1 200 qr _ i6) (up_eq _ _ _) hf2 pb (fun y ey hy => ⟨fun _ => fin2 hbk _, fun _ => fin2 hbk _⟩) (fun _ r2 => ?_)
    have nb2 : nB (va_up N rx (some (eN 0 7 (upd f 6 1)))) rx (upd f 6 1) = va_up N rx (some (eN 0 7 (upd f 6 1))) := by
      unfold nB
      rw [up_up, upd_upd]
    rw [nb2]
    exact ⟨fun _ => fin2 hbk _, fun _ => fin2 hbk _⟩
theorem c_told {post : Int64 → NM → Prop} {MC MS : Nat} {N : NM} {rx q : Nat} {X : List (Int × Int)} {lt : Nat → Int} {f : Nat → Int32} (hq : cSm N 200 q X) (hlt : ∀ k, k < 6 → -100 ≤ lt k ∧ lt k ≤ 100) (hr : N rx = some (eN 0 7 f)) (hf : ∀ k, k < 6 → f k = iI (lt k)) (h : ∀ f', post (lI (nVal (sdV lt X))) (va_up N rx (some (eN 0 7 f')))) : wX0_told K post MC MS N (some q) rx := by
  obtain ⟨o, po, io⟩ := sm_ev hlt 200 q _ hq
  have e6 : (6 : Int32).toNatClampNeg = 6 := by decide
  have v6 : vp_in (6 : Int32) 7 := iI_in (z := 6) (by omega) (by omega) (by omega)
  rw [po.sd] at h
  unfold wX0_told
  rw [e6]
  refine ⟨_, _, hr, v6, fun N4 e4 => ⟨q, rfl, ?_⟩⟩
  subst e4
  have hf1 : ∀ k, k < 6 → (upd f 6 0) k = iI (lt k) := fun k hk => by rw [upd_ne _ _ _ (by omega)]; exact hf k hk
  have h60 : (upd f 6 0) 6 = 0 := upd_eq _ _ _
  refine c_sum hlt 200 q _ _ _ _ o (cSm.keep (keepA hr) 200 q _ hq) (up_eq _ _ _) hf1 po (fun x ex hx => ⟨_, _, up_eq _ _ _, v6, ?_⟩) (fun hb r => ?_)
  · rw [h60]
    rw [ex] at h
    exact b_f (by decide) (h _)
  · have nb : nB (va_up N rx (some (eN 0 7 (upd f 6 0)))) rx (upd f 6 0) = va_up N rx (some (eN 0 7 (upd f 6 1))) := by
      unfold nB
      rw [up_up, upd_upd]
    have ho : o = none := by
      rcases hb with z | z
      · exact z
      · rw [h60] at z; exact absurd z (by decide)
    rw [ho] at h
    rw [nb]
    refine ⟨_, _, up_eq _ _ _, v6, ?_⟩
    rw [upd_eq]
    exact b_t rfl (h _)
theorem c_side_75 {post : Int64 → NM → Prop} {S : CS} {N : NM} {sd : Int} {rx mc ms : Nat} {f : Nat → Int32} {y : Nat → Int} (hy : ∀ j, j < 7 → f j = iI (y j) ∧ i32 (y j)) (hr : N rx = some (eN 0 7 f)) {B : Prop} (h0 : ¬ (B ∧ ∀ j, j < 7 → -9 ≤ y j ∧ y j ≤ 9) → post (lI (-9223372036854775808)) N) (h1 : B → (∀ j, j < 7 → -9 ≤ y j ∧ y j ≤ 9) → ((iI sd = (0 : Int32)) → ∃ f87 f88 f89 f90 f91 f92 f93 f94 f95 f96 f97 f98 f99 f100 f101 f102 f103 f104 f105, N (a 0) = some (eO 1 [va_rf f87, va_rf f88, va_rf f89, va_rf f90, va_rf f91, va_rf f92, va_rf f93, va_rf f94, va_rf f95, .int f96, .int f97, va_rf f98, va_rf f99, .int f100, va_rf f101, va_rf f102, va_rf f103, va_rf f104, va_rf f105]) ∧ wX0_side_132 K post rx f94 mc ms N) ∧ (¬ (iI sd = (0 : Int32)) → ∃ f61 f62 f63 f64 f65 f66 f67 f68 f69 f70 f71 f72 f73 f74 f75 f76 f77 f78 f79, N (a 0) = some (eO 1 [va_rf f61, va_rf f62, va_rf f63, va_rf f64, va_rf f65, va_rf f66, va_rf f67, va_rf f68, va_rf f69, .int f70, .int f71, va_rf f72, va_rf f73, .int f74, va_rf f75, va_rf f76, va_rf f77, va_rf f78, va_rf f79]) ∧ wX0_side_132 K post rx f69 mc ms N)) : ∀ (m k : Nat) (v : Int32), k + m = 7 → ((v = 1 ∧ B ∧ ∀ j, j < k → -9 ≤ y j ∧ y j ≤ 9) ∨ (v = 0 ∧ ¬ (B ∧ ∀ j, j < k → -9 ≤ y j ∧ y j ≤ 9))) → wX0_side_75 K post (m + 1) (a 0) (iI sd) rx v rx (iI (7 : Nat)) (iI k) mc ms N := by
  intro m
  induction m with
  | zero =>
    intro k v hk hv
    unfold wX0_side_75
    refine b_t (by simp (disch := omega) only [iLit, lLit, iI_add, iI_sub, iI_mul, iI_neg, lI_add, lI_sub, lI_mul, lI_neg, nI_i, lI_i, iI_l, iI_nat, iI_lt, iI_le, iI_eq, lI_lt, lI_le, lI_eq] <;> omega) ?_
    rcases hv with ⟨v1, v2, v3⟩ | ⟨v1, v2⟩
    · exact b_f (by rw [v1]; decide) (h1 v2 (fun j hj => v3 j (by omega)))
    · exact b_t v1 (h0 (fun z => v2 ⟨z.1, fun j hj => z.2 j (by omega)⟩))
  | succ m ih =>
    intro k v hk hv
    unfold wX0_side_75
    obtain ⟨y1, y2⟩ := hy k (by omega)
    refine b_f (by simp (disch := omega) only [iLit, lLit, iI_add, iI_sub, iI_mul, iI_neg, lI_add, lI_sub, lI_mul, lI_neg, nI_i, lI_i, iI_l, iI_nat, iI_lt, iI_le, iI_eq, lI_lt, lI_le, lI_eq] <;> omega) ⟨_, _, hr, iI_in (by omega) (by omega) (by omega), ?_⟩
    rw [nat_i (by omega), y1, iI_l y2.1 y2.2, show iI (k : Int) + 1 = iI ((k + 1 : Nat) : Int) from iI_add k 1]
    show wX0_isIn _ (lI (y k)) (lI (-9)) (lI 9)
    refine c_isIn (by omega) (by omega) (by omega) (fun c1 c2 => ih (k + 1) _ (by omega) ?_) (fun c => ih (k + 1) _ (by omega) ?_)
    · rcases hv with ⟨v1, v2, v3⟩ | ⟨v1, v2⟩
      · refine Or.inl ⟨by rw [v1]; decide, v2, fun j hj => ?_⟩
        by_cases e : j = k
        · rw [e]; exact ⟨c1, c2⟩
        · exact v3 j (by omega)
      · exact Or.inr ⟨by rw [v1]; decide, fun z => v2 ⟨z.1, fun j hj => z.2 j (by omega)⟩⟩
    · refine Or.inr ⟨?_, fun z => c (z.2 k (by omega))⟩
      rcases hv with ⟨v1, -, -⟩ | ⟨v1, -⟩ <;> rw [v1] <;> decide
theorem c_side {post : Int64 → NM → Prop} {MC MS : Nat} {S : CS} {N : NM} {sd : Int} {y : Nat → Int} {J : Nat → List (Int × Int) → Nat → Nat → Prop} (hL : cL K a S N) (hsd : i32 sd) (hy : ∀ k, k < 6 → i32 (y k)) (hMC : 1 ≤ MC) (hMS : 7 ≤ MS) (hI : S.1.1 7 = none ∨ ∃ e C p l, cIdn S N e C p l ∧ J e C p l) (h0 : ¬ (S.1.1 7 ≠ none ∧ 0 ≤ sd ∧ sd ≤ 1 ∧ six y) → ∀ N', nw N N' → post (lI (-9223372036854775808)) N') (h1 : 0 ≤ sd → sd ≤ 1 → six y → ∀ e C p l, J e C p l → ∀ N', nw N N' → post (lI (nVal (sdV y (sdX e C sd.toNat)))) N') : wX0_side K post MC MS N (a 0) (iI sd) (iI (y 0)) (iI (y 1)) (iI (y 2)) (iI (y 3)) (iI (y 4)) (iI (y 5)) := by
  have e7 : (7 : Int32).toNatClampNeg = 7 := by decide
  have v7 : ∀ z : Int, 0 ≤ z → z < 7 → vp_in (iI z) 7 := fun z q1 q2 => iI_in q1 (by omega) (by omega)
  unfold wX0_side
  rw [e7]
  refine ⟨by decide, by omega, hMC, hMS, fun rx hrx N7 e7' => ⟨v7 0 (by omega) (by omega), fun N10 e10 => ⟨v7 1 (by omega) (by omega), fun N13 e13 => ⟨v7 2 (by omega) (by omega), fun N16 e16 => ⟨v7 3 (by omega) (by omega), fun N19 e19 => ⟨v7 4 (by omega) (by omega), fun N22 e22 => ⟨v7 5 (by omega) (by omega), fun N25 e25 => ⟨v7 6 (by omega) (by omega), fun N28 e28 => ?_⟩⟩⟩⟩⟩⟩⟩⟩
  subst e7' e10 e13 e16 e19 e22 e25 e28
  simp only [up_up]
  generalize hg : upd (upd (upd (upd (upd (upd (upd (fun _ => 0) (0 : Int32).toNatClampNeg (iI (y 0))) (1 : Int32).toNatClampNeg (iI (y 1))) (2 : Int32).toNatClampNeg (iI (y 2))) (3 : Int32).toNatClampNeg (iI (y 3))) (4 : Int32).toNatClampNeg (iI (y 4))) (5 : Int32).toNatClampNeg (iI (y 5))) (6 : Int32).toNatClampNeg (0 : Int32) = g
  have hgy : ∀ j, j < 7 → g j = iI ((fun j => if j = 6 then 0 else y j) j) ∧ i32 ((fun j => if j = 6 then 0 else y j) j) := fun j hj => by
    rw [← hg]
    rcases (show j = 0 ∨ j = 1 ∨ j = 2 ∨ j = 3 ∨ j = 4 ∨ j = 5 ∨ j = 6 by omega) with q | q | q | q | q | q | q <;> subst q
    · exact ⟨rfl, hy 0 (by omega)⟩
    · exact ⟨rfl, hy 1 (by omega)⟩
    · exact ⟨rfl, hy 2 (by omega)⟩
    · exact ⟨rfl, hy 3 (by omega)⟩
    · exact ⟨rfl, hy 4 (by omega)⟩
    · exact ⟨rfl, hy 5 (by omega)⟩
    · exact ⟨rfl, by show i32 0; omega⟩
  have n1 : ∀ g', nw N (va_up N rx (some (eN 0 7 g'))) := fun g' => (nw.refl N).new hrx _
  have hL1 := hL.nw (n1 g)
  have hsix : (∀ j, j < 7 → -9 ≤ (fun j => if j = 6 then 0 else y j) j ∧ (fun j => if j = 6 then 0 else y j) j ≤ 9) ↔ six y := by
    constructor
    · intro z k hk
      have := z k (by omega)
      simp only [if_neg (show ¬ k = 6 by omega)] at this
      exact this
    · intro z k hk
      show -9 ≤ (if k = 6 then 0 else y k) ∧ (if k = 6 then 0 else y k) ≤ 9
      split
      · omega
      · exact z k (by omega)
  have fin : ∀ (v : Int32) (B : Prop), ((v = 1 ∧ B) ∨ (v = 0 ∧ ¬ B)) → (B ↔ (S.1.1 7 ≠ none ∧ 0 ≤ sd ∧ sd ≤ 1)) → wX0_side_61 K post (a 0) (iI sd) rx v (MC - 1) (MS - 7) (va_up N rx (some (eN 0 7 g))) := fun v B hv hB => by
    unfold wX0_side_61
    refine ⟨_, _, up_eq _ _ _, 8, ?_⟩
    refine c_side_75 (S := S) (y := fun j => if j = 6 then 0 else y j) (B := B) hgy (up_eq _ _ _) (fun z => h0 (fun w => z ⟨hB.mpr ⟨w.1, w.2.1, w.2.2.1⟩, hsix.mpr w.2.2.2⟩) _ (n1 g)) (fun hb hs => ?_) 7 0 v (by omega) (by
      rcases hv with ⟨v1, v2⟩ | ⟨v1, v2⟩
      · exact Or.inl ⟨v1, v2, fun j hj => by omega⟩
      · exact Or.inr ⟨v1, fun z => v2 z.1⟩)
    obtain ⟨b1, b2, b3⟩ := hB.mp hb
    have hs6 := hsix.mp hs
    have hlt : ∀ k, k < 6 → -100 ≤ y k ∧ y k ≤ 100 := fun k hk => by have := hs6 k hk; omega
    have hfg : ∀ k, k < 6 → g k = iI (y k) := fun k hk => by
      have := (hgy k (by omega)).1
      simp only [if_neg (show ¬ k = 6 by omega)] at this
      exact this
    have hI' : ∃ e C p l, cIdn S N e C p l ∧ J e C p l := by
      rcases hI with z | z
      · exact absurd z b1
      · exact z
    obtain ⟨e, C, p, l, hid, hj⟩ := hI'
    have hid0 := hid
    obtain ⟨i1, i2, ql, qr, i3, i4, i5, i6⟩ := hid
    have kk : ∀ z c fs, N z = some (eO c fs) → c ≠ 1 → (va_up N rx (some (eN 0 7 g))) z = some (eO c fs) := fun z c fs hz _ => n1 g _ _ hz
    rw [show (0 : Int32) = iI 0 from rfl, iI_eq hsd.1 hsd.2 (by omega) (by omega)]
    refine ⟨fun c => ⟨_, _, _, _, _, _, _, _, _, _, _, _, _, _, _, _, _, _, _, hL1.obj, ?_⟩, fun c => ⟨_, _, _, _, _, _, _, _, _, _, _, _, _, _, _, _, _, _, _, hL1.obj, ?_⟩⟩
    · unfold wX0_side_132
      refine ⟨MC - 1, MS - 7, Nat.le_refl _, Nat.le_refl _, ?_⟩
      rw [i3]
      refine c_told (cSm.keep kk 200 ql _ i5) hlt (up_eq _ _ _) hfg (fun f' => ?_)
      rw [up_up]
      have := h1 b2 b3 hs6 e C p l hj _ (n1 f')
      rw [c] at this
      exact this
    · unfold wX0_side_132
      refine ⟨MC - 1, MS - 7, Nat.le_refl _, Nat.le_refl _, ?_⟩
      rw [i4]
      refine c_told (cSm.keep kk 200 qr _ i6) hlt (up_eq _ _ _) hfg (fun f' => ?_)
      rw [up_up]
      have := h1 b2 b3 hs6 e C p l hj _ (n1 f')
      rw [show sd = 1 by omega] at this
      exact this
  refine ⟨_, _, _, _, _, _, _, _, _, _, _, _, _, _, _, _, _, _, _, hL1.obj, fun e => ?_, fun q e => ?_⟩
  · unfold wX0_side_60
    exact fin 0 False (Or.inr ⟨rfl, id⟩) ⟨fun z => z.elim, fun z => z.1 e⟩
  · rw [iI_l hsd.1 hsd.2]
    refine c_isIn (b := 0) (c := 1) (by omega) (by omega) (by omega) (fun c1 c2 => b_f (by decide) ?_) (fun c => b_t rfl ?_)
    · exact fin 1 True (Or.inl ⟨rfl, trivial⟩) ⟨fun _ => ⟨by rw [e]; simp, c1, c2⟩, fun _ => trivial⟩
    · unfold wX0_side_60
      exact fin 0 False (Or.inr ⟨rfl, id⟩) ⟨fun z => z.elim, fun z => c z.2⟩
end
