set_option maxRecDepth 100000
set_option maxHeartbeats 4000000
/-! the model: side, tried -/
def sdX (e : Nat) (C : List (Int × Int)) (side : Nat) : List (Int × Int) := if side = 0 then C.take e else C.drop e
/-- codes of two sides: right ones, each leaves one value -/
def sdsOk (e : Nat) (C : List (Int × Int)) : Prop := e ≤ C.length ∧ C.length ≤ 200 ∧ (∀ c ∈ C, cOk c) ∧ hgt (C.take e) 0 = some 1 ∧ hgt (C.drop e) 0 = some 1
theorem idR_sds {T : Nat → Int} {n e : Nat} {s : xst} (h : idR T n = .inr (e, s)) : sdsOk e s.2.1 := by
  have hok := idR_ok h
  have hl : s.2.1.length ≤ 200 := by have h1 := hok.1.2.1; have h2 := hok.1.2.2.1; omega
  unfold idR at h
  split at h
  · cases h
  · rename_i s1 hs1
    split at h
    · cases h
    · split at h
      · cases h
      · rename_i s2 hs2
        split at h
        · cases h
        · cases h
          obtain ⟨X, e1, p1⟩ := sxR_ps 8 _ _ _ hs1
          obtain ⟨Y, e2, p2⟩ := sxR_ps 8 _ _ _ hs2
          have e1 : s1.2.1 = X := e1
          have e2 : s.2.1 = X ++ Y := by rw [← e1]; exact e2
          refine ⟨hok.2, hl, hok.1.2.2.2.2, ?_, ?_⟩
          · rw [e1, e2, List.take_left']
            · exact p1 0
            · rfl
          · rw [e1, e2, List.drop_left']
            · exact p2 0
            · rfl
/-- what trying letters may change -/
def trEq (S S' : MS) : Prop := S'.2.1 = S.2.1 ∧ (∀ k, k ≠ 44 → S'.1 k = S.1 k) ∧ (∀ k, k ≠ 42 → S'.2.2.1 k = S.2.2.1 k) ∧ ∀ k, k ≠ 43 → S'.2.2.2 k = S.2.2.2 k
theorem trEq.refl (S : MS) : trEq S S := ⟨rfl, fun _ _ => rfl, fun _ _ => rfl, fun _ _ => rfl⟩
theorem trEq.trans {S S' S'' : MS} (h : trEq S S') (g : trEq S' S'') : trEq S S'' := ⟨g.1.trans h.1, fun k a => (g.2.1 k a).trans (h.2.1 k a), fun k a => (g.2.2.1 k a).trans (h.2.2.1 k a), fun k a => (g.2.2.2 k a).trans (h.2.2.2 k a)⟩
theorem trEq.I {S : MS} (x : Int32) : trEq S (mI S 44 x) := ⟨rfl, fun k a => up_ne _ _ _ a, fun _ _ => rfl, fun _ _ => rfl⟩
theorem trEq.A {S : MS} (f : Nat → Int32) : trEq S (mA S 42 f) := ⟨rfl, fun _ _ => rfl, fun k a => up_ne _ _ _ a, fun _ _ => rfl⟩
theorem trEq.B {S : MS} (f : Nat → Int64) : trEq S (mB S 43 f) := ⟨rfl, fun _ _ => rfl, fun _ _ => rfl, fun k a => up_ne _ _ _ a⟩
theorem trEq.sd {S : MS} (f : Nat → Int64) (x : Int32) : trEq S (sdS S f x) := (trEq.B f).trans (trEq.I x)
theorem trEq.idn {S S' : MS} {e : Nat} {C : List (Int × Int)} {p l : Nat} (h : trEq S S') (g : mIdn S e C p l) : mIdn S' e C p l := by
  obtain ⟨g1, g2, g3, g4, g5, g6⟩ := g
  refine ⟨by rw [h.2.1 41 (by omega)]; exact g1, by rw [h.2.1 37 (by omega)]; exact g2, by rw [h.2.1 39 (by omega)]; exact g3, by rw [h.2.2.1 35 (by omega)]; exact g4, by rw [h.2.2.1 35 (by omega)]; exact g5, fun i c hc => ?_⟩
  rw [h.2.2.1 34 (by omega), h.2.2.1 33 (by omega)]; exact g6 i c hc
/-- the letters' values -/
def mLt (S : MS) (lt : Nat → Int) : Prop := ∀ k, k < 6 → S.2.2.1 42 k = iI (lt k) ∧ -100 ≤ lt k ∧ lt k ≤ 100
theorem mLt.sd {S : MS} {lt : Nat → Int} (h : mLt S lt) (f : Nat → Int64) (x : Int32) : mLt (sdS S f x) lt := h
theorem m_sd_run {post : Int64 → MS → Prop} {S : MS} {lt : Nat → Int} {e : Nat} {C X : List (Int × Int)} {p l side i t : Nat} (hI : mIdn S e C p l) (hC : ∀ c ∈ C, cOk c) (hlt : mLt S lt) (h44 : S.1 44 = iI 0 ∨ S.1 44 = iI 1) (hsd : side < 2) (ht : S.2.2.1 35 side = iI t) (ht2 : t ≤ 200) (hit : i + X.length = t) (hX : ∀ k c, X[k]? = some c → C[i + k]? = some c) (hh : hgt X 0 = some 1)
    (h1 : ∀ v g, S.1 44 = iI 0 → sdV lt X = some v → i64 v → post (lI v) (sdS S g (iI 0))) (h0 : ∀ r g, (S.1 44 = iI 1 ∨ sdV lt X = none) → post r (sdS S g (iI 1))) : wX1_sideTells_16 post (iI side) (iI 0) (iI i) S := by
  unfold wX1_sideTells_16
  have eS : S = sdS S (S.2.2.2 43) (S.1 44) := by
    show S = mI (mB S 43 (S.2.2.2 43)) 44 (S.1 44)
    rw [mB_id, mI_id]
  refine ⟨X.length + 1, ?_⟩
  rcases h44 with h4 | h4
  · have := m_side_17 (post := post) (S0 := S) (lt := lt) (side := side) (e := t) (C := C) hsd ht ht2 hI.2.2.2.2.2 hC hlt X i 0 (some []) (S.2.2.2 43) (S.1 44) hit hX hh (by omega) ⟨h4, rfl, fun i v hi => by simp at hi⟩ (fun v r g ev hv => h1 v g h4 (by
      unfold sdV
      have ev : evC lt X [] = some (v :: r) := ev
      rw [ev]) hv) (fun ev r g => h0 r g (Or.inr (by
      unfold sdV
      have ev : evC lt X [] = none := ev
      rw [ev])))
    rw [← eS] at this
    exact this
  · have := m_side_17 (post := post) (S0 := S) (lt := lt) (side := side) (e := t) (C := C) hsd ht ht2 hI.2.2.2.2.2 hC hlt X i 0 none (S.2.2.2 43) (S.1 44) hit hX hh (by omega) h4 (fun v r g ev hv => by cases ev) (fun ev r g => h0 r g (Or.inl h4))
    rw [← eS] at this
    exact this
theorem m_sideTells {post : Int64 → MS → Prop} {S : MS} {lt : Nat → Int} {e : Nat} {C : List (Int × Int)} {p l side : Nat} (hI : mIdn S e C p l) (hC : sdsOk e C) (hlt : mLt S lt) (h44 : S.1 44 = iI 0 ∨ S.1 44 = iI 1) (hsd : side < 2)
    (h1 : ∀ v g, S.1 44 = iI 0 → sdV lt (sdX e C side) = some v → i64 v → post (lI v) (sdS S g (iI 0))) (h0 : ∀ r g, (S.1 44 = iI 1 ∨ sdV lt (sdX e C side) = none) → post r (sdS S g (iI 1))) : wX1_sideTells post S (iI side) := by
  obtain ⟨c1, c2, c3, c4, c5⟩ := hC
  unfold wX1_sideTells
  rcases (show side = 0 ∨ side = 1 by omega) with q | q
  · subst q
    refine b_t rfl ?_
    have ex : sdX e C 0 = C.take e := rfl
    rw [ex] at h1 h0
    refine m_sd_run (X := C.take e) (i := 0) (t := e) hI c3 hlt h44 (by omega) hI.2.2.2.1 (by omega) (by rw [List.length_take]; omega) (fun k c hk => ?_) c4 h1 h0
    rw [List.getElem?_take] at hk
    split at hk
    · rw [Nat.zero_add]; exact hk
    · cases hk
  · subst q
    refine b_f (by decide) ⟨iI_in (z := 0) (by omega) (by omega) (by omega), ?_⟩
    have ex : sdX e C 1 = C.drop e := rfl
    rw [ex] at h1 h0
    show wX1_sideTells_16 post (iI 1) (iI 0) (S.2.2.1 35 0) S
    rw [hI.2.2.2.1]
    refine m_sd_run (X := C.drop e) (i := e) (t := C.length) (side := 1) hI c3 hlt h44 (by omega) hI.2.2.2.2.1 (by omega) (by rw [List.length_drop]; omega) (fun k c hk => ?_) c5 h1 h0
    rw [List.getElem?_drop] at hk
    exact hk
/-- no value: the least number -/
def nVal (o : Option Int) : Int := match o with
  | some v => v
  | none => -9223372036854775808
abbrev six (a : Nat → Int) : Prop := ∀ k, k < 6 → -9 ≤ a k ∧ a k ≤ 9
theorem m_side {post : Int64 → MS → Prop} {S : MS} {e : Nat} {C : List (Int × Int)} {p l : Nat} {sd : Int} {a : Nat → Int} (hI : mIdn S e C p l) (hC : sdsOk e C) (hsd : i32 sd) (ha : ∀ k, k < 6 → i32 (a k)) (h0 : ¬ (0 ≤ sd ∧ sd ≤ 1 ∧ six a) → post (lI (-9223372036854775808)) S) (h1 : 0 ≤ sd → sd ≤ 1 → six a → ∀ S', trEq S S' → post (lI (nVal (sdV a (sdX e C sd.toNat)))) S') : wX1_side post S (iI sd) (iI (a 0)) (iI (a 1)) (iI (a 2)) (iI (a 3)) (iI (a 4)) (iI (a 5)) := by
  have i0 := ha 0 (by omega)
  have i1 := ha 1 (by omega)
  have i2 := ha 2 (by omega)
  have i3 := ha 3 (by omega)
  have i4 := ha 4 (by omega)
  have i5 := ha 5 (by omega)
  unfold wX1_side
  rw [hI.1]
  refine b_f (by decide) ?_
  rw [iI_l hsd.1 hsd.2, iI_l i0.1 i0.2, iI_l i1.1 i1.2, iI_l i2.1 i2.2, iI_l i3.1 i3.2, iI_l i4.1 i4.2, iI_l i5.1 i5.2]
  refine m_isIn (b := 0) (c := 1) (by omega) (by omega) (by omega) (fun x1 x2 => b_f (by decide) ?_) (fun q => b_t rfl (h0 (fun z => q ⟨z.1, z.2.1⟩)))
  refine m_isIn (b := -9) (c := 9) (by omega) (by omega) (by omega) (fun y1 y2 => b_f (by decide) ?_) (fun q => b_t rfl (h0 (fun z => q (z.2.2 0 (by omega)))))
  refine m_isIn (b := -9) (c := 9) (by omega) (by omega) (by omega) (fun y3 y4 => b_f (by decide) ?_) (fun q => b_t rfl (h0 (fun z => q (z.2.2 1 (by omega)))))
  refine m_isIn (b := -9) (c := 9) (by omega) (by omega) (by omega) (fun y5 y6 => b_f (by decide) ?_) (fun q => b_t rfl (h0 (fun z => q (z.2.2 2 (by omega)))))
  refine m_isIn (b := -9) (c := 9) (by omega) (by omega) (by omega) (fun y7 y8 => b_f (by decide) ?_) (fun q => b_t rfl (h0 (fun z => q (z.2.2 3 (by omega)))))
  refine m_isIn (b := -9) (c := 9) (by omega) (by omega) (by omega) (fun z1 z2 => b_f (by decide) ?_) (fun q => b_t rfl (h0 (fun z => q (z.2.2 4 (by omega)))))
  refine m_isIn (b := -9) (c := 9) (by omega) (by omega) (by omega) (fun z3 z4 => b_f (by decide) ?_) (fun q => b_t rfl (h0 (fun z => q (z.2.2 5 (by omega)))))
  have v6 : ∀ z : Int, 0 ≤ z → z < 6 → vp_in (iI z) 6 := fun z q1 q2 => iI_in q1 (by omega) (by omega)
  refine ⟨v6 0 (by omega) (by omega), v6 1 (by omega) (by omega), v6 2 (by omega) (by omega), v6 3 (by omega) (by omega), v6 4 (by omega) (by omega), v6 5 (by omega) (by omega), ?_⟩
  simp only [mA_mA]
  have hsix : six a := fun k hk => by
    rcases (show k = 0 ∨ k = 1 ∨ k = 2 ∨ k = 3 ∨ k = 4 ∨ k = 5 by omega) with q | q | q | q | q | q <;> subst q <;> constructor <;> assumption
  generalize hf : upd (upd (upd (upd (upd (upd (S.2.2.1 42) (0 : Int32).toNatClampNeg (iI (a 0))) (1 : Int32).toNatClampNeg (iI (a 1))) (2 : Int32).toNatClampNeg (iI (a 2))) (3 : Int32).toNatClampNeg (iI (a 3))) (4 : Int32).toNatClampNeg (iI (a 4))) (5 : Int32).toNatClampNeg (iI (a 5)) = f
  have hlt : mLt (mI (mA S 42 f) 44 (0 : Int32)) a := fun k hk => by
    have hs := hsix k hk
    refine ⟨?_, by omega, by omega⟩
    show (mA S 42 f).2.2.1 42 k = _
    rw [mA_at, ← hf]
    rcases (show k = 0 ∨ k = 1 ∨ k = 2 ∨ k = 3 ∨ k = 4 ∨ k = 5 by omega) with q | q | q | q | q | q <;> subst q <;> rfl
  have t1 : trEq S (mI (mA S 42 f) 44 (0 : Int32)) := (trEq.A f).trans (trEq.I _)
  have e0 : (mI (mA S 42 f) 44 (0 : Int32)).1 44 = iI 0 := mI_at _ _ _
  rw [show sd = ((sd.toNat : Nat) : Int) by omega]
  refine m_sideTells (t1.idn hI) hC hlt (Or.inl e0) (by omega) (fun v g _ ev hv => ?_) (fun r g q => ?_)
  · refine b_t (mI_at _ _ _) ?_
    have := h1 x1 x2 hsix _ (t1.trans (trEq.sd g (iI 0)))
    rw [ev] at this
    exact this
  · have ev : sdV a (sdX e C sd.toNat) = none := by
      rcases q with q | q
      · rw [e0] at q; exact absurd q (by decide)
      · exact q
    refine b_f (by rw [mI_at]; decide) ?_
    have := h1 x1 x2 hsix _ (t1.trans (trEq.sd g (iI 1)))
    rw [ev] at this
    exact this
/-- how a row of letters breaks an identity: not, unlike, beyond -/
def bkS (e : Nat) (C : List (Int × Int)) (lt : Nat → Int) : Int := match sdV lt (sdX e C 0), sdV lt (sdX e C 1) with
  | some a, some b => if a = b then 0 else 1
  | _, _ => 2
theorem m_isBroken {post : Int32 → MS → Prop} {S : MS} {lt : Nat → Int} {e : Nat} {C : List (Int × Int)} {p l : Nat} (hI : mIdn S e C p l) (hC : sdsOk e C) (hlt : mLt S lt) (h : ∀ S', trEq S S' → mLt S' lt → S'.1 44 = iI (if bkS e C lt = 2 then 1 else 0) → post (iI (if bkS e C lt = 0 then 0 else 1)) S') : wX1_isBroken post S := by
  unfold wX1_isBroken
  have t1 : trEq S (mI S 44 (0 : Int32)) := trEq.I _
  have h2 : ∀ g g' , bkS e C lt = 2 → post 1 (sdS (sdS (mI S 44 (0 : Int32)) g (iI 1)) g' (iI 1)) := fun g g' q => by
    have := h (sdS (sdS (mI S 44 (0 : Int32)) g (iI 1)) g' (iI 1)) ((t1.trans (trEq.sd g _)).trans (trEq.sd g' _)) hlt (by rw [if_pos q]; exact mI_at _ _ _)
    rw [if_neg (by omega)] at this; exact this
  have h3 : ∀ g g' , bkS e C lt = 2 → post 1 (sdS (sdS (mI S 44 (0 : Int32)) g (iI 0)) g' (iI 1)) := fun g g' q => by
    have := h (sdS (sdS (mI S 44 (0 : Int32)) g (iI 0)) g' (iI 1)) ((t1.trans (trEq.sd g _)).trans (trEq.sd g' _)) hlt (by rw [if_pos q]; exact mI_at _ _ _)
    rw [if_neg (by omega)] at this; exact this
  refine m_sideTells (side := 0) (t1.idn hI) hC hlt (Or.inl (mI_at _ _ _)) (by omega) (fun v g _ ev hv => ?_) (fun r g q => ?_)
  · refine m_sideTells (side := 1) ((t1.trans (trEq.sd g (iI 0))).idn hI) hC (show mLt (sdS (mI S 44 (0 : Int32)) g (iI 0)) lt from hlt) (Or.inl (mI_at _ _ _)) (by omega) (fun v2 g2 _ ev2 hv2 => ?_) (fun r2 g2 q2 => ?_)
    · refine b_t (mI_at _ _ _) ?_
      have eb : bkS e C lt = if v = v2 then 0 else 1 := by unfold bkS; rw [ev, ev2]
      have hh := h (sdS (sdS (mI S 44 (0 : Int32)) g (iI 0)) g2 (iI 0)) ((t1.trans (trEq.sd g _)).trans (trEq.sd g2 _)) hlt (by rw [eb]; split <;> exact mI_at _ _ _)
      rw [eb] at hh
      rw [lI_eq hv.1 hv.2 hv2.1 hv2.2]
      unfold wX1_isBroken_30
      refine ⟨fun q => ?_, fun q => ?_⟩
      · rw [if_pos q] at hh; exact hh
      · rw [if_neg q] at hh; exact hh
    · refine b_f (by rw [mI_at]; decide) ?_
      unfold wX1_isBroken_30
      refine h3 g g2 ?_
      rcases q2 with q2 | q2
      · rw [mI_at] at q2; exact absurd q2 (by decide)
      · unfold bkS; rw [ev, q2]
  · have ev : sdV lt (sdX e C 0) = none := by
      rcases q with q | q
      · rw [mI_at] at q; exact absurd q (by decide)
      · exact q
    have eb : bkS e C lt = 2 := by unfold bkS; rw [ev]
    refine m_sideTells (side := 1) ((t1.trans (trEq.sd g (iI 1))).idn hI) hC (show mLt (sdS (mI S 44 (0 : Int32)) g (iI 1)) lt from hlt) (Or.inr (mI_at _ _ _)) (by omega) (fun v2 g2 q2 _ _ => ?_) (fun r2 g2 _ => ?_)
    · rw [mI_at] at q2; exact absurd q2 (by decide)
    · refine b_f (by rw [mI_at]; decide) ?_
      unfold wX1_isBroken_30
      exact h2 g g2 eb
