set_option maxRecDepth 100000
set_option maxHeartbeats 4000000
/-! classes: plain, and the model's -/
theorem iI_rem {a b : Int} (ha : i32 a) (hb : 0 < b ∧ b < 2147483648) : iI a - iI a / iI b * iI b = iI (a.tmod b) := by
  have h := Int32.ofInt_tdiv (a := a) (b := b) (by show (-2147483648 : Int) ≤ a; omega) (by show a ≤ 2147483647; omega) (by show (-2147483648 : Int) ≤ b; omega) (by show b ≤ 2147483647; omega)
  have h2 : iI a / iI b = iI (a.tdiv b) := h.symm
  rw [h2, iI_mul, iI_sub, Int.tmod_def, Int.mul_comm]
theorem lI_rem {a b : Int} (ha : i64 a) (hb : 0 < b ∧ b < 9223372036854775808) : lI a - lI a / lI b * lI b = lI (a.tmod b) := by
  have h := Int64.ofInt_tdiv (a := a) (b := b) (by show (-9223372036854775808 : Int) ≤ a; omega) (by show a ≤ 9223372036854775807; omega) (by show (-9223372036854775808 : Int) ≤ b; omega) (by show b ≤ 9223372036854775807; omega)
  have h2 : lI a / lI b = lI (a.tdiv b) := h.symm
  rw [h2, lI_mul, lI_sub, Int.tmod_def, Int.mul_comm]
theorem kV_nn {k x : Int} (h : 0 ≤ x) : 0 ≤ kV k x := by
  have h2 := Int.mul_nonneg h h
  have h3 := Int.mul_nonneg h2 h
  have h4 := Int.mul_nonneg h3 h
  have h5 := x_x1_nn x
  unfold kV
  split
  · exact h
  split
  · exact h2
  split
  · exact h3
  split
  · exact h4
  · omega
theorem tv_nn {t : tm} (ht : vT t) {x : Int} (h : 0 ≤ x) (h2 : x ≤ 130) : 0 ≤ tv t x ∧ tv t x ≤ 30000000000000000 := by
  have a := kV_nn (k := t.2.1) h
  have b := kV_le4 (k := t.2.1) (x := x) (by omega) (by omega)
  have c := abs_mul_le (show -99 ≤ t.1 by have := ht.1; omega) ht.2.1 b.1 b.2
  have d := Int.mul_nonneg (show 0 ≤ t.1 by have := ht.1; omega) a
  exact ⟨d, Int.le_trans c.2 (by omega)⟩
/-- how many remainders are gone through -/
def xsR (t : tm) (m : Int) : Int := if t.2.1 = 4 then 2 * m else m
def Cl (m : Int) : List tm → Int → Int
  | [], r => if r = 0 then 1 else 0
  | t :: ts, r => uI 0 (xsR t m - 1) (fun x => Cl m ts ((r - tv t x % m) % m))
theorem Cl_cons (m : Int) (t : tm) (ts : List tm) (r : Int) : Cl m (t :: ts) r = uI 0 (xsR t m - 1) (fun x => Cl m ts ((r - tv t x % m) % m)) := by rw [Cl]
theorem Cl_nn (m : Int) : ∀ (ts : List tm) (r : Int), 0 ≤ Cl m ts r
  | [], r => by unfold Cl; split <;> omega
  | t :: ts, r => by rw [Cl_cons]; exact uI_nn (fun x _ _ => Cl_nn m ts _)
theorem Cl_le {m : Int} (hm : 1 ≤ m ∧ m ≤ 60) : ∀ (ts : List tm) (r : Int), Cl m ts r ≤ 120 ^ ts.length
  | [], r => by show Cl m [] r ≤ 1; unfold Cl; split <;> omega
  | t :: ts, r => by
    have hp : (0 : Int) ≤ 120 ^ ts.length := Int.pow_nonneg (by omega)
    have h1 := uI_le (lo := 0) (hi := xsR t m - 1) (f := fun x => Cl m ts ((r - tv t x % m) % m)) (B := 120 ^ ts.length) (fun x _ _ => Cl_le hm ts _)
    have h2 : (((xsR t m - 1 - 0 + 1).toNat : Nat) : Int) ≤ 120 := by unfold xsR; split <;> omega
    have h3 := Int.mul_le_mul_of_nonneg_right h2 hp
    rw [Cl_cons, List.length_cons, Int.pow_succ, Int.mul_comm (120 ^ ts.length)]
    exact Int.le_trans h1 h3
theorem Cl_lt {m : Int} (hm : 1 ≤ m ∧ m ≤ 60) {ts : List tm} (h : ts.length ≤ 5) (r : Int) : Cl m ts r < 9223372036854775808 := by
  have h1 := Cl_le hm ts r
  have h2 : (120 : Int) ^ ts.length ≤ 24883200000 := by
    rcases (show ts.length = 0 ∨ ts.length = 1 ∨ ts.length = 2 ∨ ts.length = 3 ∨ ts.length = 4 ∨ ts.length = 5 by omega) with e | e | e | e | e | e <;> rw [e] <;> decide
  omega
def rowC (g : Nat → Int64) (m : Int) (i : Nat) (w : Int → Int) : Prop := ∀ r : Int, 0 ≤ r → r < m → g (60 * i + r.toNat) = lI (w r)
theorem m_classOf {post : Int32 → MS → Prop} {S : MS} {F : Nat → List tm} {s i : Nat} {t : tm} {x m : Int} (hF : mForms S F) (hs : s < 4) (hi : i < 5) (ht : (F s)[i]? = some t) (hx : 0 ≤ x ∧ x ≤ 130) (hm : 1 ≤ m ∧ m ≤ 60) (h : post (iI (tv t x % m)) S) : wX1_classOf post S (iI s) (iI i) (iI x) (iI m) := by
  have hvt := (hF s hs).2.1.2 t (List.mem_of_getElem? ht)
  have hb := tv_nn hvt hx.1 hx.2
  unfold wX1_classOf
  simp (disch := omega) only [iI_l]
  refine m_valueOf hF hs hi ht (by omega) (by omega) ⟨?_, ?_⟩
  · rw [show (0 : Int64) = lI 0 from rfl, lI_eq (by omega) (by omega) (by omega) (by omega)]; omega
  · rw [lI_rem (by omega) (by omega), lI_i, Int.tmod_eq_emod_of_nonneg hb.1]
    exact h
theorem rem_m {r c m : Int} (hr : 0 ≤ r ∧ r < m) (hc : 0 ≤ c ∧ c < m) (hm : 1 ≤ m ∧ m ≤ 60) : iI (r - c + m) - iI (r - c + m) / iI m * iI m = iI ((r - c) % m) := by
  rw [iI_rem (by omega) (by omega), Int.tmod_eq_emod_of_nonneg (by omega), Int.add_emod_right]
theorem m_cls_73 {K53 : Int32 → Int32 → Int32 → MS → Prop} {K61 : Int32 → Int32 → Int32 → Int32 → MS → Prop} {post : Unit → MS → Prop} {S : MS} {F : Nat → List tm} {g : Nat → Int64} {s i : Nat} {t : tm} {ts : List tm} {m r : Int} (hF : mForms S F) (hs : s < 4) (hi : i < 5) (ht : (F s)[i]? = some t) (hm : 1 ≤ m ∧ m ≤ 60) (hr : 0 ≤ r ∧ r < m) (hw : rowC g m (i + 1) (Cl m ts))
    (h : K61 (iI s) (iI m) (iI i) (iI (r + 1)) (mB S 46 (vp_updL g (60 * i + r.toNat) (lI (Cl m (t :: ts) r))))) : ∀ (q : Nat) (x : Int), x + q = xsR t m → 0 ≤ x → wX1_laysClasses_73 K53 K61 post (q + 1) (iI s) (iI m) (iI i) (iI r) (lI (uI 0 (x - 1) (fun x => Cl m ts ((r - tv t x % m) % m)))) (iI x) (mB S 46 g) := by
  have hvt := (hF s hs).2.1.2 t (List.mem_of_getElem? ht)
  obtain ⟨f1, f2, f3, f4⟩ := (hF s hs).2.2 i t ht
  have hxs : xsR t m ≤ 120 ∧ 1 ≤ xsR t m := by unfold xsR; split <;> omega
  have hk4 := hvt.2.2.2.1
  have hk0 := hvt.2.2.1
  have hxw : ∀ (P : Int32 → Prop), P (iI (xsR t m)) → wX1_xs P (iI t.2.1) (iI m) := by
    intro P hP
    unfold wX1_xs
    unfold xsR at hP
    simp (disch := omega) only [iLit, lLit, iI_add, iI_sub, iI_mul, iI_neg, lI_add, lI_sub, lI_mul, lI_neg, nI_i, lI_i, iI_eq]
    exact ⟨fun e => by rw [if_pos e] at hP; exact hP, fun e => by rw [if_neg e] at hP; exact hP⟩
  intro q
  induction q with
  | zero =>
    intro x hq hx
    unfold wX1_laysClasses_73
    refine m_of (k := 1) (by omega) hi (by omega) ?_
    rw [show (mB S 46 g).2.2.1 1 (4 * (5 * s + i) + 1) = _ from f2]
    refine hxw _ (b_t (by simp (disch := omega) only [iLit, lLit, iI_add, iI_sub, iI_mul, iI_neg, lI_add, lI_sub, lI_mul, lI_neg, nI_i, lI_i, iI_l, iI_nat, iI_lt, iI_le, iI_eq, lI_lt, lI_le, lI_eq] <;> omega) ?_)
    simp (disch := omega) only [iLit, lLit, iI_add, iI_sub, iI_mul, iI_neg, lI_add, lI_sub, lI_mul, lI_neg, nI_i, lI_i, iI_nat, mB_at, mB_mB]
    refine ⟨iI_in (by omega) (by omega) (by omega), ?_⟩
    rw [show (60 * (i : Int) + r).toNat = 60 * i + r.toNat by omega, show x - 1 = xsR t m - 1 by omega, ← Cl_cons]
    exact h
  | succ q ih =>
    intro x hq hx
    unfold wX1_laysClasses_73
    refine m_of (k := 1) (by omega) hi (by omega) ?_
    rw [show (mB S 46 g).2.2.1 1 (4 * (5 * s + i) + 1) = _ from f2]
    refine hxw _ (b_f (by simp (disch := omega) only [iLit, lLit, iI_add, iI_sub, iI_mul, iI_neg, lI_add, lI_sub, lI_mul, lI_neg, nI_i, lI_i, iI_l, iI_nat, iI_lt, iI_le, iI_eq, lI_lt, lI_le, lI_eq] <;> omega) ?_)
    refine m_classOf (S := mB S 46 g) (F := F) hF hs hi ht (by omega) hm ?_
    have hc1 := Int.emod_nonneg (tv t x) (show m ≠ 0 by omega)
    have hc2 := Int.emod_lt_of_pos (tv t x) (show 0 < m by omega)
    have hd1 := Int.emod_nonneg (r - tv t x % m) (show m ≠ 0 by omega)
    have hd2 := Int.emod_lt_of_pos (r - tv t x % m) (show 0 < m by omega)
    simp only [iLit, lLit, iI_add, iI_sub, iI_mul, iI_neg, lI_add, lI_sub, lI_mul, lI_neg, nI_i, lI_i, mB_at]
    rw [rem_m hr ⟨hc1, hc2⟩ hm]
    simp (disch := omega) only [iLit, lLit, iI_add, iI_sub, iI_mul, iI_neg, lI_add, lI_sub, lI_mul, lI_neg, nI_i, lI_i, iI_nat]
    refine ⟨by simp (disch := omega) only [iI_eq]; omega, iI_in (by omega) (by omega) (by omega), ?_⟩
    rw [show (60 * ((i : Int) + 1) + (r - tv t x % m) % m).toNat = 60 * (i + 1) + ((r - tv t x % m) % m).toNat by omega, hw _ hd1 hd2, lI_add]
    have e := uI_end (lo := 0) (hi := x - 1) (fun x => Cl m ts ((r - tv t x % m) % m)) (by omega)
    rw [show x - 1 + 1 = x by omega] at e
    have := ih (x + 1) (by omega) (by omega)
    rw [show x + 1 - 1 = x by omega, e] at this
    exact this
theorem m_cls_61 {K53 : Int32 → Int32 → Int32 → MS → Prop} {post : Unit → MS → Prop} {S : MS} {F : Nat → List tm} {s i : Nat} {t : tm} {ts : List tm} {m : Int} {g0 : Nat → Int64} (hF : mForms S F) (hs : s < 4) (hi : i < 5) (ht : (F s)[i]? = some t) (hm : 1 ≤ m ∧ m ≤ 60) (hw : rowC g0 m (i + 1) (Cl m ts))
    (h : ∀ g : Nat → Int64, rowC g m i (Cl m (t :: ts)) → (∀ q, (q < 60 * i ∨ 60 * i + 60 ≤ q) → g q = g0 q) → K53 (iI s) (iI m) (iI ((i : Int) - 1)) (mB S 46 g)) : ∀ (q : Nat) (r : Int) (g : Nat → Int64), r + q = m → 0 ≤ r → (∀ z : Int, 0 ≤ z → z < r → g (60 * i + z.toNat) = lI (Cl m (t :: ts) z)) → (∀ q, (q < 60 * i ∨ 60 * i + 60 ≤ q) → g q = g0 q) → wX1_laysClasses_61 K53 post (q + 1) (iI s) (iI m) (iI i) (iI r) (mB S 46 g) := by
  intro q
  induction q with
  | zero =>
    intro r g hq hr h1 h2
    unfold wX1_laysClasses_61
    refine b_t (by simp (disch := omega) only [iLit, lLit, iI_add, iI_sub, iI_mul, iI_neg, lI_add, lI_sub, lI_mul, lI_neg, nI_i, lI_i, iI_l, iI_nat, iI_lt, iI_le, iI_eq, lI_lt, lI_le, lI_eq] <;> omega) ?_
    simp only [iLit, lLit, iI_add, iI_sub, iI_mul, iI_neg, lI_add, lI_sub, lI_mul, lI_neg, nI_i, lI_i]
    exact h g (fun z z1 z2 => h1 z z1 (by omega)) h2
  | succ q ih =>
    intro r g hq hr h1 h2
    unfold wX1_laysClasses_61
    refine b_f (by simp (disch := omega) only [iLit, lLit, iI_add, iI_sub, iI_mul, iI_neg, lI_add, lI_sub, lI_mul, lI_neg, nI_i, lI_i, iI_l, iI_nat, iI_lt, iI_le, iI_eq, lI_lt, lI_le, lI_eq] <;> omega) ?_
    have hxs : xsR t m ≤ 120 ∧ 1 ≤ xsR t m := by unfold xsR; split <;> omega
    have key := m_cls_73 (K53 := K53) (K61 := fun x1 x2 x4 x5 S => wX1_laysClasses_61 K53 post (q + 1) x1 x2 x4 x5 S) (post := post) (S := S) (F := F) (g := g) (ts := ts) (r := r) hF hs hi ht hm (by omega) (fun z z1 z2 => by rw [h2 _ (by omega)]; exact hw z z1 z2) (ih (r + 1) _ (by omega) (by omega) (fun z z1 z2 => by
      unfold vp_updL
      by_cases e : z = r
      · rw [if_pos (by omega), e]
      · rw [if_neg (by omega)]; exact h1 z z1 (by omega)) (fun q hq => by
      unfold vp_updL
      rw [if_neg (by omega)]; exact h2 q hq)) (xsR t m).toNat 0 (by omega) (by omega)
    rw [uI_none _ (by omega)] at key
    exact ⟨_, key⟩
theorem m_cls_53 {post : Unit → MS → Prop} {S : MS} {F : Nat → List tm} {s : Nat} {m : Int} (hF : mForms S F) (hs : s < 4) (hm : 1 ≤ m ∧ m ≤ 60) (h : ∀ g : Nat → Int64, (∀ i, i ≤ (F s).length → rowC g m i (Cl m ((F s).drop i))) → post () (mB S 46 g)) : ∀ (i : Nat) (g : Nat → Int64), i ≤ (F s).length → (∀ j, i ≤ j → j ≤ (F s).length → rowC g m j (Cl m ((F s).drop j))) → wX1_laysClasses_53 post (i + 1) (iI s) (iI m) (iI ((i : Int) - 1)) (mB S 46 g) := by
  obtain ⟨e0, hv, hf⟩ := hF s hs
  have hl5 := hv.1
  intro i
  induction i with
  | zero =>
    intro g hi h1
    unfold wX1_laysClasses_53
    exact b_t (by simp (disch := omega) only [iLit, lLit, iI_add, iI_sub, iI_mul, iI_neg, lI_add, lI_sub, lI_mul, lI_neg, nI_i, lI_i, iI_l, iI_nat, iI_lt, iI_le, iI_eq, lI_lt, lI_le, lI_eq] <;> omega) (h g (fun j hj => h1 j (by omega) hj))
  | succ i ih =>
    intro g hi h1
    unfold wX1_laysClasses_53
    refine b_f (by simp (disch := omega) only [iLit, lLit, iI_add, iI_sub, iI_mul, iI_neg, lI_add, lI_sub, lI_mul, lI_neg, nI_i, lI_i, iI_l, iI_nat, iI_lt, iI_le, iI_eq, lI_lt, lI_le, lI_eq] <;> omega) ?_
    obtain ⟨t, ht⟩ : ∃ t, (F s)[i]? = some t := ⟨_, List.getElem?_eq_getElem (by omega)⟩
    have hd : (F s).drop i = t :: (F s).drop (i + 1) := by
      obtain ⟨h1, h2⟩ := List.getElem?_eq_some_iff.mp ht
      rw [← h2]; exact List.drop_eq_getElem_cons h1
    rw [show ((i + 1 : Nat) : Int) - 1 = (i : Int) by omega]
    refine ⟨m.toNat + 1, m_cls_61 (g0 := g) hF hs (by omega) ht hm (h1 (i + 1) (by omega) hi) (fun g' a b => ih g' (by omega) (fun j j1 j2 => ?_)) m.toNat 0 g (by omega) (by omega) (fun z z1 z2 => by omega) (fun _ _ => rfl)⟩
    by_cases e : j = i
    · subst e; rw [hd]; exact a
    · intro z z1 z2
      rw [b _ (by omega)]
      exact h1 j (by omega) j2 z z1 z2
theorem m_cls_37 {K10 : Int32 → Int32 → Int32 → Int32 → MS → Prop} {post : Unit → MS → Prop} {S : MS} {g : Nat → Int64} {x1 x2 x3 : Int32} {r z : Int} {v : Int32} (hB : isB v) (hz : 0 ≤ z ∧ z < 360) (h : K10 x1 x2 x3 (iI (r + 1)) (mB S 46 (vp_updL g z.toNat v.toInt64))) : wX1_laysClasses_37 K10 post x1 x2 x3 (iI r) v (iI z) (mB S 46 g) := by
  unfold wX1_laysClasses_37 wX1_one
  simp (disch := omega) only [iI_nat, mB_at, mB_mB]
  rw [show iI r + 1 = iI (r + 1) from iI_add r 1]
  rcases hB with e | e <;> subst e
  · exact b_t rfl ⟨iI_in (by omega) (by omega) (by omega), h⟩
  · exact b_f (by decide) ⟨iI_in (by omega) (by omega) (by omega), h⟩
theorem m_cls_10 {post : Unit → MS → Prop} {S : MS} {F : Nat → List tm} {s : Nat} {m : Int} (hF : mForms S F) (hs : s < 4) (hm : 1 ≤ m ∧ m ≤ 60) (h : ∀ g : Nat → Int64, (∀ i, i ≤ (F s).length → rowC g m i (Cl m ((F s).drop i))) → post () (mB S 46 g)) : ∀ (q : Nat) (r : Int) (g : Nat → Int64), r + q = m → 0 ≤ r → (∀ z : Int, 0 ≤ z → z < r → g (60 * (F s).length + z.toNat) = lI (Cl m [] z)) → wX1_laysClasses_10 post (q + 1) (iI s) (iI m) (iI ((F s).length : Nat)) (iI r) (mB S 46 g) := by
  obtain ⟨e0, hv, hf⟩ := hF s hs
  have hl5 := hv.1
  intro q
  induction q with
  | zero =>
    intro r g hq hr h1
    unfold wX1_laysClasses_10
    refine b_t (by simp (disch := omega) only [iLit, lLit, iI_add, iI_sub, iI_mul, iI_neg, lI_add, lI_sub, lI_mul, lI_neg, nI_i, lI_i, iI_l, iI_nat, iI_lt, iI_le, iI_eq, lI_lt, lI_le, lI_eq] <;> omega) ?_
    simp only [iLit, lLit, iI_add, iI_sub, iI_mul, iI_neg, lI_add, lI_sub, lI_mul, lI_neg, nI_i, lI_i]
    refine ⟨(F s).length + 1, m_cls_53 hF hs hm h (F s).length g (Nat.le_refl _) (fun j j1 j2 => ?_)⟩
    rw [show j = (F s).length by omega, List.drop_length]
    exact fun z z1 z2 => h1 z z1 (by omega)
  | succ q ih =>
    intro r g hq hr h1
    unfold wX1_laysClasses_10
    refine b_f (by simp (disch := omega) only [iLit, lLit, iI_add, iI_sub, iI_mul, iI_neg, lI_add, lI_sub, lI_mul, lI_neg, nI_i, lI_i, iI_l, iI_nat, iI_lt, iI_le, iI_eq, lI_lt, lI_le, lI_eq] <;> omega) ?_
    simp (disch := omega) only [iLit, lLit, iI_add, iI_sub, iI_mul, iI_neg, lI_add, lI_sub, lI_mul, lI_neg, nI_i, lI_i, iI_eq]
    have step : ∀ v : Int, v = (if r = 0 then 1 else 0) → ∀ z : Int, 0 ≤ z → z < r + 1 → vp_updL g (60 * ((F s).length : Int) + r).toNat (lI v) (60 * (F s).length + z.toNat) = lI (Cl m [] z) := by
      intro v hv z z1 z2
      unfold vp_updL
      by_cases e : z = r
      · rw [if_pos (by omega), hv, e]; unfold Cl; rfl
      · rw [if_neg (by omega)]; exact h1 z z1 (by omega)
    refine ⟨fun e => m_cls_37 (v := iI 1) isB_1 (by omega) ?_, fun e => m_cls_37 (v := iI 0) isB_0 (by omega) ?_⟩
    · exact ih (r + 1) _ (by omega) (by omega) (step 1 (by rw [if_pos e]))
    · exact ih (r + 1) _ (by omega) (by omega) (step 0 (by rw [if_neg e]))
theorem m_cls {post : Unit → MS → Prop} {S : MS} {F : Nat → List tm} {s : Nat} {m : Int} (hF : mForms S F) (hs : s < 4) (hm : 1 ≤ m ∧ m ≤ 60) (h : ∀ g : Nat → Int64, (∀ i, i ≤ (F s).length → rowC g m i (Cl m ((F s).drop i))) → post () (mB S 46 g)) : wX1_laysClasses post S (iI s) (iI m) := by
  unfold wX1_laysClasses
  refine ⟨iI_in (by omega) (by omega) (by omega), m.toNat + 1, ?_⟩
  rw [iI_nat (by omega) (by omega), show ((s : Int)).toNat = s by omega, (hF s hs).1]
  have key := m_cls_10 (post := post) (S := S) (F := F) hF hs hm h m.toNat 0 (S.2.2.2 46) (by omega) (by omega) (fun z z1 z2 => by omega)
  rw [mB_id] at key
  exact key
