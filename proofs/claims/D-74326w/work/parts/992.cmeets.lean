set_option maxRecDepth 100000
set_option maxHeartbeats 4000000
/-! the component: meets -/
def cnEq (S S' : CS) : Prop := S'.1 = S.1 ∧ S'.2.1 = S.2.1 ∧ S'.2.2.1 = S.2.2.1 ∧ S'.2.2.2.1 = S.2.2.2.1
theorem cnEq.refl (S : CS) : cnEq S S := ⟨rfl, rfl, rfl, rfl⟩
theorem cnEq.trans {S S' S'' : CS} (h : cnEq S S') (g : cnEq S' S'') : cnEq S S'' := ⟨g.1.trans h.1, g.2.1.trans h.2.1, g.2.2.1.trans h.2.2.1, g.2.2.2.trans h.2.2.2⟩
theorem cnEq.B {S : CS} (k : Nat) (g : Nat → Int32) : cnEq S (cB S k g) := ⟨rfl, rfl, rfl, rfl⟩
theorem cB_at (S : CS) (k : Nat) (g : Nat → Int32) : (cB S k g).2.2.2.2 k = g := up_eq _ _ _
theorem cB_ne (S : CS) {k j : Nat} (g : Nat → Int32) (h : j ≠ k) : (cB S k g).2.2.2.2 j = S.2.2.2.2 j := up_ne _ _ _ h
theorem cB_cB (S : CS) (k : Nat) (g g' : Nat → Int32) : cB (cB S k g) k g' = cB S k g' := by
  unfold cB
  congr 4
  funext j
  show va_up (va_up S.2.2.2.2 k g) k g' j = va_up S.2.2.2.2 k g' j
  unfold va_up
  split <;> rfl
/-- a row that says where w is not nought -/
def bO (z : Int) : Int32 := if z ≠ 0 then 1 else 0
def rowB (f : Nat → Int32) (m : Int) (w : Int → Int) : Prop := ∀ r : Int, 0 ≤ r → r < m → f r.toNat = bO (w r)
theorem bO_or {x y : Int} (hx : 0 ≤ x) (hy : 0 ≤ y) : vp_nar .boolean (bO x ||| bO y) = bO (x + y) := by
  unfold bO
  by_cases e1 : x = 0
  · by_cases e2 : y = 0
    · rw [if_neg (by omega), if_neg (by omega), if_neg (by omega)]; rfl
    · rw [if_neg (by omega), if_pos (by omega), if_pos (by omega)]; rfl
  · by_cases e2 : y = 0
    · rw [if_pos (by omega), if_neg (by omega), if_pos (by omega)]; rfl
    · rw [if_pos (by omega), if_pos (by omega), if_pos (by omega)]; rfl
theorem bO_0 {z : Int} : bO z = 0 ↔ z = 0 := by
  unfold bO
  by_cases e : z = 0
  · rw [if_neg (by omega)]; exact ⟨fun _ => e, fun _ => rfl⟩
  · rw [if_pos e]; exact ⟨fun h => absurd h (by decide), fun h => absurd h e⟩
section
variable {K : Nat → Nat → Nat} {a : Nat → Nat}
theorem c_fillB_5 {post : Unit → NM → Prop} {N : NM} {q n : Nat} {v : Int32} (hv : v = 0) (hn : n < 2147483648) (h : ∀ g : Nat → Int32, (∀ j, j < n → g j = 0) → post () (va_up N q (some (eN 2 n g)))) : ∀ (m j : Nat) (g : Nat → Int32), j + m = n → (∀ i, i < j → g i = 0) → wJ15_fill_2_5 K post (m + 1) q v (iI (j : Nat)) (iI (n : Nat)) (va_up N q (some (eN 2 n g))) := by
  subst hv
  intro m
  induction m with
  | zero =>
    intro j g hj h1
    unfold wJ15_fill_2_5
    exact b_t (by simp (disch := omega) only [iLit, lLit, iI_add, iI_sub, iI_mul, iI_neg, lI_add, lI_sub, lI_mul, lI_neg, nI_i, lI_i, iI_l, iI_nat, iI_lt, iI_le, iI_eq, lI_lt, lI_le, lI_eq] <;> omega) (h g (fun i hi => h1 i (by omega)))
  | succ m ih =>
    intro j g hj h1
    unfold wJ15_fill_2_5
    refine b_f (by simp (disch := omega) only [iLit, lLit, iI_add, iI_sub, iI_mul, iI_neg, lI_add, lI_sub, lI_mul, lI_neg, nI_i, lI_i, iI_l, iI_nat, iI_lt, iI_le, iI_eq, lI_lt, lI_le, lI_eq] <;> omega) ⟨n, g, up_eq _ _ _, iI_in (by omega) (by omega) (by omega), fun N8 e => ?_⟩
    subst e
    rw [nat_i (by omega), show iI (j : Int) + 1 = iI ((j + 1 : Nat) : Int) from iI_add j 1, up_up]
    refine ih (j + 1) _ (by omega) (fun i hi => ?_)
    by_cases e : i = j
    · rw [e, upd_eq]; rfl
    · rw [upd_ne _ _ _ e]; exact h1 i (by omega)
theorem c_fillB {post : Unit → NM → Prop} {N : NM} {q n : Nat} {f0 : Nat → Int32} (hq : N q = some (eN 2 n f0)) (hn : n < 2147483648) (h : ∀ g : Nat → Int32, (∀ j, j < n → g j = 0) → post () (va_up N q (some (eN 2 n g)))) : wJ15_fill_2 K post N q (0 : Int32) := by
  refine ⟨n, f0, hq, n + 1, ?_⟩
  have := c_fillB_5 (K := K) rfl hn h n 0 f0 (by omega) (fun i hi => by omega)
  rw [up_self hq] at this
  exact this
theorem c_cn_99 {K56 : Nat → Option Nat → Int32 → Int32 → NM → Prop} {K63 : Nat → Option Nat → Int32 → Int32 → Int32 → NM → Prop} {post : Unit → NM → Prop} {S : CS} {N0 : NM} {x1 : Option Nat} {x4 : Int32} {i : Nat} {m b : Int} {u w : Int → Int} (hi : i < 5) (hm : 1 ≤ m ∧ m ≤ 60) (hb : 0 ≤ b ∧ b < m) (hu : ∀ z, 0 ≤ u z) (hw0 : ∀ z, 0 ≤ w z) (hw : rowB (S.2.2.2.2 (i + 1)) m w)
    (h : ∀ N' g, cL K a (cB S i g) N' → kp a N0 N' → rowB g m (fun z => u z + w ((z - b) % m)) → K63 (a 0) x1 (iI m) (iI i) (x4 + (1 : Int32)) N') : ∀ (mm : Nat) (r : Int) (N : NM) (g : Nat → Int32), r + mm = m → 0 ≤ r → cL K a (cB S i g) N → kp a N0 N → rowB g m (fun z => u z + (if (z - b) % m < r then w ((z - b) % m) else 0)) → wX0_laysCan_99 K K56 K63 post (mm + 1) (a 0) x1 (iI m) (iI i) x4 (iI b) (iI r) N := by
  intro mm
  induction mm with
  | zero =>
    intro r N g hr hr0 hL hk hg
    unfold wX0_laysCan_99
    refine b_t (by simp (disch := omega) only [iLit, lLit, iI_add, iI_sub, iI_mul, iI_neg, lI_add, lI_sub, lI_mul, lI_neg, nI_i, lI_i, iI_l, iI_nat, iI_lt, iI_le, iI_eq, lI_lt, lI_le, lI_eq] <;> omega) (h N g hL hk (fun z z1 z2 => ?_))
    rw [hg z z1 z2]
    show bO (u z + (if (z - b) % m < r then w ((z - b) % m) else 0)) = bO (u z + w ((z - b) % m))
    rw [if_pos (by have := Int.emod_lt_of_pos (z - b) (show 0 < m by omega); omega)]
  | succ mm ih =>
    intro r N g hr hr0 hL hk hg
    obtain ⟨ff, g1, g2⟩ := hL.cans
    have hi0 : N (a (22 + i)) = some (eN 2 60 g) := by
      have := hL.can (k := i) (by omega)
      rw [cB_at] at this
      exact this
    have hi1 : N (a (22 + (i + 1))) = some (eN 2 60 (S.2.2.2.2 (i + 1))) := by
      have := hL.can (k := i + 1) (by omega)
      rw [cB_ne _ _ (by omega)] at this
      exact this
    have em : iI r + iI b - (iI r + iI b) / iI m * iI m = iI ((r + b) % m) := by
      rw [iI_add, iI_rem (by omega) (by omega), Int.tmod_eq_emod_of_nonneg (by omega)]
    have hp := md2 (x := r + b) (m := m) (by omega) (by omega)
    have hp1 : 0 ≤ (r + b) % m ∧ (r + b) % m < m := by rw [hp]; split <;> omega
    have i1 : iI (i : Int) + 1 = iI ((i + 1 : Nat) : Int) := iI_add i 1
    unfold wX0_laysCan_99
    refine b_f (by simp (disch := omega) only [iLit, lLit, iI_add, iI_sub, iI_mul, iI_neg, lI_add, lI_sub, lI_mul, lI_neg, nI_i, lI_i, iI_l, iI_nat, iI_lt, iI_le, iI_eq, lI_lt, lI_le, lI_eq] <;> omega) ⟨_, _, _, _, _, _, _, _, _, _, _, _, _, _, _, _, _, _, _, hL.obj, a 9, rfl, _, _, g1, iI_in (by omega) (by omega) (by omega), ?_, a (22 + i), by rw [nat_i (by omega)]; exact g2 i (by omega), _, _, hi0, ?_⟩
    · rw [show (0 : Int32) = iI 0 from rfl, iI_eq (by omega) (by omega) (by omega) (by omega)]; omega
    rw [em, i1]
    refine ⟨iI_in (by omega) (by omega) (by omega), iI_in (by omega) (by omega) (by omega), a (22 + (i + 1)), by rw [nat_i (by omega)]; exact g2 (i + 1) (by omega), _, _, hi1, iI_in (by omega) (by omega) (by omega), iI_in (by omega) (by omega) (by omega), fun N' eN => ?_⟩
    rw [iI_nat (by omega) (by omega), iI_nat (by omega) (by omega)] at eN
    subst eN
    rw [show iI r + (1 : Int32) = iI (r + 1) from iI_add r 1]
    have hL' := hL.setCan (r := i) (by omega) (upd g ((r + b) % m).toNat (vp_nar .boolean (g ((r + b) % m).toNat ||| S.2.2.2.2 (i + 1) r.toNat)))
    rw [cB_cB] at hL'
    refine ih (r + 1) _ _ (by omega) (by omega) hL' (hk.at (i := 22 + i) (by omega) _) (fun z z1 z2 => ?_)
    have hz := md1 (x := z - b) (m := m) (by omega) (by omega)
    show _ = bO (u z + (if (z - b) % m < r + 1 then w ((z - b) % m) else 0))
    by_cases e : z = (r + b) % m
    · have e1 : (z - b) % m = r := by
        rw [hz]; rw [hp] at e; split at e <;> split <;> omega
      rw [← e, upd_eq, hg z z1 z2, hw r (by omega) (by omega)]
      show vp_nar .boolean (bO (u z + (if (z - b) % m < r then w ((z - b) % m) else 0)) ||| bO (w r)) = _
      rw [e1, if_neg (by omega), if_pos (by omega), Int.add_zero, bO_or (hu z) (hw0 r)]
    · have e1 : (z - b) % m ≠ r := by
        rw [hz]; rw [hp] at e; split at e <;> split <;> omega
      rw [upd_ne _ _ _ (by omega), hg z z1 z2]
      show bO (u z + (if (z - b) % m < r then w ((z - b) % m) else 0)) = _
      by_cases c : (z - b) % m < r
      · rw [if_pos c, if_pos (by omega)]
      · rw [if_neg c, if_neg (by omega)]
theorem c_cn_63 {K56 : Nat → Option Nat → Int32 → Int32 → NM → Prop} {post : Unit → NM → Prop} {S0 S : CS} {N0 : NM} {q i : Nat} {ts : List tm} {t : tm} {m : Int} {w : Int → Int} (hK : kOk K) (hL0 : cL K a S0 N0) (hF0 : cF K N0 q ts) (hv : vF ts) (ht : ts[i]? = some t) (hm : 1 ≤ m ∧ m ≤ 60) (hw0 : ∀ z, 0 ≤ w z) (hw : rowB (S.2.2.2.2 (i + 1)) m w)
    (h : ∀ N' g, cL K a (cB S i g) N' → kp a N0 N' → rowB g m (clS m t w) → K56 (a 0) (some q) (iI m) (iI ((i : Int) - 1)) N') : ∀ (mm : Nat) (x : Int) (N : NM) (g : Nat → Int32), x + mm = xsR t m → 0 ≤ x → cL K a (cB S i g) N → kp a N0 N → rowB g m (fun r => uI 0 (x - 1) (fun x => w ((r - tv t x % m) % m))) → wX0_laysCan_63 K K56 post (mm + 1) (a 0) (some q) (iI m) (iI i) (iI x) N := by
  have h5 := hv.1
  have hi := (List.getElem?_eq_some_iff.mp ht).1
  have hvt := hv.2 t (List.mem_of_getElem? ht)
  have hxs := xsR_in (t := t) hm
  intro mm
  induction mm with
  | zero =>
    intro x N g hx hx0 hL hk hg
    obtain ⟨y, f, f1, f2, f3⟩ := hF0.kp hL0 hk
    obtain ⟨z, z1, z2⟩ := f3 i t ht
    unfold wX0_laysCan_63
    refine ⟨q, rfl, _, f1, y, rfl, _, _, f2, iI_in (by omega) (by omega) (by omega), z, by rw [nat_i (by omega)]; exact z1, _, _, _, _, z2, c_rounds hK hvt z2 (b_t ?_ ?_)⟩
    · rw [iI_le (by omega) (by omega) (by omega) (by omega)]; omega
    · rw [iI_pred]
      refine h N g hL hk (fun r r1 r2 => ?_)
      rw [hg r r1 r2]
      show bO (uI 0 (x - 1) (fun x => w ((r - tv t x % m) % m))) = _
      rw [show x = xsR t m by omega]; rfl
  | succ mm ih =>
    intro x N g hx hx0 hL hk hg
    obtain ⟨y, f, f1, f2, f3⟩ := hF0.kp hL0 hk
    obtain ⟨z, z1, z2⟩ := f3 i t ht
    have hb := tv_nn hvt (x := x) (by omega) (by omega)
    have hbm : 0 ≤ tv t x % m ∧ tv t x % m < m := ⟨Int.emod_nonneg _ (by omega), Int.emod_lt_of_pos _ (by omega)⟩
    have hin : vp_in (iI (i : Int)) ts.length := iI_in (by omega) (by omega) (by omega)
    have hat : f (iI (i : Int)).toNatClampNeg = some z := by rw [nat_i (by omega)]; exact z1
    unfold wX0_laysCan_63
    refine ⟨q, rfl, _, f1, y, rfl, _, _, f2, hin, z, hat, _, _, _, _, z2, c_rounds hK hvt z2 (b_f ?_ ⟨_, f1, y, rfl, _, _, f2, hin, z, hat, _, _, _, _, z2, ?_⟩)⟩
    · rw [iI_le (by omega) (by omega) (by omega) (by omega)]; omega
    · rw [iI_l (by omega) (by omega), iI_l (by omega) (by omega)]
      refine c_value hvt z2 (by omega) (by omega) ⟨?_, m.toNat + 1, ?_⟩
      · rw [show (0 : Int64) = lI 0 from rfl, lI_eq (by omega) (by omega) (by omega) (by omega)]; omega
      · rw [lI_rem (by omega) (by omega), lI_i, Int.tmod_eq_emod_of_nonneg hb.1]
        refine c_cn_99 (S := S) (w := w) (u := fun r => uI 0 (x - 1) (fun x => w ((r - tv t x % m) % m))) (by omega) hm hbm (fun z => uI_nn (fun _ _ _ => hw0 _)) hw0 hw (fun N' g' hL' hk' hr' => ?_) m.toNat 0 N g (by omega) (by omega) hL hk (fun r r1 r2 => ?_)
        · rw [show iI x + (1 : Int32) = iI (x + 1) from iI_add x 1]
          refine ih (x + 1) N' g' (by omega) (by omega) hL' hk' (fun r r1 r2 => ?_)
          rw [hr' r r1 r2]
          have e := uI_end (lo := 0) (hi := x - 1) (fun x => w ((r - tv t x % m) % m)) (by omega)
          rw [show x - 1 + 1 = x by omega] at e
          show bO (uI 0 (x - 1) (fun x => w ((r - tv t x % m) % m)) + w ((r - tv t x % m) % m)) = bO (uI 0 (x + 1 - 1) (fun x => w ((r - tv t x % m) % m)))
          rw [show x + 1 - 1 = x by omega, e]
        · rw [hg r r1 r2]
          show bO (uI 0 (x - 1) (fun x => w ((r - tv t x % m) % m))) = bO (uI 0 (x - 1) (fun x => w ((r - tv t x % m) % m)) + (if (r - tv t x % m) % m < 0 then w ((r - tv t x % m) % m) else 0))
          rw [if_neg (by have := Int.emod_nonneg (r - tv t x % m) (show m ≠ 0 by omega); omega), Int.add_zero]
theorem c_cn_56 {post : Unit → NM → Prop} {S0 : CS} {N0 : NM} {q : Nat} {ts : List tm} {m : Int} (hK : kOk K) (hL0 : cL K a S0 N0) (hF0 : cF K N0 q ts) (hv : vF ts) (hm : 1 ≤ m ∧ m ≤ 60)
    (h : ∀ S' N', cL K a S' N' → kp a N0 N' → cnEq S0 S' → (∀ i, i ≤ ts.length → rowB (S'.2.2.2.2 i) m (Cl m (ts.drop i))) → post () N') : ∀ (j : Nat) (S : CS) (N : NM), j ≤ ts.length → cL K a S N → kp a N0 N → cnEq S0 S → (∀ i, j ≤ i → i ≤ ts.length → rowB (S.2.2.2.2 i) m (Cl m (ts.drop i))) → (∀ i, i < j → ∀ r, r < 60 → S.2.2.2.2 i r = 0) → wX0_laysCan_56 K post (j + 1) (a 0) (some q) (iI m) (iI ((j : Int) - 1)) N := by
  have h5 := hv.1
  intro j
  induction j with
  | zero =>
    intro S N hj hL hk he hr h0
    unfold wX0_laysCan_56
    exact b_t (by simp (disch := omega) only [iLit, lLit, iI_add, iI_sub, iI_mul, iI_neg, lI_add, lI_sub, lI_mul, lI_neg, nI_i, lI_i, iI_l, iI_nat, iI_lt, iI_le, iI_eq, lI_lt, lI_le, lI_eq] <;> omega) (h S N hL hk he (fun i hi => hr i (by omega) hi))
  | succ j ih =>
    intro S N hj hL hk he hr h0
    obtain ⟨t, ht⟩ : ∃ t, ts[j]? = some t := ⟨_, List.getElem?_eq_getElem (by omega)⟩
    have hd : ts.drop j = t :: ts.drop (j + 1) := by
      obtain ⟨h1, h2⟩ := List.getElem?_eq_some_iff.mp ht
      rw [← h2]; exact List.drop_eq_getElem_cons h1
    have hxs := xsR_in (t := t) hm
    unfold wX0_laysCan_56
    rw [show ((j + 1 : Nat) : Int) - 1 = (j : Nat) by omega]
    refine b_f (by simp (disch := omega) only [iLit, lLit, iI_add, iI_sub, iI_mul, iI_neg, lI_add, lI_sub, lI_mul, lI_neg, nI_i, lI_i, iI_l, iI_nat, iI_lt, iI_le, iI_eq, lI_lt, lI_le, lI_eq] <;> omega) ⟨(xsR t m).toNat + 1, ?_⟩
    have hid : cB S j (S.2.2.2.2 j) = S := by
      unfold cB
      show (S.1, S.2.1, S.2.2.1, S.2.2.2.1, va_up S.2.2.2.2 j (S.2.2.2.2 j)) = (S.1, S.2.1, S.2.2.1, S.2.2.2.1, S.2.2.2.2)
      congr 4
      funext k
      unfold va_up
      split
      · rename_i e; rw [e]
      · rfl
    refine c_cn_63 (S := S) (w := Cl m (ts.drop (j + 1))) hK hL0 hF0 hv ht hm (Cl_nn m _) (hr (j + 1) (by omega) (by omega)) (fun N' g hL' hk' hr' => ?_) _ 0 N (S.2.2.2.2 j) (by omega) (by omega) (by rw [hid]; exact hL) hk (fun r r1 r2 => ?_)
    · refine ih (cB S j g) N' (by omega) hL' hk' (he.trans (cnEq.B j g)) (fun i hi1 hi2 => ?_) (fun i hi r hr => ?_)
      · by_cases e : i = j
        · subst e
          rw [cB_at, hd]
          intro r r1 r2
          rw [hr' r r1 r2, Cl_cons]; rfl
        · rw [cB_ne _ _ e]; exact hr i (by omega) hi2
      · rw [cB_ne _ _ (by omega)]; exact h0 i (by omega) r hr
    · rw [h0 j (by omega) _ (by omega)]
      show (0 : Int32) = bO (uI 0 (0 - 1) (fun x => Cl m (ts.drop (j + 1)) ((r - tv t x % m) % m)))
      rw [uI_none _ (by omega)]
      rfl
theorem c_cn_12 {post : Unit → NM → Prop} {S0 : CS} {N0 : NM} {q : Nat} {ts : List tm} {m : Int} (hK : kOk K) (hL0 : cL K a S0 N0) (hF0 : cF K N0 q ts) (hv : vF ts) (hm : 1 ≤ m ∧ m ≤ 60)
    (h : ∀ S' N', cL K a S' N' → kp a N0 N' → cnEq S0 S' → (∀ i, i ≤ ts.length → rowB (S'.2.2.2.2 i) m (Cl m (ts.drop i))) → post () N') : ∀ (mm k : Nat) (S : CS) (N : NM), k + mm = 6 → cL K a S N → kp a N0 N → cnEq S0 S → (∀ i, i < k → ∀ r, r < 60 → S.2.2.2.2 i r = 0) → wX0_laysCan_12 K post (mm + 1) (a 0) (some q) (iI m) (some (a 9)) (iI (6 : Nat)) (iI k) N := by
  have h5 := hv.1
  intro mm
  induction mm with
  | zero =>
    intro k S N hk hL hkp he h0
    have hF := hF0.kp hL0 hkp
    have hF' := hF
    obtain ⟨y, f, f1, f2, f3⟩ := hF'
    obtain ⟨ff, g1, g2⟩ := hL.cans
    unfold wX0_laysCan_12
    refine b_t (by simp (disch := omega) only [iLit, lLit, iI_add, iI_sub, iI_mul, iI_neg, lI_add, lI_sub, lI_mul, lI_neg, nI_i, lI_i, iI_l, iI_nat, iI_lt, iI_le, iI_eq, lI_lt, lI_le, lI_eq] <;> omega) ⟨_, _, _, _, _, _, _, _, _, _, _, _, _, _, _, _, _, _, _, hL.obj, q, rfl, _, f1, c_many0 hF ⟨a 9, rfl, _, _, g1, iI_in (by omega) (by omega) (by omega), a (22 + ts.length), by rw [nat_i (by omega)]; exact g2 _ (by omega), _, _, hL.can (k := ts.length) (by omega), iI_in (z := 0) (by omega) (by omega) (by omega), fun N63 e63 => ?_⟩⟩
    generalize hg : upd (S.2.2.2.2 ts.length) (0 : Int32).toNatClampNeg (vp_nar .boolean 1) = g at e63
    subst e63
    have hL2 := hL.setCan (r := ts.length) (by omega) g
    have hk2 := hkp.at (i := 22 + ts.length) (by omega) (eN 2 60 g)
    have hF2 := hF0.kp hL0 hk2
    have hF2' := hF2
    obtain ⟨y, f, f1, f2, f3⟩ := hF2'
    refine ⟨_, f1, c_many0 hF2 ⟨ts.length + 1, ?_⟩⟩
    rw [show iI (ts.length : Int) - 1 = iI ((ts.length : Int) - 1) from iI_sub _ 1]
    refine c_cn_56 hK hL0 hF0 hv hm h ts.length (cB S ts.length g) _ (Nat.le_refl _) hL2 hk2 (he.trans (cnEq.B _ g)) (fun i hi1 hi2 => ?_) (fun i hi r hr => ?_)
    · have hi : i = ts.length := by omega
      subst hi
      rw [cB_at, List.drop_length, ← hg]
      intro r r1 r2
      show upd (S.2.2.2.2 ts.length) 0 1 r.toNat = bO (if r = 0 then 1 else 0)
      by_cases e : r = 0
      · subst e; rfl
      · rw [upd_ne _ _ _ (by omega), if_neg e, h0 ts.length (by omega) _ (by omega)]; rfl
    · rw [cB_ne _ _ (by omega)]; exact h0 i (by omega) r hr
  | succ mm ih =>
    intro k S N hk hL hkp he h0
    obtain ⟨ff, g1, g2⟩ := hL.cans
    unfold wX0_laysCan_12
    refine b_f (by simp (disch := omega) only [iLit, lLit, iI_add, iI_sub, iI_mul, iI_neg, lI_add, lI_sub, lI_mul, lI_neg, nI_i, lI_i, iI_l, iI_nat, iI_lt, iI_le, iI_eq, lI_lt, lI_le, lI_eq] <;> omega) ⟨a 9, rfl, _, _, g1, iI_in (by omega) (by omega) (by omega), a (22 + k), by rw [nat_i (by omega)]; exact g2 k (by omega), c_fillB (hL.can (k := k) (by omega)) (by omega) (fun g hg => ?_)⟩
    rw [show iI (k : Int) + 1 = iI ((k + 1 : Nat) : Int) from iI_add k 1]
    refine ih (k + 1) (cB S k g) _ (by omega) (hL.setCan (r := k) (by omega) g) (hkp.at (i := 22 + k) (by omega) _) (he.trans (cnEq.B k g)) (fun i hi r hr => ?_)
    by_cases e : i = k
    · subst e; rw [cB_at]; exact hg r hr
    · rw [cB_ne _ _ e]; exact h0 i (by omega) r hr
theorem c_laysCan {post : Unit → NM → Prop} {S : CS} {N : NM} {q : Nat} {ts : List tm} {m : Int} (hK : kOk K) (hL : cL K a S N) (hF : cF K N q ts) (hv : vF ts) (hm : 1 ≤ m ∧ m ≤ 60)
    (h : ∀ S' N', cL K a S' N' → kp a N N' → cnEq S S' → (∀ i, i ≤ ts.length → rowB (S'.2.2.2.2 i) m (Cl m (ts.drop i))) → post () N') : wX0_laysCan K post N (a 0) (some q) (iI m) := by
  obtain ⟨ff, g1, g2⟩ := hL.cans
  unfold wX0_laysCan
  exact ⟨_, _, _, _, _, _, _, _, _, _, _, _, _, _, _, _, _, _, _, hL.obj, a 9, rfl, _, _, g1, 7, c_cn_12 hK hL hF hv hm h 6 0 S N (by omega) hL (kp.refl a N) (cnEq.refl S) (fun i hi => by omega)⟩
theorem c_meets_88 {K65 : Nat → Int32 → Int32 → Option Nat → Int32 → Int32 → Nat → Nat → NM → Prop} {post : Int32 → NM → Prop} {S : CS} {N : NM} {q k i mc ms : Nat} {ts : List tm} {t : tm} {m r : Int} (hK : kOk K) (hL : cL K a S N) (hF : cF K N q ts) (hv : vF ts) (ht : ts[k]? = some t) (hi : i < 5) (hm : 1 ≤ m ∧ m ≤ 60) (hr : 0 ≤ r ∧ r < m) (hw : rowB (S.2.2.2.2 (k + 1)) m (Cl m (ts.drop (k + 1)))) : ∀ (p : Nat) (x : Int), x + p = xsR t m → 0 ≤ x → uI x (xsR t m - 1) (fun x => Cl m (ts.drop (k + 1)) ((r - tv t x % m) % m)) ≠ 0 → (if k = i then post (iI (meeX (fun x => Cl m (ts.drop (k + 1)) ((r - tv t x % m) % m)) p x)) N else K65 (a 0) (iI m) (iI i) (some q) (iI ((r - tv t (meeX (fun x => Cl m (ts.drop (k + 1)) ((r - tv t x % m) % m)) p x) % m) % m)) (iI ((k + 1 : Nat) : Int)) mc ms N) → wX0_meets_88 K K65 post p (a 0) (iI m) (iI i) (some q) (iI r) (iI k) (iI x) mc ms N := by
  have h5 := hv.1
  have hk := (List.getElem?_eq_some_iff.mp ht).1
  have hvt := hv.2 t (List.mem_of_getElem? ht)
  have hxs := xsR_in (t := t) hm
  have hF' := hF
  obtain ⟨y, f, f1, f2, f3⟩ := hF'
  obtain ⟨z, z1, z2⟩ := f3 k t ht
  have hin : vp_in (iI (k : Int)) ts.length := iI_in (by omega) (by omega) (by omega)
  have hat : f (iI (k : Int)).toNatClampNeg = some z := by rw [nat_i (by omega)]; exact z1
  have k1 : iI (k : Int) + 1 = iI ((k + 1 : Nat) : Int) := iI_add k 1
  obtain ⟨ff, g1, g2⟩ := hL.cans
  intro p
  induction p with
  | zero => intro x hq hx h1 h; exact absurd (uI_none _ (by omega)) h1
  | succ p ih =>
    intro x hq hx h1 h
    have hb := tv_nn hvt (x := x) (by omega) (by omega)
    have hc1 := Int.emod_nonneg (tv t x) (show m ≠ 0 by omega)
    have hc2 := Int.emod_lt_of_pos (tv t x) (show 0 < m by omega)
    have hd1 := Int.emod_nonneg (r - tv t x % m) (show m ≠ 0 by omega)
    have hd2 := Int.emod_lt_of_pos (r - tv t x % m) (show 0 < m by omega)
    unfold wX0_meets_88
    refine ⟨q, rfl, _, f1, y, rfl, _, _, f2, hin, z, hat, _, _, _, _, z2, c_rounds hK hvt z2 (b_f ?_ ⟨_, f1, y, rfl, _, _, f2, hin, z, hat, _, _, _, _, z2, ?_⟩)⟩
    · rw [iI_le (by omega) (by omega) (by omega) (by omega)]; omega
    · rw [iI_l (by omega) (by omega), iI_l (by omega) (by omega)]
      refine c_value hvt z2 (by omega) (by omega) ⟨?_, ?_⟩
      · rw [show (0 : Int64) = lI 0 from rfl, lI_eq (by omega) (by omega) (by omega) (by omega)]; omega
      · rw [lI_rem (by omega) (by omega), lI_i, Int.tmod_eq_emod_of_nonneg hb.1, iI_sub]
        refine c_floorMod (by omega) hm ⟨_, _, _, _, _, _, _, _, _, _, _, _, _, _, _, _, _, _, _, hL.obj, a 9, rfl, _, _, g1, ?_⟩
        rw [k1]
        refine ⟨iI_in (by omega) (by omega) (by omega), a (22 + (k + 1)), by rw [nat_i (by omega)]; exact g2 (k + 1) (by omega), _, _, hL.can (k := k + 1) (by omega), iI_in (by omega) (by omega) (by omega), ?_⟩
        rw [iI_nat (by omega) (by omega), hw _ hd1 hd2, bO_0]
        unfold meeX at h
        refine ⟨fun e => ?_, fun e => ?_⟩
        · simp only [if_pos e] at h
          rw [uI_first _ (by omega), e, Int.zero_add] at h1
          rw [show iI x + (1 : Int32) = iI (x + 1) from iI_add x 1]
          exact ih (x + 1) (by omega) (by omega) h1 h
        · simp only [if_neg e] at h
          rw [iI_eq (by omega) (by omega) (by omega) (by omega)]
          refine ⟨fun e2 => by rw [if_pos (by omega)] at h; exact h, fun e2 => ?_⟩
          rw [if_neg (by omega)] at h
          unfold wX0_meets_173
          rw [k1]
          exact h
theorem c_meets_65 {post : Int32 → NM → Prop} {S : CS} {N : NM} {q j mc ms : Nat} {ts : List tm} {m : Int} (hK : kOk K) (hL : cL K a S N) (hF : cF K N q ts) (hv : vF ts) (hj : j < ts.length) (hm : 1 ≤ m ∧ m ≤ 60) (hw : ∀ i, i ≤ ts.length → rowB (S.2.2.2.2 i) m (Cl m (ts.drop i))) : ∀ (p k : Nat) (r : Int), k + p = j → 0 ≤ r → r < m → post (iI (if Cl m (ts.drop k) r = 0 then -1 else meeR m (ts.drop k) r p)) N → wX0_meets_65 K post (p + 1) (a 0) (iI m) (iI j) (some q) (iI r) (iI k) mc ms N := by
  have h5 := hv.1
  obtain ⟨ff, g1, g2⟩ := hL.cans
  intro p
  induction p with
  | zero =>
    intro k r hp r1 r2 h
    obtain ⟨t, ht⟩ : ∃ t, ts[k]? = some t := ⟨_, List.getElem?_eq_getElem (by omega)⟩
    have hd : ts.drop k = t :: ts.drop (k + 1) := by
      obtain ⟨h1, h2⟩ := List.getElem?_eq_some_iff.mp ht
      rw [← h2]; exact List.drop_eq_getElem_cons h1
    have hxs := xsR_in (t := t) hm
    unfold wX0_meets_65
    refine b_f (by simp (disch := omega) only [iLit, lLit, iI_add, iI_sub, iI_mul, iI_neg, lI_add, lI_sub, lI_mul, lI_neg, nI_i, lI_i, iI_l, iI_nat, iI_lt, iI_le, iI_eq, lI_lt, lI_le, lI_eq] <;> omega) ⟨_, _, _, _, _, _, _, _, _, _, _, _, _, _, _, _, _, _, _, hL.obj, a 9, rfl, _, _, g1, iI_in (by omega) (by omega) (by omega), a (22 + k), by rw [nat_i (by omega)]; exact g2 k (by omega), _, _, hL.can (k := k) (by omega), iI_in (by omega) (by omega) (by omega), ?_⟩
    rw [iI_nat (by omega) (by omega), hw k (by omega) r r1 r2, bO_0]
    refine ⟨fun e => by rw [if_pos e] at h; exact h, fun e => ⟨(xsR t m).toNat, ?_⟩⟩
    rw [if_neg e, hd] at h
    rw [hd, Cl_cons] at e
    refine c_meets_88 hK hL hF hv ht (by omega) hm ⟨r1, r2⟩ (hw (k + 1) (by omega)) (xsR t m).toNat 0 (by omega) (by omega) e ?_
    rw [if_pos (by omega)]
    unfold meeR at h
    exact h
  | succ p ih =>
    intro k r hp r1 r2 h
    obtain ⟨t, ht⟩ : ∃ t, ts[k]? = some t := ⟨_, List.getElem?_eq_getElem (by omega)⟩
    have hd : ts.drop k = t :: ts.drop (k + 1) := by
      obtain ⟨h1, h2⟩ := List.getElem?_eq_some_iff.mp ht
      rw [← h2]; exact List.drop_eq_getElem_cons h1
    have hxs := xsR_in (t := t) hm
    unfold wX0_meets_65
    refine b_f (by simp (disch := omega) only [iLit, lLit, iI_add, iI_sub, iI_mul, iI_neg, lI_add, lI_sub, lI_mul, lI_neg, nI_i, lI_i, iI_l, iI_nat, iI_lt, iI_le, iI_eq, lI_lt, lI_le, lI_eq] <;> omega) ⟨_, _, _, _, _, _, _, _, _, _, _, _, _, _, _, _, _, _, _, hL.obj, a 9, rfl, _, _, g1, iI_in (by omega) (by omega) (by omega), a (22 + k), by rw [nat_i (by omega)]; exact g2 k (by omega), _, _, hL.can (k := k) (by omega), iI_in (by omega) (by omega) (by omega), ?_⟩
    rw [iI_nat (by omega) (by omega), hw k (by omega) r r1 r2, bO_0]
    refine ⟨fun e => by rw [if_pos e] at h; exact h, fun e => ⟨(xsR t m).toNat, ?_⟩⟩
    rw [if_neg e, hd] at h
    rw [hd, Cl_cons] at e
    have hx := meeX_ok _ (xsR t m - 1) (xsR t m).toNat 0 (by omega) e
    refine c_meets_88 hK hL hF hv ht (by omega) hm ⟨r1, r2⟩ (hw (k + 1) (by omega)) (xsR t m).toNat 0 (by omega) (by omega) e ?_
    rw [if_neg (by omega)]
    unfold meeR at h
    refine ih (k + 1) _ (by omega) (Int.emod_nonneg _ (by omega)) (Int.emod_lt_of_pos _ (by omega)) ?_
    rw [if_neg hx.2.2]
    exact h
theorem cnEq.Q {S S' : CS} {N N' : NM} (hL : cL K a S N) (hc : cLaid K S N) (hu : cUnl K S N) (h1 : cL K a S' N') (h2 : kp a N N') (h3 : cnEq S S') : cQ K a S N S' N' := by
  refine ⟨h1, h2, by rw [h3.1], fun k _ _ _ => by rw [h3.1], h3.2.1, h3.2.2.1, ?_, ?_⟩
  · rcases hc with h | ⟨q, ts, c1, c2, c3, c4⟩
    · exact Or.inl (by rw [h3.1]; exact h)
    · exact Or.inr ⟨q, ts, by rw [h3.1]; exact c1, c2.kp hL h2, c3, fun i hi => by rw [h3.2.2.2]; exact c4 i hi⟩
  · rcases hu with h | ⟨q, ts, c1, c2, c3, c4⟩
    · exact Or.inl (by rw [h3.1]; exact h)
    · exact Or.inr ⟨q, ts, by rw [h3.1]; exact c1, c2.kp hL h2, c3, by rw [h3.2.2.2]; exact c4⟩
theorem c_meets {post : Int32 → NM → Prop} {MC MS : Nat} {S : CS} {N : NM} {F : Nat → List tm} {z m r i : Int} (hK : kOk K) (hL : cL K a S N) (hF : cSlots K S N F) (hc : cLaid K S N) (hu : cUnl K S N) (hz : i32 z) (hm : i32 m) (hr : i32 r) (hi : i32 i) (hMC : 3 ≤ MC) (hMS : 210 ≤ MS) (h0 : ¬ (0 ≤ z ∧ z ≤ 3 ∧ F z.toNat ≠ [] ∧ 1 ≤ m ∧ m ≤ 60 ∧ 0 ≤ r ∧ r < m ∧ 0 ≤ i ∧ i < (F z.toNat).length) → post (iI (-1)) N) (h1 : ∀ (s j : Nat) S' N', s < 4 → z = s → F s ≠ [] → 1 ≤ m → m ≤ 60 → 0 ≤ r → r < m → i = j → j < (F s).length → cQ K a S N S' N' → post (iI (if Cl m (F s) r = 0 then -1 else meeR m (F s) r j)) N') : wX0_meets K post MC MS N (a 0) (iI z) (iI m) (iI r) (iI i) := by
  unfold wX0_meets
  refine ⟨_, _, _, _, _, _, _, _, _, _, _, _, _, _, _, _, _, _, _, hL.obj, 3, 210, hMC, hMS, c_at hL hF hz (by omega) (by omega) (fun hq => ⟨fun _ => h0 (fun w => hq ⟨w.1, w.2.1, w.2.2.1⟩), fun _ e => by cases e⟩) (fun s q hs e hne hq hf hv => ⟨fun e => (by cases e), fun _ ea => ?_⟩)⟩
  cases ea
  subst e
  have h5 := hv.1
  rw [show ((s : Int)).toNat = s by omega] at h0
  refine c_isModulus hm (fun m1 m2 => b_f (by decide) ?_) (fun hc => b_t rfl (h0 (fun w => hc (by omega))))
  rw [show iI m - (1 : Int32) = iI (m - 1) from iI_sub m 1, iI_l hr.1 hr.2, iI_l (z := m - 1) (by omega) (by omega)]
  have hf' := hf
  obtain ⟨y, f, f1, f2, f3⟩ := hf'
  refine c_isIn (b := 0) (by omega) (by omega) (by omega) (fun r1 r2 => b_f (by decide) ⟨_, f1, c_many0 hf ?_⟩) (fun c => b_t rfl (h0 (fun w => c (by omega))))
  rw [show iI ((F s).length : Int) - 1 = iI (((F s).length : Int) - 1) from iI_sub _ 1, iI_l hi.1 hi.2, iI_l (z := ((F s).length : Int) - 1) (by omega) (by omega)]
  refine c_isIn (b := 0) (by omega) (by omega) (by omega) (fun c1 c2 => b_f (by decide) ⟨_, _, _, _, _, _, _, _, _, _, _, _, _, _, _, _, _, _, _, hL.obj, ?_⟩) (fun c => b_t rfl (h0 (fun w => c (by omega))))
  refine c_laysCan hK hL hf hv ⟨m1, m2⟩ (fun S1 N1 hL1 hk1 he1 hr1 => ⟨i.toNat + 1, ?_⟩)
  rw [show iI i = iI ((i.toNat : Nat) : Int) by congr 1; omega]
  refine c_meets_65 hK hL1 (hf.kp hL hk1) hv (j := i.toNat) (by omega) ⟨m1, m2⟩ hr1 i.toNat 0 r (by omega) r1 (by omega) ?_
  rw [List.drop_zero]
  exact h1 s i.toNat S1 N1 hs rfl hne m1 m2 r1 (by omega) (by omega) (by omega) (cnEq.Q hL hc hu hL1 hk1 he1)
end
