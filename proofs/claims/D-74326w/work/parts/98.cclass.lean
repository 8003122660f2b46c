set_option maxRecDepth 100000
set_option maxHeartbeats 4000000
/-! classes, from the first term on; the component's classes -/
theorem md2 {x m : Int} (h0 : 0 ≤ x) (h1 : x < 2 * m) : x % m = if x < m then x else x - m := by
  split
  · exact Int.emod_eq_of_lt h0 (by assumption)
  · have e : x = (x - m) + m * 1 := by omega
    rw [e, Int.add_mul_emod_self_left, Int.emod_eq_of_lt (by omega) (by omega)]
    omega
theorem md1 {x m : Int} (h0 : -m ≤ x) (h1 : x < m) : x % m = if 0 ≤ x then x else x + m := by
  split
  · exact Int.emod_eq_of_lt (by assumption) h1
  · have e : x = (x + m) + m * (-1) := by omega
    rw [e, Int.add_mul_emod_self_left, Int.emod_eq_of_lt (by omega) (by omega)]
    omega
def clS (m : Int) (t : tm) (w : Int → Int) (r : Int) : Int := uI 0 (xsR t m - 1) (fun x => w ((r - tv t x % m) % m))
theorem md_sub (r A B m : Int) : ((r - A) % m - B) % m = (r - A - B) % m := by
  rw [Int.sub_emod ((r - A) % m), Int.emod_emod, ← Int.sub_emod]
theorem clS_comm (m : Int) (t u : tm) (w : Int → Int) (r : Int) : clS m t (clS m u w) r = clS m u (clS m t w) r := by
  unfold clS uI
  rw [uN_swap]
  refine uN_congr _ (fun j _ => uN_congr _ (fun i _ => ?_))
  show w (((r - tv t (0 + i) % m) % m - tv u (0 + j) % m) % m) = w (((r - tv u (0 + j) % m) % m - tv t (0 + i) % m) % m)
  rw [md_sub, md_sub, show r - tv t (0 + i) % m - tv u (0 + j) % m = r - tv u (0 + j) % m - tv t (0 + i) % m by omega]
/-- one behind the other, from the first on -/
def clL (m : Int) : List tm → (Int → Int) → Int → Int
  | [], w => w
  | t :: ts, w => clL m ts (clS m t w)
def clR (m : Int) : List tm → (Int → Int) → Int → Int
  | [], w => w
  | t :: ts, w => clS m t (clR m ts w)
theorem clR_S (m : Int) (t : tm) : ∀ (ts : List tm) (w : Int → Int), clR m ts (clS m t w) = clS m t (clR m ts w)
  | [], w => rfl
  | u :: ts, w => by
    show clS m u (clR m ts (clS m t w)) = clS m t (clS m u (clR m ts w))
    rw [clR_S m t ts w]
    exact funext (fun r => clS_comm ..)
theorem clL_R (m : Int) : ∀ (ts : List tm) (w : Int → Int), clL m ts w = clR m ts w
  | [], w => rfl
  | t :: ts, w => by
    show clL m ts (clS m t w) = clS m t (clR m ts w)
    rw [clL_R m ts, clR_S]
theorem Cl_R (m : Int) : ∀ ts : List tm, Cl m ts = clR m ts (Cl m [])
  | [] => rfl
  | t :: ts => by
    funext r
    rw [Cl_cons]
    show _ = clS m t (clR m ts (Cl m [])) r
    rw [← Cl_R m ts]; rfl
theorem Cl_L (m : Int) (ts : List tm) : clL m ts (Cl m []) = Cl m ts := by rw [clL_R, ← Cl_R]
def clEq (S S' : CS) : Prop := S'.1 = S.1 ∧ S'.2.1 = S.2.1 ∧ S'.2.2.1 = S.2.2.1 ∧ (∀ k, k < 12 → S'.2.2.2.1 k = S.2.2.2.1 k) ∧ S'.2.2.2.2 = S.2.2.2.2
theorem clEq.refl (S : CS) : clEq S S := ⟨rfl, rfl, rfl, fun _ _ => rfl, rfl⟩
theorem clEq.trans {S S' S'' : CS} (h : clEq S S') (g : clEq S' S'') : clEq S S'' := ⟨g.1.trans h.1, g.2.1.trans h.2.1, g.2.2.1.trans h.2.2.1, fun k a => (g.2.2.2.1 k a).trans (h.2.2.2.1 k a), g.2.2.2.2.trans h.2.2.2.2⟩
theorem clEq.G {S : CS} {k : Nat} (hk : 12 ≤ k) (g : Nat → Int64) : clEq S (cG S k g) := ⟨rfl, rfl, rfl, fun j a => up_ne _ _ _ (by omega), rfl⟩
/-- a row of classes -/
def rowK (f : Nat → Int64) (m : Int) (w : Int → Int) : Prop := ∀ r : Int, 0 ≤ r → r < m → f r.toNat = lI (w r)
section
variable {K : Nat → Nat → Nat} {a : Nat → Nat}
theorem c_rounds {post : Int32 → NM → Prop} {N : NM} {y : Nat} {t : tm} {m : Int} (hK : kOk K) (ht : vT t) (hy : N y = some (oTm K t)) (h : post (iI (xsR t m)) N) : wX4_rounds K post N y (iI m) := by
  have b3 := ht.2.2.1
  have b4 := ht.2.2.2.1
  unfold wX4_rounds
  refine ⟨_, _, _, _, hy, fun e => ?_, fun e => ?_⟩
  · have e := Option.some.inj e
    have := hK _ _ (by omega) (by omega) e
    unfold xsR at h
    rw [if_pos (by omega)] at h
    rw [show (2 : Int32) * iI m = iI (2 * m) from iI_mul 2 m]
    exact h
  · unfold xsR at h
    rw [if_neg (fun z => e (by rw [z]; rfl))] at h
    exact h
theorem xsR_in {t : tm} {m : Int} (hm : 1 ≤ m ∧ m ≤ 60) : 1 ≤ xsR t m ∧ xsR t m ≤ 120 := by
  unfold xsR
  split <;> omega
theorem c_cl_79 {K27 : Nat → Int32 → Option Nat → Int32 → Int32 → NM → Prop} {K51 : Nat → Int32 → Option Nat → Int32 → Int32 → Option Nat → Int32 → NM → Prop} {post : Unit → NM → Prop} {S : CS} {N0 : NM} {x3 x6 : Option Nat} {x4 x5 x7 : Int32} {m b : Int} {u w : Int → Int} (hm : 1 ≤ m ∧ m ≤ 60) (hb : 0 ≤ b ∧ b < m) (hw : rowK (S.2.2.2.1 12) m w)
    (h : ∀ N' g, cL K a (cG S 13 g) N' → kp a N0 N' → rowK g m (fun z => u z + w ((z - b) % m)) → K51 (a 0) (iI m) x3 x4 x5 x6 (x7 + (1 : Int32)) N') : ∀ (mm : Nat) (r : Int) (N : NM) (g : Nat → Int64), r + mm = m → 0 ≤ r → cL K a (cG S 13 g) N → kp a N0 N → rowK g m (fun z => u z + (if (z - b) % m < r then w ((z - b) % m) else 0)) → wX0_laysClasses_79 K K27 K51 post (mm + 1) (a 0) (iI m) x3 x4 x5 x6 x7 (iI b) (iI r) N := by
  intro mm
  induction mm with
  | zero =>
    intro r N g hr hr0 hL hk hg
    unfold wX0_laysClasses_79
    refine b_t (by simp (disch := omega) only [iLit, lLit, iI_add, iI_sub, iI_mul, iI_neg, lI_add, lI_sub, lI_mul, lI_neg, nI_i, lI_i, iI_l, iI_nat, iI_lt, iI_le, iI_eq, lI_lt, lI_le, lI_eq] <;> omega) (h N g hL hk (fun z z1 z2 => ?_))
    rw [hg z z1 z2]
    show lI (u z + (if (z - b) % m < r then w ((z - b) % m) else 0)) = lI (u z + w ((z - b) % m))
    rw [if_pos (by have := Int.emod_lt_of_pos (z - b) (show 0 < m by omega); omega)]
  | succ mm ih =>
    intro r N g hr hr0 hL hk hg
    have h13 : N (a 8) = some (eL 1 60 g) := by
      have := hL.nxt
      rw [cG_at] at this
      exact this
    have h12 : N (a 7) = some (eL 1 60 (S.2.2.2.1 12)) := hL.cls
    have em : iI r + iI b - (iI r + iI b) / iI m * iI m = iI ((r + b) % m) := by
      rw [iI_add, iI_rem (by omega) (by omega), Int.tmod_eq_emod_of_nonneg (by omega)]
    have hp := md2 (x := r + b) (m := m) (by omega) (by omega)
    have hp1 : 0 ≤ (r + b) % m ∧ (r + b) % m < m := by rw [hp]; split <;> omega
    unfold wX0_laysClasses_79
    refine b_f (by simp (disch := omega) only [iLit, lLit, iI_add, iI_sub, iI_mul, iI_neg, lI_add, lI_sub, lI_mul, lI_neg, nI_i, lI_i, iI_l, iI_nat, iI_lt, iI_le, iI_eq, lI_lt, lI_le, lI_eq] <;> omega) ⟨_, _, _, _, _, _, _, _, _, _, _, _, _, _, _, _, _, _, _, hL.obj, ?_, a 8, rfl, _, _, h13, ?_⟩
    · rw [show (0 : Int32) = iI 0 from rfl, iI_eq (by omega) (by omega) (by omega) (by omega)]; omega
    rw [em]
    refine ⟨iI_in (by omega) (by omega) (by omega), a 7, rfl, _, _, h12, iI_in (by omega) (by omega) (by omega), iI_in (by omega) (by omega) (by omega), fun N' eN => ?_⟩
    subst eN
    rw [iI_nat (by omega) (by omega), iI_nat (by omega) (by omega), show iI r + (1 : Int32) = iI (r + 1) from iI_add r 1]
    have hL' := hL.setCl (r := 13) (by omega) (vp_updL g ((r + b) % m).toNat (g ((r + b) % m).toNat + S.2.2.2.1 12 r.toNat))
    rw [cG_cG] at hL'
    refine ih (r + 1) _ _ (by omega) (by omega) hL' (hk.at (i := 8) (by omega) _) (fun z z1 z2 => ?_)
    have hz := md1 (x := z - b) (m := m) (by omega) (by omega)
    show _ = lI (u z + (if (z - b) % m < r + 1 then w ((z - b) % m) else 0))
    by_cases e : z = (r + b) % m
    · have e1 : (z - b) % m = r := by
        rw [hz]; rw [hp] at e; split at e <;> split <;> omega
      rw [← e, updL_eq, hg z z1 z2, hw r (by omega) (by omega), lI_add]
      show lI (u z + (if (z - b) % m < r then w ((z - b) % m) else 0) + w r) = _
      rw [e1, if_neg (by omega), if_pos (by omega), Int.add_zero]
    · have e1 : (z - b) % m ≠ r := by
        rw [hz]; rw [hp] at e; split at e <;> split <;> omega
      rw [updL_ne _ _ _ (by omega), hg z z1 z2]
      show lI (u z + (if (z - b) % m < r then w ((z - b) % m) else 0)) = _
      by_cases c : (z - b) % m < r
      · rw [if_pos c, if_pos (by omega)]
      · rw [if_neg c, if_neg (by omega)]
theorem cpyK {f g : Nat → Int64} {m : Int} {w : Int → Int} (hm : m ≤ 60) (h : rowK f m w) : rowK (va_cpy f g (0 : Int32).toNatClampNeg (0 : Int32).toNatClampNeg (60 : Int32).toNatClampNeg) m w := fun s s1 s2 => by
  have e0 : (0 : Int32).toNatClampNeg = 0 := by decide
  have e1 : (60 : Int32).toNatClampNeg = 60 := by decide
  rw [e0, e1]
  unfold va_cpy
  rw [if_pos (by omega), show 0 + (s.toNat - 0) = s.toNat by omega]
  exact h s s1 s2
theorem c_cl_51 {K27 : Nat → Int32 → Option Nat → Int32 → Int32 → NM → Prop} {post : Unit → NM → Prop} {S0 S : CS} {N0 : NM} {q i z : Nat} {x3 : Option Nat} {x4 x5 : Int32} {ts : List tm} {t : tm} {m : Int} {w : Int → Int} (hK : kOk K) (hL0 : cL K a S0 N0) (hz : N0 z = some (oTm K t)) (hvt : vT t) (hm : 1 ≤ m ∧ m ≤ 60) (hw : rowK (S.2.2.2.1 12) m w)
    (h : ∀ N' g c, cL K a (cG (cG S 13 g) 12 c) N' → kp a N0 N' → rowK c m (clS m t w) → K27 (a 0) (iI m) x3 x4 (x5 + (1 : Int32)) N') : ∀ (mm : Nat) (x : Int) (N : NM) (g : Nat → Int64), x + mm = xsR t m → 0 ≤ x → cL K a (cG S 13 g) N → kp a N0 N → rowK g m (fun r => uI 0 (x - 1) (fun x => w ((r - tv t x % m) % m))) → wX0_laysClasses_51 K K27 post (mm + 1) (a 0) (iI m) x3 x4 x5 (some z) (iI x) N := by
  have hxs := xsR_in (t := t) hm
  have ho := hL0.out hz rfl
  intro mm
  induction mm with
  | zero =>
    intro x N g hx hx0 hL hk hg
    have h13 : N (a 8) = some (eL 1 60 g) := by
      have := hL.nxt
      rw [cG_at] at this
      exact this
    have h12 : N (a 7) = some (eL 1 60 (S.2.2.2.1 12)) := hL.cls
    have hz' := hk z _ hz ho
    unfold wX0_laysClasses_51
    refine ⟨z, rfl, _, _, _, _, hz', c_rounds hK hvt hz' (b_t ?_ ⟨_, _, _, _, _, _, _, _, _, _, _, _, _, _, _, _, _, _, _, hL.obj, a 7, rfl, a 8, rfl, _, _, h12, _, _, h13, by decide, by decide, by decide, by decide, by decide, fun N' eN => ?_⟩)⟩
    · rw [iI_le (by omega) (by omega) (by omega) (by omega)]; omega
    · have hg' : rowK g m (clS m t w) := fun r r1 r2 => by
        rw [hg r r1 r2]
        show lI (uI 0 (x - 1) (fun x => w ((r - tv t x % m) % m))) = _
        rw [show x = xsR t m by omega]; rfl
      have hc := cpyK (g := S.2.2.2.1 12) hm.2 hg'
      generalize va_cpy g (S.2.2.2.1 12) (0 : Int32).toNatClampNeg (0 : Int32).toNatClampNeg (60 : Int32).toNatClampNeg = c at hc eN
      subst eN
      exact h _ g c (hL.setCl (r := 12) (by omega) c) (hk.at (i := 7) (by omega) _) hc
  | succ mm ih =>
    intro x N g hx hx0 hL hk hg
    have hz' := hk z _ hz ho
    have hb := tv_nn hvt (x := x) (by omega) (by omega)
    have hbm : 0 ≤ tv t x % m ∧ tv t x % m < m := ⟨Int.emod_nonneg _ (by omega), Int.emod_lt_of_pos _ (by omega)⟩
    unfold wX0_laysClasses_51
    refine ⟨z, rfl, _, _, _, _, hz', c_rounds hK hvt hz' (b_f ?_ ⟨_, _, _, _, hz', ?_⟩)⟩
    · rw [iI_le (by omega) (by omega) (by omega) (by omega)]; omega
    · rw [iI_l (by omega) (by omega), iI_l (by omega) (by omega)]
      refine c_value hvt hz' (by omega) (by omega) ⟨?_, m.toNat + 1, ?_⟩
      · rw [show (0 : Int64) = lI 0 from rfl, lI_eq (by omega) (by omega) (by omega) (by omega)]; omega
      · rw [lI_rem (by omega) (by omega), lI_i, Int.tmod_eq_emod_of_nonneg hb.1]
        refine c_cl_79 (S := S) (w := w) (u := fun r => uI 0 (x - 1) (fun x => w ((r - tv t x % m) % m))) hm hbm hw (fun N' g' hL' hk' hr' => ?_) m.toNat 0 N g (by omega) (by omega) hL hk (fun r r1 r2 => ?_)
        · rw [show iI x + (1 : Int32) = iI (x + 1) from iI_add x 1]
          refine ih (x + 1) N' g' (by omega) (by omega) hL' hk' (fun r r1 r2 => ?_)
          rw [hr' r r1 r2]
          have e := uI_end (lo := 0) (hi := x - 1) (fun x => w ((r - tv t x % m) % m)) (by omega)
          rw [show x - 1 + 1 = x by omega] at e
          show lI (uI 0 (x - 1) (fun x => w ((r - tv t x % m) % m)) + w ((r - tv t x % m) % m)) = lI (uI 0 (x + 1 - 1) (fun x => w ((r - tv t x % m) % m)))
          rw [show x + 1 - 1 = x by omega, e]
        · rw [hg r r1 r2]
          show lI (uI 0 (x - 1) (fun x => w ((r - tv t x % m) % m))) = lI (uI 0 (x - 1) (fun x => w ((r - tv t x % m) % m)) + (if (r - tv t x % m) % m < 0 then w ((r - tv t x % m) % m) else 0))
          rw [if_neg (by have := Int.emod_nonneg (r - tv t x % m) (show m ≠ 0 by omega); omega), Int.add_zero]
theorem c_cl_27 {post : Unit → NM → Prop} {S0 : CS} {N0 : NM} {y : Nat} {f : Nat → Option Nat} {ts : List tm} {m : Int} (hK : kOk K) (hL0 : cL K a S0 N0) (hy : N0 y = some (eR 5 ts.length f)) (hf : ∀ i t, ts[i]? = some t → ∃ z, f i = some z ∧ N0 z = some (oTm K t)) (hv : vF ts) (hm : 1 ≤ m ∧ m ≤ 60)
    (h : ∀ S' N', cL K a S' N' → kp a N0 N' → clEq S0 S' → rowK (S'.2.2.2.1 12) m (Cl m ts) → post () N') : ∀ (mm i : Nat) (w : Int → Int) (S : CS) (N : NM), i + mm = ts.length → cL K a S N → kp a N0 N → clEq S0 S → rowK (S.2.2.2.1 12) m w → clL m (ts.drop i) w = Cl m ts → wX0_laysClasses_27 K post (mm + 1) (a 0) (iI m) (some y) (iI (ts.length : Nat)) (iI i) N := by
  have h5 := hv.1
  have ho := hL0.out hy rfl
  intro mm
  induction mm with
  | zero =>
    intro i w S N hi hL hk he hr hw
    unfold wX0_laysClasses_27
    rw [List.drop_of_length_le (by omega)] at hw
    have hw : w = Cl m ts := hw
    exact b_t (by simp (disch := omega) only [iLit, lLit, iI_add, iI_sub, iI_mul, iI_neg, lI_add, lI_sub, lI_mul, lI_neg, nI_i, lI_i, iI_l, iI_nat, iI_lt, iI_le, iI_eq, lI_lt, lI_le, lI_eq] <;> omega) (h S N hL hk he (by rw [← hw]; exact hr))
  | succ mm ih =>
    intro i w S N hi hL hk he hr hw
    obtain ⟨t, ht⟩ : ∃ t, ts[i]? = some t := ⟨_, List.getElem?_eq_getElem (by omega)⟩
    have hd : ts.drop i = t :: ts.drop (i + 1) := by
      obtain ⟨h1, h2⟩ := List.getElem?_eq_some_iff.mp ht
      rw [← h2]; exact List.drop_eq_getElem_cons h1
    have hvt := hv.2 t (List.mem_of_getElem? ht)
    obtain ⟨z, z1, z2⟩ := hf i t ht
    have hxs := xsR_in (t := t) hm
    rw [hd] at hw
    have hw : clL m (ts.drop (i + 1)) (clS m t w) = Cl m ts := hw
    unfold wX0_laysClasses_27
    refine b_f (by simp (disch := omega) only [iLit, lLit, iI_add, iI_sub, iI_mul, iI_neg, lI_add, lI_sub, lI_mul, lI_neg, nI_i, lI_i, iI_l, iI_nat, iI_lt, iI_le, iI_eq, lI_lt, lI_le, lI_eq] <;> omega) ⟨y, rfl, _, _, hk y _ hy ho, iI_in (by omega) (by omega) (by omega), _, _, _, _, _, _, _, _, _, _, _, _, _, _, _, _, _, _, _, hL.obj, a 8, rfl, c_fill hL.nxt (by omega) (fun g hg => ⟨(xsR t m).toNat + 1, ?_⟩)⟩
    have hL1 := hL.setCl (r := 13) (by omega) g
    rw [nat_i (by omega), z1]
    refine c_cl_51 (S := S) (w := w) (q := 0) (i := 0) (ts := ts) hK hL0 z2 hvt hm hr (fun N' g' c hL' hk' hr' => ?_) _ 0 _ g (by omega) (by omega) hL1 (hk.at (i := 8) (by omega) _) (fun r r1 r2 => ?_)
    · rw [show iI (i : Int) + 1 = iI ((i + 1 : Nat) : Int) from iI_add i 1]
      exact ih (i + 1) (clS m t w) _ N' (by omega) hL' hk' ((he.trans (clEq.G (by omega) g')).trans (clEq.G (by omega) c)) (by rw [cG_at]; exact hr') hw
    · rw [hg _ (by omega)]
      show (0 : Int64) = lI (uI 0 (0 - 1) (fun x => w ((r - tv t x % m) % m)))
      rw [uI_none _ (by omega)]
      rfl
theorem c_laysClasses {post : Unit → NM → Prop} {S : CS} {N : NM} {q : Nat} {ts : List tm} {m : Int} (hK : kOk K) (hL : cL K a S N) (hF : cF K N q ts) (hv : vF ts) (hm : 1 ≤ m ∧ m ≤ 60)
    (h : ∀ S' N', cL K a S' N' → kp a N N' → clEq S S' → rowK (S'.2.2.2.1 12) m (Cl m ts) → post () N') : wX0_laysClasses K post N (a 0) (some q) (iI m) := by
  have h5 := hv.1
  unfold wX0_laysClasses
  refine ⟨_, _, _, _, _, _, _, _, _, _, _, _, _, _, _, _, _, _, _, hL.obj, a 7, rfl, c_fill hL.cls (by omega) (fun g hg => ?_)⟩
  have hL1 : cL K a (cG S 12 g) (va_up N (a 7) (some (eL 1 60 g))) := hL.setCl (r := 12) (by omega) g
  have hk1 := (kp.refl a N).at (i := 7) (by omega) (eL 1 60 g)
  have h12 : (va_up N (a 7) (some (eL 1 60 g))) (a 7) = some (eL 1 60 g) := up_eq _ _ _
  refine ⟨_, _, _, _, _, _, _, _, _, _, _, _, _, _, _, _, _, _, _, hL1.obj, a 7, rfl, _, _, h12, iI_in (z := 0) (by omega) (by omega) (by omega), fun N50 e50 => ?_⟩
  generalize hg2 : vp_updL g (0 : Int32).toNatClampNeg (1 : Int64) = g' at e50
  subst e50
  have hL2 : cL K a (cG (cG S 12 g) 12 g') (va_up (va_up N (a 7) (some (eL 1 60 g))) (a 7) (some (eL 1 60 g'))) := hL1.setCl (r := 12) (by omega) g'
  have hk2 := hk1.at (i := 7) (by omega) (eL 1 60 g')
  obtain ⟨y, f, f1, f2, f3⟩ := hF.kp hL hk2
  refine ⟨q, rfl, _, f1, y, rfl, _, _, f2, ts.length + 1, ?_⟩
  obtain ⟨y', f', f1', f2', f3'⟩ := hF
  have ey := hk2 q _ f1' (hL.out f1' rfl)
  rw [f1] at ey
  have ey := (Prod.mk.inj (Sum.inr.inj (Option.some.inj ey))).2
  simp only [List.cons.injEq, and_true] at ey
  unfold va_rf at ey
  simp only [Value.ref.injEq] at ey
  subst ey
  refine c_cl_27 hK hL f2' f3' hv hm h ts.length 0 (Cl m []) _ _ (by omega) hL2 hk2 ((clEq.G (by omega) g).trans (clEq.G (by omega) g')) (fun r r1 r2 => ?_) (by rw [List.drop_zero]; exact Cl_L m ts)
  rw [cG_at, ← hg2]
  show vp_updL g 0 (1 : Int64) r.toNat = lI (if r = 0 then 1 else 0)
  unfold vp_updL
  by_cases e : r = 0
  · rw [if_pos (by omega), if_pos e]; rfl
  · rw [if_neg (by omega), if_neg e, hg _ (by omega)]; rfl
end
