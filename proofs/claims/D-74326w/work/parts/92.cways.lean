set_option maxRecDepth 100000
set_option maxHeartbeats 4000000
/-! the component lays ways -/
def lyEq (S S' : CS) : Prop := S'.1.2 = S.1.2 ∧ (∀ k, k ≠ 5 → S'.1.1 k = S.1.1 k) ∧ S'.2.1 = S.2.1 ∧ S'.2.2.1 = S.2.2.1 ∧ (∀ k, 6 ≤ k → S'.2.2.2.1 k = S.2.2.2.1 k) ∧ S'.2.2.2.2 = S.2.2.2.2
theorem lyEq.refl (S : CS) : lyEq S S := ⟨rfl, fun _ _ => rfl, rfl, rfl, fun _ _ => rfl, rfl⟩
theorem lyEq.trans {S S' S'' : CS} (h : lyEq S S') (g : lyEq S' S'') : lyEq S S'' := ⟨g.1.trans h.1, fun k a => (g.2.1 k a).trans (h.2.1 k a), g.2.2.1.trans h.2.2.1, g.2.2.2.1.trans h.2.2.2.1, fun k a => (g.2.2.2.2.1 k a).trans (h.2.2.2.2.1 k a), g.2.2.2.2.2.trans h.2.2.2.2.2⟩
theorem lyEq.G {S : CS} {k : Nat} (hk : k < 6) (g : Nat → Int64) : lyEq S (cG S k g) := ⟨rfl, fun _ _ => rfl, rfl, rfl, fun j a => up_ne _ _ _ (by omega), rfl⟩
theorem lyEq.R {S : CS} (v : Option Nat) : lyEq S (cR S 5 v) := ⟨rfl, fun _ a => up_ne _ _ _ a, rfl, rfl, fun _ _ => rfl, rfl⟩
def rowsL (S : CS) (ts : List tm) : Prop := ∀ i, i ≤ ts.length → rowL (S.2.2.2.1 i) (wR (ts.drop i))
theorem cG_at (S : CS) (k : Nat) (g : Nat → Int64) : (cG S k g).2.2.2.1 k = g := up_eq _ _ _
theorem cG_ne (S : CS) {k j : Nat} (g : Nat → Int64) (h : j ≠ k) : (cG S k g).2.2.2.1 j = S.2.2.2.1 j := up_ne _ _ _ h
theorem cG_cG (S : CS) (k : Nat) (g g' : Nat → Int64) : cG (cG S k g) k g' = cG S k g' := by
  unfold cG
  congr 4
  funext j
  show va_up (va_up S.2.2.2.1 k g) k g' j = va_up S.2.2.2.1 k g' j
  unfold va_up
  split <;> rfl
section
variable {K : Nat → Nat → Nat} {a : Nat → Nat} {S : CS} {N : NM}
theorem c_lw_72 {K48 : Nat → Option Nat → Int32 → NM → Prop} {post : Unit → NM → Prop} {S0 : CS} {N0 : NM} {q i : Nat} {ts : List tm} {t : tm} (hL0 : cL K a S0 N0) (hF0 : cF K N0 q ts) (hv : vF ts) (ht : ts[i]? = some t) {w : Int → Int} (hw : rowL (S.2.2.2.1 (i + 1)) w) (hz : sup w)
    (h : ∀ N' g, cL K a (cG S i g) N' → kp a N0 N' → rowL g (LyT t w) → K48 (a 0) (some q) (iI ((i : Int) - 1)) N') : ∀ (m : Nat) (x : Int) (N : NM) (g : Nat → Int64), x + m = t.2.2.2 + 1 → t.2.2.1 ≤ x → cL K a (cG S i g) N → kp a N0 N → rowL g (fun s => uI t.2.2.1 (x - 1) (fun x => w (s - tv t x))) → wX0_laysWays_72 K K48 post (m + 1) (a 0) (some q) (iI i) (iI x) N := by
  have h5 := hv.1
  have hi := (List.getElem?_eq_some_iff.mp ht).1
  have hvt := hv.2 t (List.mem_of_getElem? ht)
  have hlo := hvt.lo
  intro m
  induction m with
  | zero =>
    intro x N g hx hx0 hL hk hr
    obtain ⟨y, f, f1, f2, f3⟩ := hF0.kp hL0 hk
    obtain ⟨z, z1, z2⟩ := f3 i t ht
    unfold wX0_laysWays_72
    refine ⟨q, rfl, _, f1, y, rfl, _, _, f2, iI_in (by omega) (by omega) (by omega), z, by rw [nat_i (by omega)]; exact z1, _, _, _, _, z2, b_t (by simp (disch := omega) only [iLit, lLit, iI_add, iI_sub, iI_mul, iI_neg, lI_add, lI_sub, lI_mul, lI_neg, nI_i, lI_i, iI_l, iI_nat, iI_lt, iI_le, iI_eq, lI_lt, lI_le, lI_eq] <;> omega) ?_⟩
    rw [iI_pred]
    refine h N g hL hk (fun s s1 s2 => ?_)
    rw [hr s s1 s2, show x - 1 = t.2.2.2 by omega]
    rfl
  | succ m ih =>
    intro x N g hx hx0 hL hk hr
    obtain ⟨y, f, f1, f2, f3⟩ := hF0.kp hL0 hk
    obtain ⟨z, z1, z2⟩ := f3 i t ht
    obtain ⟨ff, g1, g2⟩ := hL.frm
    unfold wX0_laysWays_72
    refine ⟨q, rfl, _, f1, y, rfl, _, _, f2, iI_in (by omega) (by omega) (by omega), z, by rw [nat_i (by omega)]; exact z1, _, _, _, _, z2, b_f (by simp (disch := omega) only [iLit, lLit, iI_add, iI_sub, iI_mul, iI_neg, lI_add, lI_sub, lI_mul, lI_neg, nI_i, lI_i, iI_l, iI_nat, iI_lt, iI_le, iI_eq, lI_lt, lI_le, lI_eq] <;> omega) ?_⟩
    have i1 : iI (i : Int) + 1 = iI ((i + 1 : Nat) : Int) := iI_add i 1
    rw [i1]
    refine ⟨_, _, _, _, _, _, _, _, _, _, _, _, _, _, _, _, _, _, _, hL.obj, a 4, rfl, _, _, g1, iI_in (by omega) (by omega) (by omega), iI_in (by omega) (by omega) (by omega), iI_in (by omega) (by omega) (by omega), ?_⟩
    rw [iI_l (by omega) (by omega)]
    refine c_value hvt z2 (by omega) (by omega) ⟨a (10 + i), by rw [nat_i (by omega)]; exact g2 i (by omega), a (10 + (i + 1)), by rw [nat_i (by omega)]; exact g2 (i + 1) (by omega), ?_⟩
    have htv := hvt.tv hx0 (by omega)
    rw [lI_i]
    refine c_adds hL (by omega) (by omega) (by omega) (by omega) (by rw [cG_at]; exact hr) (by rw [cG_ne _ _ (by omega)]; exact hw) hz (fun N' g' hL' hk' hr' => ?_)
    rw [cG_cG] at hL'
    rw [show iI x + (1 : Int32) = iI (x + 1) from iI_add x 1]
    refine ih (x + 1) N' g' (by omega) (by omega) hL' (hk.trans hk') (fun s s1 s2 => ?_)
    rw [hr' s s1 s2]
    have e := uI_end (lo := t.2.2.1) (hi := x - 1) (fun x => w (s - tv t x)) (by omega)
    rw [show x - 1 + 1 = x by omega] at e
    show lI (uI t.2.2.1 (x - 1) (fun x => w (s - tv t x)) + w (s - tv t x)) = lI (uI t.2.2.1 (x + 1 - 1) (fun x => w (s - tv t x)))
    rw [show x + 1 - 1 = x by omega, e]
theorem c_lw_48 {post : Unit → NM → Prop} {S0 : CS} {N0 : NM} {q : Nat} {ts : List tm} (hL0 : cL K a S0 N0) (hF0 : cF K N0 q ts) (hv : vF ts)
    (h : ∀ S' N', cL K a S' N' → kp a N0 N' → lyEq S0 S' → S'.1.1 5 = some q → rowsL S' ts → post () N') : ∀ (j : Nat) (S : CS) (N : NM), j ≤ ts.length → cL K a S N → kp a N0 N → lyEq S0 S → S.1.1 5 = some q → (∀ i, j ≤ i → i ≤ ts.length → rowL (S.2.2.2.1 i) (wR (ts.drop i))) → wX0_laysWays_48 K post (j + 1) (a 0) (some q) (iI ((j : Int) - 1)) N := by
  have h5 := hv.1
  intro j
  induction j with
  | zero =>
    intro S N hj hL hk he h5q hr
    unfold wX0_laysWays_48
    exact b_t (by simp (disch := omega) only [iLit, lLit, iI_add, iI_sub, iI_mul, iI_neg, lI_add, lI_sub, lI_mul, lI_neg, nI_i, lI_i, iI_l, iI_nat, iI_lt, iI_le, iI_eq, lI_lt, lI_le, lI_eq] <;> omega) (h S N hL hk he h5q (fun i hi => hr i (by omega) hi))
  | succ j ih =>
    intro S N hj hL hk he h5q hr
    obtain ⟨t, ht⟩ : ∃ t, ts[j]? = some t := ⟨_, List.getElem?_eq_getElem (by omega)⟩
    have hd : ts.drop j = t :: ts.drop (j + 1) := by
      obtain ⟨h1, h2⟩ := List.getElem?_eq_some_iff.mp ht
      rw [← h2]; exact List.drop_eq_getElem_cons h1
    have hvt := hv.2 t (List.mem_of_getElem? ht)
    have hlo := hvt.lo
    obtain ⟨ff, g1, g2⟩ := hL.frm
    unfold wX0_laysWays_48
    rw [show ((j + 1 : Nat) : Int) - 1 = (j : Nat) by omega]
    refine b_f (by simp (disch := omega) only [iLit, lLit, iI_add, iI_sub, iI_mul, iI_neg, lI_add, lI_sub, lI_mul, lI_neg, nI_i, lI_i, iI_l, iI_nat, iI_lt, iI_le, iI_eq, lI_lt, lI_le, lI_eq] <;> omega) ⟨_, _, _, _, _, _, _, _, _, _, _, _, _, _, _, _, _, _, _, hL.obj, a 4, rfl, _, _, g1, iI_in (by omega) (by omega) (by omega), a (10 + j), by rw [nat_i (by omega)]; exact g2 j (by omega), ?_⟩
    refine c_fill (hL.row (k := j) (by omega)) (by omega) (fun g hg => ?_)
    have hL1 := hL.setRow (r := j) (by omega) g
    have hk1 := hk.at (i := 10 + j) (by omega) (eL 1 30001 g)
    obtain ⟨y, f, f1, f2, f3⟩ := hF0.kp hL0 hk1
    obtain ⟨z, z1, z2⟩ := f3 j t ht
    refine ⟨q, rfl, _, f1, y, rfl, _, _, f2, iI_in (by omega) (by omega) (by omega), z, by rw [nat_i (by omega)]; exact z1, _, _, _, _, z2, (t.2.2.2 + 1 - t.2.2.1).toNat + 1, ?_⟩
    refine c_lw_72 (S := S) (w := wR (ts.drop (j + 1))) hL0 hF0 hv ht (hr (j + 1) (by omega) (by omega)) (wR_sup (hv.drop (j + 1))) (fun N' g' hL' hk' hr' => ?_) _ t.2.2.1 _ g (by omega) (by omega) hL1 hk1 (fun s s1 s2 => ?_)
    · refine ih (cG S j g') N' (by omega) hL' hk' (he.trans (lyEq.G (by omega) g')) h5q (fun i hi1 hi2 => ?_)
      by_cases e : i = j
      · rw [e, cG_at, hd, wR_cons]; exact hr'
      · rw [cG_ne _ _ e]; exact hr i (by omega) hi2
    · rw [hg _ (by omega)]
      show (0 : Int64) = lI (uI t.2.2.1 (t.2.2.1 - 1) (fun x => wR (ts.drop (j + 1)) (s - tv t x)))
      rw [uI_none _ (by omega)]
      rfl
/-- what is laid of ways -/
def cLaid (K : Nat → Nat → Nat) (S : CS) (N : NM) : Prop := S.1.1 5 = none ∨ ∃ q ts, S.1.1 5 = some q ∧ cF K N q ts ∧ vF ts ∧ rowsL S ts
theorem c_laysWays {post : Unit → NM → Prop} {q : Nat} {ts : List tm} (hK : kOk K) (hL : cL K a S N) (hF : cF K N q ts) (hv : vF ts) (hc : cLaid K S N)
    (h : ∀ S' N', cL K a S' N' → kp a N N' → lyEq S S' → S'.1.1 5 = some q → rowsL S' ts → post () N') : wX0_laysWays K post N (a 0) (some q) := by
  have h5 := hv.1
  unfold wX0_laysWays
  refine ⟨_, _, _, _, _, _, _, _, _, _, _, _, _, _, _, _, _, _, _, hL.obj, fun e => ?_, fun e N22 eN => ?_⟩
  · rcases hc with hc | ⟨q', ts', c1, c2, c3, c4⟩
    · rw [hc] at e; cases e
    · rw [c1] at e
      cases e
      have := cF.inj hK c2 hF c3.2 hv.2
      subst this
      exact h S N hL (kp.refl a N) (lyEq.refl S) c1 c4
  · have eN : N22 = va_up N (a 0) (some (oT a (cR S 5 (some q)))) := eN
    subst eN
    have hL1 : cL K a (cR S 5 (some q)) (va_up N (a 0) (some (oT a (cR S 5 (some q))))) := hL.setV rfl
    have hk1 : kp a N (va_up N (a 0) (some (oT a (cR S 5 (some q))))) := (kp.refl a N).at (by omega) _
    have hF1 := hF.kp hL hk1
    have hF1' := hF1
    obtain ⟨y, f, f1, -, -⟩ := hF1'
    obtain ⟨ff, g1, g2⟩ := hL1.frm
    refine ⟨q, rfl, _, f1, c_many0 hF1 ⟨a 4, rfl, _, _, g1, iI_in (by omega) (by omega) (by omega), a (10 + ts.length), by rw [nat_i (by omega)]; exact g2 _ (by omega), ?_⟩⟩
    refine c_fill (hL1.row (k := ts.length) (by omega)) (by omega) (fun g hg => ?_)
    have hL2 := hL1.setRow (r := ts.length) (by omega) g
    have hk2 := hk1.at (i := 10 + ts.length) (by omega) (eL 1 30001 g)
    have hF2 := hF.kp hL hk2
    have hF2' := hF2
    obtain ⟨y, f, f1, -, -⟩ := hF2'
    obtain ⟨ff, g1, g2⟩ := hL2.frm
    refine ⟨_, _, _, _, _, _, _, _, _, _, _, _, _, _, _, _, _, _, _, hL2.obj, _, f1, c_many0 hF2 ⟨a 4, rfl, _, _, g1, iI_in (by omega) (by omega) (by omega), a (10 + ts.length), by rw [nat_i (by omega)]; exact g2 _ (by omega), _, _, hL2.row (k := ts.length) (by omega), iI_in (z := 15000) (by omega) (by omega) (by omega), fun N74 e74 => ?_⟩⟩
    rw [cG_at] at e74
    subst e74
    have hL3 := hL2.setRow (r := ts.length) (by omega) (vp_updL g (15000 : Int32).toNatClampNeg (1 : Int64))
    rw [cG_cG] at hL3
    have hk3 := hk2.at (i := 10 + ts.length) (by omega) (eL 1 30001 (vp_updL g (15000 : Int32).toNatClampNeg (1 : Int64)))
    have hF3 := hF.kp hL hk3
    have hF3' := hF3
    obtain ⟨y, f, f1, -, -⟩ := hF3'
    refine ⟨_, f1, c_many0 hF3 ⟨ts.length + 1, ?_⟩⟩
    rw [show iI (ts.length : Int) - 1 = iI ((ts.length : Int) - 1) from iI_sub _ 1]
    refine c_lw_48 hL hF hv h ts.length _ _ (Nat.le_refl _) hL3 hk3 ((lyEq.R _).trans (lyEq.G (by omega) _)) (up_eq S.1.1 5 (some q)) (fun i hi1 hi2 => ?_)
    have hi : i = ts.length := by omega
    subst hi
    rw [cG_at, List.drop_length, wR_nil]
    intro s s1 s2
    show vp_updL g 15000 (1 : Int64) s.toNat = _
    unfold vp_updL
    by_cases e : s = 15000
    · rw [if_pos (by omega)]; simp only [e, if_pos]; rfl
    · rw [if_neg (by omega), hg _ (by omega)]; simp only [e, if_neg, not_false_eq_true]; rfl
/-- ways of a form -/
theorem c_waysOf {post : Int64 → NM → Prop} {q : Nat} {ts : List tm} {n : Int} (hK : kOk K) (hL : cL K a S N) (hF : cF K N q ts) (hv : vF ts) (hc : cLaid K S N) (hn : -3000 ≤ n ∧ n ≤ 3000)
    (h : ∀ S' N', cL K a S' N' → kp a N N' → lyEq S S' → S'.1.1 5 = some q → rowsL S' ts → post (lI (Wy ts n)) N') : wX0_waysOf K post N (a 0) (some q) (iI n) := by
  unfold wX0_waysOf
  refine ⟨_, _, _, _, _, _, _, _, _, _, _, _, _, _, _, _, _, _, _, hL.obj, c_laysWays hK hL hF hv hc (fun S' N' hL' hk' he h5 hr => ?_)⟩
  obtain ⟨ff, g1, g2⟩ := hL'.frm
  refine ⟨_, _, _, _, _, _, _, _, _, _, _, _, _, _, _, _, _, _, _, hL'.obj, a 4, rfl, _, _, g1, iI_in (z := 0) (by omega) (by omega) (by omega), a (10 + 0), g2 0 (by omega), _, _, hL'.row (k := 0) (by omega), ?_⟩
  rw [show (15000 : Int32) + iI n = iI (15000 + n) from iI_add 15000 n, iI_nat (by omega) (by omega)]
  refine ⟨iI_in (by omega) (by omega) (by omega), ?_⟩
  have h0 := hr 0 (Nat.zero_le _) (15000 + n) (by omega) (by omega)
  rw [h0, List.drop_zero]
  unfold wR
  rw [show 15000 + n - 15000 = n by omega]
  exact h S' N' hL' hk' he h5 hr
end
