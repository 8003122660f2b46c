set_option maxRecDepth 100000
set_option maxHeartbeats 4000000
/-! the model lays unlike ways -/
def roW (ts : List tm) (l : List Nat) : Nat → Int → Int
  | 0 => w0R
  | i + 1 => match ts[i]? with
    | none => roW ts l i
    | some t => if l.getD i 0 = 0 then roW ts l i else tOp t (l.getD i 0 : Nat) (roW ts l i)
theorem roW_ev {ts : List tm} {l : List Nat} : ∀ i : Nat, i ≤ ts.length → roW ts l i = eM (opT ts) (moK (pat ts) l i) w0R
  | 0, _ => rfl
  | i + 1, hi => by
    have ih := roW_ev (ts := ts) (l := l) i (by omega)
    obtain ⟨t, ht⟩ : ∃ t, ts[i]? = some t := ⟨_, List.getElem?_eq_getElem (by omega)⟩
    unfold roW moK
    rw [ht]
    simp only []
    by_cases e : l.getD i 0 = 0
    · rw [if_pos e, if_pos e]; exact ih
    · rw [if_neg e, if_neg e, ih, pat_at ht]
      show _ = opT ts (ts.idxOf t) (l.getD i 0) _
      unfold opT
      rw [List.getD_eq_getElem?_getD (i := ts.idxOf t), idx_at (List.mem_of_getElem? ht)]
      rfl
/-- a layer of a terms' ways, of b rounds in all -/
def ok2 (a b : Nat) (w : Int → Int) : Prop := (∀ s, 0 ≤ w s ∧ w s ≤ 6003 ^ a) ∧ ∀ s, w s ≠ 0 → 15000 - 3000 * (b : Int) ≤ s ∧ s ≤ 15000 + 3000 * (b : Int)
theorem ok2.step {a b c : Nat} {w : Int → Int} {t : tm} (h : ok2 a b w) (ht : vT t) (hc : c ≤ 5) : ok2 (a + 1) (b + c) (tOp t c w) := by
  have hlo := ht.lo
  have hp : (0 : Int) ≤ 6003 ^ a := Int.pow_nonneg (by omega)
  refine ⟨fun s => ⟨oP_nn (fun z => (h.1 z).1) s, ?_⟩, fun s hs => ?_⟩
  · have h1 := uN_le (B := 6003 ^ a) (f := fun j : Nat => w (s - c * tv t (t.2.2.1 + j))) (tcnt t) (fun j _ => (h.1 _).2)
    have h2 : ((tcnt t : Nat) : Int) ≤ 6003 := by unfold tcnt; omega
    have h3 := Int.mul_le_mul_of_nonneg_right h2 hp
    rw [Int.pow_succ, Int.mul_comm (6003 ^ a)]
    exact Int.le_trans h1 h3
  · obtain ⟨j, hj, hf⟩ := uN_ex _ hs
    have h1 := h.2 _ hf
    unfold tcnt at hj
    have h2 := ht.tv (x := t.2.2.1 + j) (by omega) (by omega)
    have h3 := abs_mul_le (a := (c : Int)) (b := tv t (t.2.2.1 + j)) (A := (c : Int)) (B := 3000) (by omega) (by omega) h2.1 h2.2
    rw [Int.natCast_add]
    omega
theorem ok2.sup {a b : Nat} {w : Int → Int} (h : ok2 a b w) (hb : b ≤ 5) : sup w := fun s hs => Classical.byContradiction fun e => by
  have := h.2 s e
  omega
theorem ok2.mono {a b b' : Nat} {w : Int → Int} (h : ok2 a b w) (hb : b ≤ b') : ok2 a b' w := ⟨h.1, fun s hs => by have := h.2 s hs; omega⟩
theorem roW_ok {ts : List tm} {l : List Nat} (hv : ∀ t ∈ ts, vT t) (hl : ∀ j, l.getD j 0 ≤ 5) : ∀ i : Nat, i ≤ ts.length → ∃ a, a ≤ i ∧ ok2 a (suL l i) (roW ts l i)
  | 0, _ => ⟨0, Nat.le_refl _, okW_0.1, fun s hs => by have := okW_0.2 s hs; exact this⟩
  | i + 1, hi => by
    obtain ⟨a, ha, ok⟩ := roW_ok hv hl i (by omega)
    obtain ⟨t, ht⟩ : ∃ t, ts[i]? = some t := ⟨_, List.getElem?_eq_getElem (by omega)⟩
    unfold roW suL
    rw [ht]
    simp only []
    by_cases e : l.getD i 0 = 0
    · rw [if_pos e, e]; exact ⟨a, by omega, ok⟩
    · rw [if_neg e]
      exact ⟨a + 1, by omega, ok.step (hv t (List.mem_of_getElem? ht)) (hl i)⟩
theorem suL_mono {l : List Nat} {i : Nat} : ∀ d : Nat, suL l i ≤ suL l (i + d)
  | 0 => Nat.le_refl _
  | d + 1 => by
    have := suL_mono (l := l) (i := i) d
    show _ ≤ suL l (i + d) + l.getD (i + d) 0
    omega
theorem m_waysW {post : Int64 → MS → Prop} {S : MS} {w : Int → Int} {n : Int} (hz : sup w) (hr : rowW (S.2.2.2 22) 0 w) (hn : -100000 ≤ n ∧ n ≤ 100000) (h : post (lI (w (n + 15000))) S) : wX1_waysOf post S (iI n) := by
  unfold wX1_waysOf
  simp (disch := omega) only [iLit, lLit, iI_add, iI_sub, iI_mul, iI_neg, lI_add, lI_sub, lI_mul, lI_neg, nI_i, lI_i, iI_l]
  exact m_at (i := 0) (by omega) (by omega) hr hz h
theorem m_lr_40 {K7 : Int32 → Int32 → Int32 → MS → Prop} {post : Unit → MS → Prop} {S : MS} {F : Nat → List tm} {s i a b c : Nat} {t : tm} {w : Int → Int} {x2 : Int32} (hF : mForms S F) (hs : s < 4) (hi : i < 5) (ht : (F s)[i]? = some t) (hw : ok2 a b w) (hc : 1 ≤ c ∧ c ≤ 5) (hb : b + c ≤ 5)
    (h : ∀ g : Nat → Int64, rowW g 0 (tOp t (c : Nat) w) → K7 (iI s) x2 (iI ((i + 1 : Nat) : Int)) (mB S 22 g)) : ∀ (m q : Nat) (g : Nat → Int64), q + m = 30001 → rowW g 0 w → (∀ z : Nat, z < q → g (30001 + z) = g z) → wX1_laysRounds_40 K7 post (m + 1) (iI s) x2 (iI i) (iI (c : Nat)) (iI q) (mB S 22 g) := by
  obtain ⟨f1, f2, f3, f4⟩ := (hF s hs).2.2 i t ht
  have hvt := (hF s hs).2.1.2 t (List.mem_of_getElem? ht)
  have hlo := hvt.lo
  have b1 := hvt.1
  have b2 := hvt.2.1
  intro m
  induction m with
  | zero =>
    intro q g hq h1 h2
    unfold wX1_laysRounds_40
    refine b_t (by simp (disch := omega) only [iLit, lLit, iI_add, iI_sub, iI_mul, iI_neg, lI_add, lI_sub, lI_mul, lI_neg, nI_i, lI_i, iI_l, iI_nat, iI_lt, iI_le, iI_eq, lI_lt, lI_le, lI_eq] <;> omega) ?_
    refine m_of (k := 0) (by omega) (by omega) (by omega) (m_of (k := 1) (by omega) (by omega) (by omega) (m_of (k := 2) (by omega) (by omega) (by omega) (m_of (k := 3) (by omega) (by omega) (by omega) ?_)))
    show wX1_laysLayer _ (mB S 22 g) (iI 0) (iI 1) (iI (c : Nat) * S.2.2.1 1 (4 * (5 * s + i))) (S.2.2.1 1 (4 * (5 * s + i) + 1)) (S.2.2.1 1 (4 * (5 * s + i) + 2)) (S.2.2.1 1 (4 * (5 * s + i) + 3))
    rw [f1, f2, f3, f4, iI_mul]
    have hw1 := hw.step hvt hc.2
    have ml : (c : Int) * t.1 ≤ 5 * 99 := mul_mono (by omega) (by omega) (by omega) (by omega)
    have ml2 : 1 * 1 ≤ (c : Int) * t.1 := mul_mono (by omega) (by omega) (by omega) (by omega)
    refine m_layer (i := 0) (j := 1) (w := w) (by omega) (by omega) (by omega) ⟨by omega, by omega⟩ ⟨hvt.2.2.1, hvt.2.2.2.1⟩ (by omega) (by omega) (by omega) (fun z z1 z2 => ?_) (hw.sup (by omega)) (fun z hz => ?_) (fun g' a b => ?_)
    · rw [mB_at, show 30001 * 1 + z.toNat = 30001 + z.toNat by omega, h2 _ (by omega)]
      have := h1 z z1 z2
      rw [show 30001 * 0 + z.toNat = z.toNat by omega] at this
      exact this
    · rw [Ly_op]; exact hw1.sup (by omega) z (by omega)
    · rw [mB_mB]
      rw [Ly_op] at a
      unfold wX1_laysRounds_109
      rw [show iI (i : Int) + 1 = iI ((i + 1 : Nat) : Int) from iI_add i 1]
      exact h g' a
  | succ m ih =>
    intro q g hq h1 h2
    unfold wX1_laysRounds_40
    refine b_f (by simp (disch := omega) only [iLit, lLit, iI_add, iI_sub, iI_mul, iI_neg, lI_add, lI_sub, lI_mul, lI_neg, nI_i, lI_i, iI_l, iI_nat, iI_lt, iI_le, iI_eq, lI_lt, lI_le, lI_eq] <;> omega) ⟨iI_in (by omega) (by omega) (by omega), ?_⟩
    simp (disch := omega) only [iLit, lLit, iI_add, iI_sub, iI_mul, iI_neg, lI_add, lI_sub, lI_mul, lI_neg, nI_i, lI_i, iI_nat, mB_at, mB_mB]
    refine ⟨iI_in (by omega) (by omega) (by omega), ?_⟩
    rw [show (30001 + (q : Int)).toNat = 30001 + q by omega, show ((q : Int)).toNat = q by omega]
    refine ih (q + 1) _ (by omega) (fun z z1 z2 => ?_) (fun z hz => ?_)
    · unfold vp_updL
      rw [if_neg (by omega)]; exact h1 z z1 z2
    · unfold vp_updL
      by_cases e : z = q
      · rw [if_pos (by omega), if_neg (by omega), e]
      · rw [if_neg (by omega), if_neg (by omega)]; exact h2 z (by omega)
theorem m_lr_7 {post : Unit → MS → Prop} {S : MS} {F : Nat → List tm} {s k : Nat} {l : List Nat} (hF : mForms S F) (hs : s < 4) (hk : k < 120) (hl : ∀ j, j < 5 → S.2.2.1 27 (5 * k + j) = iI (l.getD j 0 : Nat)) (hl5 : ∀ j, l.getD j 0 ≤ 5) (hsu : suL l 5 ≤ 5) (h : ∀ g : Nat → Int64, rowW g 0 (roW (F s) l (F s).length) → post () (mB S 22 g)) : ∀ (m i : Nat) (g : Nat → Int64), i + m = (F s).length → rowW g 0 (roW (F s) l i) → wX1_laysRounds_7 post (m + 1) (iI s) (iI k) (iI i) (mB S 22 g) := by
  obtain ⟨e0, hv, -⟩ := hF s hs
  have h5 := hv.1
  intro m
  induction m with
  | zero =>
    intro i g hi hr
    unfold wX1_laysRounds_7
    refine ⟨iI_in (by omega) (by omega) (by omega), b_t ?_ ?_⟩
    · rw [nat_i (by omega)]
      show S.2.2.1 0 s ≤ _
      rw [e0, iI_le (by omega) (by omega) (by omega) (by omega)]; omega
    · rw [show i = (F s).length by omega] at hr
      exact h g hr
  | succ m ih =>
    intro i g hi hr
    obtain ⟨t, ht⟩ : ∃ t, (F s)[i]? = some t := ⟨_, List.getElem?_eq_getElem (by omega)⟩
    unfold wX1_laysRounds_7
    refine ⟨iI_in (by omega) (by omega) (by omega), b_f ?_ ?_⟩
    · rw [nat_i (by omega)]
      show ¬ S.2.2.1 0 s ≤ _
      rw [e0, iI_le (by omega) (by omega) (by omega) (by omega)]; omega
    · simp (disch := omega) only [iLit, lLit, iI_add, iI_sub, iI_mul, iI_neg, lI_add, lI_sub, lI_mul, lI_neg, nI_i, lI_i, iI_nat]
      rw [show (5 * (k : Int) + (i : Int)).toNat = 5 * k + i by omega, show (mB S 22 g).2.2.1 27 (5 * k + i) = S.2.2.1 27 (5 * k + i) from rfl, hl i (by omega)]
      refine ⟨iI_in (by omega) (by omega) (by omega), ?_⟩
      have hli := hl5 i
      rw [iI_eq (by omega) (by omega) (by omega) (by omega)]
      have er : roW (F s) l (i + 1) = if l.getD i 0 = 0 then roW (F s) l i else tOp t (l.getD i 0 : Nat) (roW (F s) l i) := by
        rw [roW, ht]
      refine ⟨fun e => ?_, fun e => ⟨30002, ?_⟩⟩
      · unfold wX1_laysRounds_109
        simp only [iLit, lLit, iI_add, iI_sub, iI_mul, iI_neg, lI_add, lI_sub, lI_mul, lI_neg, nI_i, lI_i]
        rw [if_pos (by omega)] at er
        exact ih (i + 1) g (by omega) (by rw [er]; exact hr)
      · rw [if_neg (by omega)] at er
        obtain ⟨a, ha, ok⟩ := roW_ok (l := l) hv.2 hl5 i (by omega)
        have hsu2 : suL l (i + 1) ≤ 5 := by
          have := suL_mono (l := l) (i := i + 1) (5 - (i + 1))
          rw [show i + 1 + (5 - (i + 1)) = 5 by omega] at this
          omega
        refine m_lr_40 hF hs (by omega) ht ok (by omega) hsu2 (fun g' hr' => ?_) 30001 0 g (by omega) hr (fun z hz => by omega)
        exact ih (i + 1) g' (by omega) (by rw [er]; exact hr')
theorem m_laysRounds {post : Unit → MS → Prop} {S : MS} {F : Nat → List tm} {s k : Nat} {l : List Nat} (hF : mForms S F) (hs : s < 4) (hk : k < 120) (hl : ∀ j, j < 5 → S.2.2.1 27 (5 * k + j) = iI (l.getD j 0 : Nat)) (hl5 : ∀ j, l.getD j 0 ≤ 5) (hsu : suL l 5 ≤ 5) (h : ∀ g : Nat → Int64, rowW g 0 (roW (F s) l (F s).length) → post () (mB S 22 g)) : wX1_laysRounds post S (iI s) (iI k) := by
  unfold wX1_laysRounds
  refine m_nought (n := 0) (by omega) (fun g hg _ => ⟨(F s).length + 1, ?_⟩)
  exact m_lr_7 hF hs hk hl hl5 hsu h _ 0 g (by omega) hg
/-- so much of kinds of turnings: the sum of their ways -/
def acK (ts : List tm) : tks → Int → Int
  | [], _ => 0
  | x :: r, z => acK ts r z + (x.2 : Int) * roW ts x.1 ts.length z
theorem acK_ev {ts : List tm} (z : Int) : ∀ ks : tks, acK ts ks z = eP (opT ts) (lhP (pat ts) ks) w0R z
  | [] => rfl
  | x :: r => by
    show acK ts r z + (x.2 : Int) * roW ts x.1 ts.length z = (x.2 : Int) * eM (opT ts) (moK (pat ts) x.1 (pat ts).length) w0R z + eP (opT ts) (lhP (pat ts) r) w0R z
    rw [acK_ev z r, roW_ev _ (Nat.le_refl _), pat_len]; omega
theorem acK_app (ts : List tm) (z : Int) (x : List Nat × Nat) : ∀ A : tks, acK ts (A ++ [x]) z = acK ts A z + (x.2 : Int) * roW ts x.1 ts.length z
  | [] => rfl
  | a :: A => by
    show acK ts (A ++ [x]) z + _ = acK ts A z + _ + _
    rw [acK_app ts z x A]; omega
theorem smK_app (x : List Nat × Nat) : ∀ A : tks, smK (A ++ [x]) = smK A + x.2
  | [] => by show 0 + x.2 = 0 + x.2; rfl
  | a :: A => by
    show smK (A ++ [x]) + a.2 = smK A + a.2 + x.2
    rw [smK_app x A]; omega
/-- what laying unlike ways may change -/
def ulEq (S S' : MS) : Prop := S'.2.1 = S.2.1 ∧ (∀ k, k ≠ 21 → k ≠ 23 → k ≠ 29 → S'.1 k = S.1 k) ∧ (∀ k, k ≠ 25 → k ≠ 26 → k ≠ 27 → S'.2.2.1 k = S.2.2.1 k) ∧ ∀ k, k ≠ 22 → k ≠ 24 → k ≠ 28 → S'.2.2.2 k = S.2.2.2 k
theorem ulEq.refl (S : MS) : ulEq S S := ⟨rfl, fun _ _ _ _ => rfl, fun _ _ _ _ => rfl, fun _ _ _ _ => rfl⟩
theorem ulEq.trans {S S' S'' : MS} (h : ulEq S S') (g : ulEq S' S'') : ulEq S S'' := ⟨g.1.trans h.1, fun k a b c => (g.2.1 k a b c).trans (h.2.1 k a b c), fun k a b c => (g.2.2.1 k a b c).trans (h.2.2.1 k a b c), fun k a b c => (g.2.2.2 k a b c).trans (h.2.2.2 k a b c)⟩
theorem tuEq.ul {S S' : MS} (h : tuEq S S') : ulEq S S' := ⟨h.1, fun k _ _ c => h.2.1 k c, h.2.2.1, fun k _ _ c => h.2.2.2 k c⟩
theorem ulEq.B {S : MS} {k : Nat} (hk : k = 22 ∨ k = 24 ∨ k = 28) (f : Nat → Int64) : ulEq S (mB S k f) := ⟨rfl, fun _ _ _ _ => rfl, fun _ _ _ _ => rfl, fun j a b c => up_ne _ _ _ (by omega)⟩
theorem ulEq.I {S : MS} {k : Nat} (hk : k = 21 ∨ k = 23 ∨ k = 29) (v : Int32) : ulEq S (mI S k v) := ⟨rfl, fun j a b c => up_ne _ _ _ (by omega), fun _ _ _ _ => rfl, fun _ _ _ _ => rfl⟩
theorem ulEq.forms {S S' : MS} {F : Nat → List tm} (h : ulEq S S') (hF : mForms S F) : mForms S' F := by
  intro s hs
  rw [h.2.2.1 0 (by omega) (by omega) (by omega), h.2.2.1 1 (by omega) (by omega) (by omega)]
  exact hF s hs
/-- the row of unlike ways -/
def rowU (g : Nat → Int64) (w : Int → Int) : Prop := ∀ k : Nat, k < 6001 → g k = lI (w ((k : Int) + 12000))
theorem m_ul_161 {post : Unit → MS → Prop} {S : MS} {a : Int} {w : Int → Int} (ha : 1 ≤ a ∧ a ≤ 120) (hw : ∀ z, 0 ≤ w z ∧ w z ≤ 6000000000000000) (h : ∀ g, rowU g w → post () (mB S 24 g)) : ∀ (m k : Nat) (g : Nat → Int64), k + m = 6001 → (∀ j, j < k → g j = lI (w ((j : Int) + 12000))) → (∀ j, k ≤ j → j < 6001 → g j = lI (a * w ((j : Int) + 12000))) → wX1_laysUnlike_161 post (m + 1) (lI a) (iI k) (mB S 24 g) := by
  intro m
  induction m with
  | zero =>
    intro k g hk h1 h2
    unfold wX1_laysUnlike_161
    exact b_t (by simp (disch := omega) only [iLit, lLit, iI_add, iI_sub, iI_mul, iI_neg, lI_add, lI_sub, lI_mul, lI_neg, nI_i, lI_i, iI_l, iI_nat, iI_lt, iI_le, iI_eq, lI_lt, lI_le, lI_eq] <;> omega) (h g (fun j hj => h1 j (by omega)))
  | succ m ih =>
    intro k g hk h1 h2
    unfold wX1_laysUnlike_161
    refine b_f (by simp (disch := omega) only [iLit, lLit, iI_add, iI_sub, iI_mul, iI_neg, lI_add, lI_sub, lI_mul, lI_neg, nI_i, lI_i, iI_l, iI_nat, iI_lt, iI_le, iI_eq, lI_lt, lI_le, lI_eq] <;> omega) ⟨iI_in (by omega) (by omega) (by omega), ?_, iI_in (by omega) (by omega) (by omega), ?_⟩
    · rw [show (0 : Int64) = lI 0 from rfl, lI_eq (by omega) (by omega) (by omega) (by omega)]; omega
    · have hwk := hw ((k : Int) + 12000)
      have hb : a * w ((k : Int) + 12000) ≤ 120 * 6000000000000000 := mul_mono (by omega) ha.2 hwk.1 hwk.2
      have hb0 : 0 ≤ a * w ((k : Int) + 12000) := Int.mul_nonneg (by omega) hwk.1
      rw [nat_i (by omega), mB_at, mB_mB, h2 k (by omega) (by omega), div64 (by omega) (by omega), show iI (k : Int) + 1 = iI ((k + 1 : Nat) : Int) from iI_add k 1]
      rw [Int.mul_comm a, Int.mul_tdiv_cancel _ (by omega)]
      refine ih (k + 1) _ (by omega) (fun j hj => ?_) (fun j hj1 hj2 => ?_)
      · by_cases e : j = k
        · rw [e, updL_eq]
        · rw [updL_ne _ _ _ e]; exact h1 j (by omega)
      · rw [updL_ne _ _ _ (by omega)]; exact h2 j (by omega) hj2
theorem m_ul_110 {K79 : Int32 → Int64 → Int32 → MS → Prop} {post : Unit → MS → Prop} {S : MS} {x1 : Int32} {x2 : Int64} {k : Nat} {o : Int} {w acc : Int → Int} (hk : k < 120) (hz : sup w) (hr : rowW (S.2.2.2 22) 0 w) (ho : S.2.2.2 28 k = lI o) (h : ∀ g, rowU g (fun z => acc z + o * w z) → K79 x1 x2 (iI ((k + 1 : Nat) : Int)) (mB S 24 g)) : ∀ (m q : Nat) (g : Nat → Int64), q + m = 6001 → (∀ j, j < q → g j = lI (acc ((j : Int) + 12000) + o * w ((j : Int) + 12000))) → (∀ j, q ≤ j → j < 6001 → g j = lI (acc ((j : Int) + 12000))) → wX1_laysUnlike_110 K79 post (m + 1) x1 x2 (iI k) (iI ((q : Int) - 3000)) (mB S 24 g) := by
  intro m
  induction m with
  | zero =>
    intro q g hq h1 h2
    unfold wX1_laysUnlike_110
    refine b_t (by simp (disch := omega) only [iLit, lLit, iI_add, iI_sub, iI_mul, iI_neg, lI_add, lI_sub, lI_mul, lI_neg, nI_i, lI_i, iI_l, iI_nat, iI_lt, iI_le, iI_eq, lI_lt, lI_le, lI_eq] <;> omega) ?_
    rw [show iI (k : Int) + 1 = iI ((k + 1 : Nat) : Int) from iI_add k 1]
    exact h g (fun j hj => h1 j (by omega))
  | succ m ih =>
    intro q g hq h1 h2
    have e1 : iI ((q : Int) - 3000) + (3000 : Int32) = iI (q : Int) := by
      rw [show (3000 : Int32) = iI 3000 from rfl, iI_add]; congr 1; omega
    unfold wX1_laysUnlike_110
    rw [e1]
    refine b_f (by simp (disch := omega) only [iLit, lLit, iI_add, iI_sub, iI_mul, iI_neg, lI_add, lI_sub, lI_mul, lI_neg, nI_i, lI_i, iI_l, iI_nat, iI_lt, iI_le, iI_eq, lI_lt, lI_le, lI_eq] <;> omega) ⟨iI_in (by omega) (by omega) (by omega), iI_in (by omega) (by omega) (by omega), ?_⟩
    refine m_waysW (S := mB S 24 g) hz hr (by omega) ⟨iI_in (by omega) (by omega) (by omega), ?_⟩
    rw [nat_i (by omega), nat_i (by omega), mB_at, mB_mB, show (mB S 24 g).2.2.2 28 k = S.2.2.2 28 k from rfl, ho, h2 q (by omega) (by omega), show (q : Int) - 3000 + 15000 = (q : Int) + 12000 by omega, lI_mul, lI_add]
    have e2 : iI ((q : Int) - 3000) + 1 = iI (((q + 1 : Nat) : Int) - 3000) := by
      rw [show (1 : Int32) = iI 1 from rfl, iI_add]; congr 1; omega
    rw [e2]
    refine ih (q + 1) _ (by omega) (fun j hj => ?_) (fun j hj1 hj2 => ?_)
    · by_cases e : j = q
      · rw [e, updL_eq]
      · rw [updL_ne _ _ _ e]; exact h1 j (by omega)
    · rw [updL_ne _ _ _ (by omega)]; exact h2 j (by omega) hj2
theorem m_ul_79 {post : Unit → MS → Prop} {F : Nat → List tm} {s : Nat} (hs : s < 4) (hv : vF (F s)) (hne : F s ≠ []) {ks : tks} (hks : ptK (pat (F s)) = some ks) {S0 : MS} (h : ∀ S', ulEq S0 S' → S'.1 21 = S0.1 21 → S'.1 23 = S0.1 23 → rowU (S'.2.2.2 24) (unW (F s) w0R (F s).length) → post () S') : ∀ (B A : tks) (S : MS), ks = A ++ B → ulEq S0 S → S.1 21 = S0.1 21 → S.1 23 = S0.1 23 → mForms S F → mKs S ks → rowU (S.2.2.2 24) (acK (F s) A) → wX1_laysUnlike_79 post (B.length + 1) (iI s) (lI (smK A : Nat)) (iI (A.length : Nat)) S
  | [], A, S, he, hu, h21, h23, hF, hK, hR => by
    rw [List.append_nil] at he
    subst he
    obtain ⟨ks', p1, p2, p3, p4, p5, p6, -, -⟩ := pat_ok hne hv.1
    rw [hks] at p1
    cases p1
    obtain ⟨k1, k2, -, -⟩ := hK
    unfold wX1_laysUnlike_79
    refine b_t (by rw [k2, iI_le (by omega) (by omega) (by omega) (by omega)]; omega) ⟨6002, ?_⟩
    have hid : ∀ z, acK (F s) ks z = (gP (pat (F s)) (F s).length : Int) * unW (F s) w0R (F s).length z := fun z => by
      rw [acK_ev, ← eP_nf (opT_ok _), p6, eP_nf (opT_ok _), rhP_ev hv.1 w0R _ (Nat.le_refl _)]
    have hun : ∀ z, 0 ≤ unW (F s) w0R (F s).length z ∧ unW (F s) w0R (F s).length z ≤ 6000000000000000 := fun z => by
      have := unS_in hv hne (z - 15000)
      unfold unS at this
      rw [show z - 15000 + 15000 = z by omega] at this
      exact this
    rw [p3]
    have := m_ul_161 (post := post) (S := S) (a := (gP (pat (F s)) (F s).length : Nat)) (w := unW (F s) w0R (F s).length) (by omega) hun (fun g hg => h _ (hu.trans (ulEq.B (by omega) g)) h21 h23 (by rw [mB_at]; exact hg)) 6001 0 (S.2.2.2 24) (by omega) (fun j hj => by omega) (fun j _ hj => by rw [hR j hj, hid])
    rw [mB_id] at this
    exact this
  | x :: B, A, S, he, hu, h21, h23, hF, hK, hR => by
    obtain ⟨ks', p1, p2, p3, p4, p5, p6, p7, -⟩ := pat_ok hne hv.1
    rw [hks] at p1
    cases p1
    have hx : ks[A.length]? = some x := by rw [he, List.getElem?_append_right (Nat.le_refl _), Nat.sub_self]; rfl
    have hlt : A.length < ks.length := (List.getElem?_eq_some_iff.mp hx).1
    have hKK := hK
    obtain ⟨k1, k2, k3, k4⟩ := hK
    obtain ⟨x1, x2, x3⟩ := k3 _ x hx
    obtain ⟨y1, y2, y3⟩ := p7 x (List.mem_of_getElem? hx)
    have hl5 : ∀ j, x.1.getD j 0 ≤ 5 := fun j => by
      rw [List.getD_eq_getElem?_getD]
      cases hj : x.1[j]? with
      | none => exact Nat.zero_le _
      | some v => exact y2 v (List.mem_of_getElem? hj)
    obtain ⟨a, ha, ok⟩ := roW_ok (l := x.1) hv.2 hl5 (F s).length (Nat.le_refl _)
    have hsu : suL x.1 (F s).length ≤ 5 := by
      have := suL_mono (l := x.1) (i := (F s).length) (5 - (F s).length)
      have := hv.1
      rw [show (F s).length + (5 - (F s).length) = 5 by omega] at *
      omega
    unfold wX1_laysUnlike_79
    refine b_f (by rw [k2, iI_le (by omega) (by omega) (by omega) (by omega)]; omega) ?_
    refine m_laysRounds hF hs (by omega) (fun j hj => (x2 j hj).1) hl5 y3 (fun g hg => ⟨iI_in (by omega) (by omega) (by omega), 6002, ?_⟩)
    rw [nat_i (by omega), show (mB S 22 g).2.2.2 28 A.length = S.2.2.2 28 A.length from rfl, x3, lI_add]
    have := m_ul_110 (K79 := fun x1 x2 x4 S => wX1_laysUnlike_79 post (B.length + 1) x1 x2 x4 S) (post := post) (S := mB S 22 g) (x1 := iI s) (x2 := lI ((smK A : Nat) + (x.2 : Nat) : Int)) (k := A.length) (o := (x.2 : Nat)) (w := roW (F s) x.1 (F s).length) (acc := acK (F s) A) (by omega) (ok.sup hsu) (by rw [mB_at]; exact hg) x3 (fun g2 hg2 => ?_) 6001 0 (S.2.2.2 24) (by omega) (fun j hj => by omega) (fun j _ hj => hR j hj)
    · have e2 : mB (mB S 22 g) 24 (S.2.2.2 24) = mB S 22 g := mB_id (mB S 22 g) 24
      rw [e2] at this
      exact this
    · have := m_ul_79 hs hv hne hks h B (A ++ [x]) (mB (mB S 22 g) 24 g2) (by rw [he, List.append_assoc]; rfl) ((hu.trans (ulEq.B (by omega) g)).trans (ulEq.B (by omega) g2)) h21 h23 (((ulEq.B (S := S) (k := 22) (by omega) g).trans (ulEq.B (by omega) g2)).forms hF) hKK (by
        rw [mB_at]
        intro j hj
        rw [hg2 j hj, acK_app])
      rw [len1, smK_app, Int.natCast_add] at this
      exact this
/-- unlike ways are laid: none, or those of a slot's form -/
def mUnl (S : MS) (F : Nat → List tm) : Prop := S.1 23 = iI (-1) ∨ ∃ s : Nat, s < 4 ∧ S.1 23 = iI s ∧ F s ≠ [] ∧ rowU (S.2.2.2 24) (unW (F s) w0R (F s).length)
theorem m_laysUnlike {post : Unit → MS → Prop} {S : MS} {F : Nat → List tm} {s : Nat} (hF : mForms S F) (hL : mLaid S F) (hU : mUnl S F) (hs : s < 4) (hne : F s ≠ []) (h : ∀ S', ulEq S S' → mLaid S' F → mUnl S' F → rowU (S'.2.2.2 24) (unW (F s) w0R (F s).length) → post () S') : wX1_laysUnlike post S (iI s) := by
  obtain ⟨e0, hv, hf⟩ := hF s hs
  have hl5 := hv.1
  unfold wX1_laysUnlike
  by_cases hl : S.1 23 = iI s
  · refine b_t hl ?_
    rcases hU with hU | ⟨s', hs', e', hn', hr⟩
    · rw [hU] at hl
      simp (disch := omega) only [iI_eq] at hl
      omega
    · have : s' = s := by
        rw [e'] at hl
        simp (disch := omega) only [iI_eq] at hl
        omega
      subst this
      exact h S (ulEq.refl S) hL (Or.inr ⟨s', hs', e', hn', hr⟩) hr
  · refine b_f hl ⟨6002, ?_⟩
    obtain ⟨ks, p1, p2, -⟩ := pat_ok hne hl5
    have l1 : ∀ (m k : Nat) (g : Nat → Int64), k + m = 6001 → (∀ j, j < k → g j = lI 0) → wX1_laysUnlike_21 post (m + 1) (iI s) (iI k) (mB (mI (mI S 23 (iI s)) 21 (iI (-1))) 24 g) := by
      intro m
      induction m with
      | zero =>
        intro k g hk h1
        unfold wX1_laysUnlike_21
        refine b_t (by simp (disch := omega) only [iLit, lLit, iI_add, iI_sub, iI_mul, iI_neg, lI_add, lI_sub, lI_mul, lI_neg, nI_i, lI_i, iI_l, iI_nat, iI_lt, iI_le, iI_eq, lI_lt, lI_le, lI_eq] <;> omega) ⟨9, ?_⟩
        have l2 : ∀ (m k : Nat) (g2 : Nat → Int64), k + m = 8 → (∀ j, j < k → g2 j = lI 0) → wX1_laysUnlike_43 post (m + 1) (iI s) (iI k) (mB (mB (mI (mI S 23 (iI s)) 21 (iI (-1))) 24 g) 28 g2) := by
          intro m
          induction m with
          | zero =>
            intro k g2 hk h2
            unfold wX1_laysUnlike_43
            refine b_t (by simp (disch := omega) only [iLit, lLit, iI_add, iI_sub, iI_mul, iI_neg, lI_add, lI_sub, lI_mul, lI_neg, nI_i, lI_i, iI_l, iI_nat, iI_lt, iI_le, iI_eq, lI_lt, lI_le, lI_eq] <;> omega) ?_
            have u1 : ulEq S (mI (mB (mB (mI (mI S 23 (iI s)) 21 (iI (-1))) 24 g) 28 g2) 29 (0 : Int32)) := (((ulEq.I (by omega) _).trans (ulEq.I (by omega) _)).trans ((ulEq.B (by omega) g).trans (ulEq.B (by omega) g2))).trans (ulEq.I (by omega) _)
            refine m_turns (F := F) hs 6 0 0 (fun _ => 0) [] ks _ _ (by have := p1; unfold ptK at this; rw [pat_len] at this; exact this) (by omega) (by omega) (u1.forms hF) (fun j hj => by omega) ⟨by simp, mI_at _ _ _, fun k x hx => by simp at hx, fun k hk1 hk2 => ?_⟩ (fun S' t1 _ k1 => ⟨ks.length + 1, ?_⟩)
            · show (mB (mB (mI (mI S 23 (iI s)) 21 (iI (-1))) 24 g) 28 g2).2.2.2 28 k = _
              rw [mB_at]; exact h2 k (by omega)
            · have e21 : S'.1 21 = iI (-1) := by rw [t1.2.1 21 (by omega)]; exact mI_at (mI S 23 (iI s)) 21 (iI (-1))
              have e23 : S'.1 23 = iI s := by rw [t1.2.1 23 (by omega)]; exact mI_at S 23 (iI s)
              have e24 : S'.2.2.2 24 = g := by rw [t1.2.2.2 24 (by omega)]; exact mB_at (mI (mI S 23 (iI s)) 21 (iI (-1))) 24 g
              have u2 := u1.trans t1.ul
              refine m_ul_79 hs hv hne p1 (S0 := S') (fun S'' u3 q1 q2 q3 => h S'' (u2.trans u3) (Or.inl (by rw [q1]; exact e21)) (Or.inr ⟨s, hs, by rw [q2]; exact e23, hne, q3⟩) q3) ks [] S' rfl (ulEq.refl _) rfl rfl (u2.forms hF) k1 (fun j hj => ?_)
              rw [e24, h1 j (by omega)]
              rfl
          | succ m ih =>
            intro k g2 hk h2
            unfold wX1_laysUnlike_43
            refine b_f (by simp (disch := omega) only [iLit, lLit, iI_add, iI_sub, iI_mul, iI_neg, lI_add, lI_sub, lI_mul, lI_neg, nI_i, lI_i, iI_l, iI_nat, iI_lt, iI_le, iI_eq, lI_lt, lI_le, lI_eq] <;> omega) ⟨iI_in (by omega) (by omega) (by omega), ?_⟩
            rw [nat_i (by omega), mB_at, mB_mB, show iI (k : Int) + 1 = iI ((k + 1 : Nat) : Int) from iI_add k 1]
            refine ih (k + 1) _ (by omega) (fun j hj => ?_)
            by_cases e : j = k
            · rw [e, updL_eq]; rfl
            · rw [updL_ne _ _ _ e]; exact h2 j (by omega)
        have := l2 8 0 ((mB (mI (mI S 23 (iI s)) 21 (iI (-1))) 24 g).2.2.2 28) (by omega) (fun j hj => by omega)
        rw [mB_id] at this
        exact this
      | succ m ih =>
        intro k g hk h1
        unfold wX1_laysUnlike_21
        refine b_f (by simp (disch := omega) only [iLit, lLit, iI_add, iI_sub, iI_mul, iI_neg, lI_add, lI_sub, lI_mul, lI_neg, nI_i, lI_i, iI_l, iI_nat, iI_lt, iI_le, iI_eq, lI_lt, lI_le, lI_eq] <;> omega) ⟨iI_in (by omega) (by omega) (by omega), ?_⟩
        rw [nat_i (by omega), mB_at, mB_mB, show iI (k : Int) + 1 = iI ((k + 1 : Nat) : Int) from iI_add k 1]
        refine ih (k + 1) _ (by omega) (fun j hj => ?_)
        by_cases e : j = k
        · rw [e, updL_eq]; rfl
        · rw [updL_ne _ _ _ e]; exact h1 j (by omega)
    have := l1 6001 0 ((mI (mI S 23 (iI s)) 21 (iI (-1))).2.2.2 24) (by omega) (fun j hj => by omega)
    rw [mB_id] at this
    exact this
theorem rowU.at {g : Nat → Int64} {ts : List tm} (h : rowU g (unW ts w0R ts.length)) {n : Int} (h1 : -3000 ≤ n) (h2 : n ≤ 3000) : g (n + 3000).toNat = lI (unS ts n) := by
  rw [h (n + 3000).toNat (by omega)]
  unfold unS
  rw [show (((n + 3000).toNat : Nat) : Int) + 12000 = n + 15000 by omega]
theorem m_unlike {post : Int64 → MS → Prop} {S : MS} {F : Nat → List tm} {a n : Int} (hF : mForms S F) (hL : mLaid S F) (hU : mUnl S F) (ha : i32 a) (hn : i32 n)
    (h0 : ¬ (0 ≤ a ∧ a ≤ 3 ∧ F a.toNat ≠ [] ∧ -3000 ≤ n ∧ n ≤ 3000) → post (lI (-1)) S) (h1 : ∀ (s : Nat) (S' : MS), s < 4 → a = s → F s ≠ [] → -3000 ≤ n → n ≤ 3000 → ulEq S S' → mLaid S' F → mUnl S' F → post (lI (unS (F s) n)) S') : wX1_unlike post S (iI a) (iI n) := by
  unfold wX1_unlike
  refine m_isForm hF ha (fun s hs e hne => b_f (by decide) ?_) (fun hc => b_t rfl (h0 (fun z => hc ⟨z.1, z.2.1, z.2.2.1⟩)))
  refine m_isN hn (fun n1 n2 => b_f (by decide) ?_) (fun hc => b_t rfl (h0 (fun z => hc z.2.2.2)))
  subst e
  refine m_laysUnlike hF hL hU hs hne (fun S' u1 u2 u3 u4 => ?_)
  simp (disch := omega) only [iLit, lLit, iI_add, iI_sub, iI_mul, iI_neg, lI_add, lI_sub, lI_mul, lI_neg, nI_i, lI_i, iI_nat]
  refine ⟨iI_in (by omega) (by omega) (by omega), ?_⟩
  rw [u4.at n1 n2]
  exact h1 s S' hs rfl hne n1 n2 u1 u2 u3
def manR (u : Int → Int) (k : Int) (ex : Bool) : Nat → Int → Int
  | 0, _ => -100000
  | m + 1, n => if (if ex then u n = k else k ≤ u n) then n else manR u k ex m (n + 1)
theorem m_many_39 {post : Int32 → MS → Prop} {S : MS} {ts : List tm} {k : Int} {x4 : Int32} {ex : Bool} (hv : vF ts) (hne : ts ≠ []) (hr : rowU (S.2.2.2 24) (unW ts w0R ts.length)) (hk : 1 ≤ k ∧ k ≤ 1000000) (hx : (x4 = 0 ∧ ex = false) ∨ (x4 ≠ 0 ∧ ex = true)) : ∀ (m : Nat) (n : Int), n + m = 3001 → -3000 ≤ n → post (iI (manR (unS ts) k ex m n)) S → wX1_many_39 post (m + 1) (iI k) x4 (iI n) S := by
  intro m
  induction m with
  | zero =>
    intro n hn hn0 h
    unfold wX1_many_39
    exact b_t (by simp (disch := omega) only [iLit, lLit, iI_add, iI_sub, iI_mul, iI_neg, lI_add, lI_sub, lI_mul, lI_neg, nI_i, lI_i, iI_l, iI_nat, iI_lt, iI_le, iI_eq, lI_lt, lI_le, lI_eq] <;> omega) h
  | succ m ih =>
    intro n hn hn0 h
    unfold wX1_many_39
    refine b_f (by simp (disch := omega) only [iLit, lLit, iI_add, iI_sub, iI_mul, iI_neg, lI_add, lI_sub, lI_mul, lI_neg, nI_i, lI_i, iI_l, iI_nat, iI_lt, iI_le, iI_eq, lI_lt, lI_le, lI_eq] <;> omega) ?_
    have e1 : iI n + (3000 : Int32) = iI (n + 3000) := iI_add n 3000
    rw [e1, iI_nat (by omega) (by omega), hr.at hn0 (by omega), iI_l (by omega) (by omega)]
    have hu := unS_in hv hne n
    rw [lI_lt (by omega) (by omega) (by omega) (by omega), lI_eq (by omega) (by omega) (by omega) (by omega)]
    unfold manR at h
    have nx : (¬ (if ex = true then unS ts n = k else k ≤ unS ts n)) → wX1_many_92 (fun x3 x4 x5 S => wX1_many_39 post (m + 1) x3 x4 x5 S) post (iI k) x4 (iI n) S := fun q => by
      rw [if_neg q] at h
      unfold wX1_many_92
      rw [show iI n + (1 : Int32) = iI (n + 1) from iI_add n 1]
      exact ih (n + 1) (by omega) (by omega) h
    rcases hx with ⟨q1, q2⟩ | ⟨q1, q2⟩
    · refine b_t q1 ⟨iI_in (by omega) (by omega) (by omega), fun e => nx ?_, fun e => ?_⟩
      · rw [q2, if_neg (by decide)]; omega
      · rw [if_pos (show (if ex = true then unS ts n = k else k ≤ unS ts n) by rw [q2, if_neg (by decide)]; omega)] at h
        exact h
    · refine b_f q1 ⟨iI_in (by omega) (by omega) (by omega), fun e => ?_, fun e => nx ?_⟩
      · rw [if_pos (show (if ex = true then unS ts n = k else k ≤ unS ts n) by rw [q2, if_pos rfl]; exact e)] at h
        exact h
      · rw [q2, if_pos rfl]; exact e
theorem m_many {post : Int32 → MS → Prop} {S : MS} {F : Nat → List tm} {a n k : Int} {x4 : Int32} {ex : Bool} (hF : mForms S F) (hL : mLaid S F) (hU : mUnl S F) (ha : i32 a) (hn : i32 n) (hk : i32 k) (hx : (x4 = 0 ∧ ex = false) ∨ (x4 ≠ 0 ∧ ex = true))
    (h0 : ¬ (0 ≤ a ∧ a ≤ 3 ∧ F a.toNat ≠ [] ∧ -3000 ≤ n ∧ n ≤ 3000 ∧ 1 ≤ k ∧ k ≤ 1000000) → post (iI (-100000)) S) (h1 : ∀ (s : Nat) (S' : MS), s < 4 → a = s → F s ≠ [] → -3000 ≤ n → n ≤ 3000 → 1 ≤ k → k ≤ 1000000 → ulEq S S' → mLaid S' F → mUnl S' F → post (iI (manR (unS (F s)) k ex (3001 - n).toNat n)) S') : wX1_many post S (iI a) (iI n) (iI k) x4 := by
  unfold wX1_many
  refine m_isForm hF ha (fun s hs e hne => b_f (by decide) ?_) (fun hc => b_t rfl (h0 (fun z => hc ⟨z.1, z.2.1, z.2.2.1⟩)))
  refine m_isN hn (fun n1 n2 => b_f (by decide) ?_) (fun hc => b_t rfl (h0 (fun z => hc (by omega))))
  rw [iI_l hk.1 hk.2]
  refine m_isIn (b := 1) (c := 1000000) (by omega) (by omega) (by omega) (fun k1 k2 => b_f (by decide) ?_) (fun hc => b_t rfl (h0 (fun z => hc (by omega))))
  subst e
  refine m_laysUnlike hF hL hU hs hne (fun S' u1 u2 u3 u4 => ⟨(3001 - n).toNat + 1, ?_⟩)
  exact m_many_39 (hF s hs).2.1 hne u4 ⟨k1, k2⟩ hx _ n (by omega) n1 (h1 s S' hs rfl hne n1 n2 k1 k2 u1 u2 u3)
