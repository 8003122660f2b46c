set_option maxRecDepth 100000
set_option maxHeartbeats 4000000
/-! the model evaluates a side: the loop -/
theorem nat_i {i : Nat} (h : i < 2147483648) : (iI (i : Int)).toNatClampNeg = i := by rw [iI_nat (by omega) (by omega)]; omega
/-- a pile that falls to one is not higher than what is left to do -/
theorem hgt_le : ∀ (X : List (Int × Int)) (h r : Nat), hgt X h = some r → h ≤ X.length + r
  | [], h, r, e => by cases e; simp
  | c :: X, h, r, e => by
    have e : (hg1 c h).bind (hgt X) = some r := e
    rw [List.length_cons]
    cases hc : hg1 c h with
    | none => rw [hc] at e; cases e
    | some h' =>
      rw [hc] at e
      have h1 := hgt_le X h' r e
      have h2 : h ≤ h' + 1 := by
        unfold hg1 at hc
        split at hc
        · cases hc; omega
        split at hc
        · split at hc
          · cases hc; omega
          · cases hc
        · split at hc
          · cases hc; omega
          · cases hc
      omega
theorem pI_one {o : Option (List Int)} {g : Nat → Int64} {x : Int32} {h : Nat} (hp : pI o g x h) (hh : 1 ≤ h) : ∃ x0, i64 x0 ∧ g (h - 1) = lI x0 ∧ ((∃ r, o = some (x0 :: r)) ∨ o = none) := by
  cases o with
  | none =>
    obtain ⟨z, hz, e⟩ := lI_of (g (h - 1))
    exact ⟨z, hz, e, Or.inr rfl⟩
  | some stk =>
    obtain ⟨h1, h2, h3⟩ := hp
    match stk, h2, h3 with
    | [], h2, _ => simp at h2; omega
    | a :: r, _, h3 =>
      have := h3 0 a rfl
      exact ⟨a, this.2, this.1, Or.inl ⟨r, rfl⟩⟩
theorem pI_two {o : Option (List Int)} {g : Nat → Int64} {x : Int32} {h : Nat} (hp : pI o g x h) (hh : 2 ≤ h) : ∃ x0 y, i64 x0 ∧ i64 y ∧ g (h - 1) = lI x0 ∧ g (h - 2) = lI y ∧ ((∃ r, o = some (x0 :: y :: r)) ∨ o = none) := by
  cases o with
  | none =>
    obtain ⟨z, hz, e⟩ := lI_of (g (h - 1))
    obtain ⟨z2, hz2, e2⟩ := lI_of (g (h - 2))
    exact ⟨z, z2, hz, hz2, e, e2, Or.inr rfl⟩
  | some stk =>
    obtain ⟨h1, h2, h3⟩ := hp
    match stk, h2, h3 with
    | [], h2, _ => simp at h2; omega
    | [_], h2, _ => simp at h2; omega
    | a :: b :: r, _, h3 =>
      have e1 := h3 0 a rfl
      have e2 := h3 1 b rfl
      exact ⟨a, b, e1.2, e2.2, e1.1, e2.1, Or.inl ⟨r, rfl⟩⟩
theorem pI_op {lt : Nat → Int} {o : Option (List Int)} {g : Nat → Int64} {x : Int32} {h : Nat} {c1 c2 x0 y : Int} (hc : c1 = 42 ∨ c1 = 43 ∨ c1 = 45) (hp : pI o g x h) (ho : (∃ r, o = some (x0 :: y :: r)) ∨ o = none) : (i64 (opV c1 y x0) → pI (o.bind (ev1 lt (c1, c2))) (vp_updL g (h - 2) (lI (opV c1 y x0))) x (h - 1)) ∧ (¬ i64 (opV c1 y x0) → ∀ g', pI (o.bind (ev1 lt (c1, c2))) g' (iI 1) (h - 1)) := by
  have c0 : ¬ c1 = 0 := by omega
  have c9 : ¬ c1 = 1 := by omega
  have c8 : ¬ c1 = 94 := by omega
  rcases ho with ⟨r, e⟩ | e
  · subst e
    have ev : (some (x0 :: y :: r)).bind (ev1 lt (c1, c2)) = if i64 (opV c1 y x0) then some (opV c1 y x0 :: r) else none := by
      show ev1 lt (c1, c2) (x0 :: y :: r) = _
      unfold ev1
      rw [if_neg c0, if_neg c9, if_neg c8]
    rw [ev]
    refine ⟨fun q => ?_, fun q g' => ?_⟩
    · rw [if_pos q]
      have := pI_set q (pI_pop hp)
      rw [show h - 1 - 1 = h - 2 by omega] at this
      exact this
    · rw [if_neg q]; rfl
  · subst e
    exact ⟨fun _ => hp, fun _ g' => rfl⟩
theorem pI_pw {lt : Nat → Int} {o : Option (List Int)} {g : Nat → Int64} {x : Int32} {h : Nat} {c2 x0 : Int} (hp : pI o g x h) (ho : (∃ r, o = some (x0 :: r)) ∨ o = none) : (∀ z, rsO x0 c2.toNat 1 = some z → i64 z → pI (o.bind (ev1 lt (94, c2))) (vp_updL g (h - 1) (lI z)) x h) ∧ (rsO x0 c2.toNat 1 = none → ∀ g', pI (o.bind (ev1 lt (94, c2))) g' (iI 1) h) := by
  rcases ho with ⟨r, e⟩ | e
  · subst e
    have ev : (some (x0 :: r)).bind (ev1 lt (94, c2)) = (rsO x0 c2.toNat 1).map (fun z => z :: r) := by
      show ev1 lt (94, c2) (x0 :: r) = _
      unfold ev1
      rw [if_neg (by simp), if_neg (by simp), if_pos rfl]
    rw [ev]
    refine ⟨fun z q hz => ?_, fun q g' => ?_⟩
    · rw [q]; exact pI_set hz hp
    · rw [q]; rfl
  · subst e
    exact ⟨fun _ _ _ => hp, fun _ g' => rfl⟩
theorem sdS_B (S : MS) (g g' : Nat → Int64) (x : Int32) : mB (sdS S g x) 43 g' = sdS S g' x := by
  show mI (mB (mB S 43 g) 43 g') 44 x = _
  rw [mB_mB]
theorem m_op205 {K : Int32 → Int32 → Int32 → MS → Prop} {post : Int64 → MS → Prop} {S0 : MS} {g : Nat → Int64} {x : Int32} {side h i : Nat} {w : Int} (hh : 2 ≤ h) (hh2 : h ≤ 120) (hk : K (iI side) (iI ((h - 1 : Nat) : Int)) (iI ((i + 1 : Nat) : Int)) (sdS S0 (vp_updL g (h - 2) (lI w)) x)) : wX1_sideTells_205 K post (iI side) (iI h + (-1 : Int32)) (iI i) (lI w) (iI h + (-1 : Int32) - (1 : Int32)) (sdS S0 g x) := by
  have e1 : iI (h : Int) + (-1 : Int32) = iI ((h - 1 : Nat) : Int) := by
    rw [show (-1 : Int32) = iI (-1) from rfl, iI_add]; congr 1; omega
  have e2 : iI ((h - 1 : Nat) : Int) - (1 : Int32) = iI ((h - 2 : Nat) : Int) := by
    rw [show (1 : Int32) = iI 1 from rfl, iI_sub]; congr 1; omega
  rw [e1, e2]
  unfold wX1_sideTells_205 wX1_sideTells_206
  refine ⟨iI_in (by omega) (by omega) (by omega), ?_⟩
  rw [nat_i (by omega), show (sdS S0 g x).2.2.2 43 = g from mB_at S0 43 g, sdS_B, show iI (i : Int) + 1 = iI ((i + 1 : Nat) : Int) from iI_add i 1]
  exact hk
theorem m_side_17 {post : Int64 → MS → Prop} {S0 : MS} {lt : Nat → Int} {side e : Nat} {C : List (Int × Int)} (hsd : side < 2) (he : S0.2.2.1 35 side = iI e) (he4 : e ≤ 200) (hC : ∀ i c, C[i]? = some c → S0.2.2.1 34 i = iI c.1 ∧ S0.2.2.1 33 i = iI c.2) (hok : ∀ c ∈ C, cOk c) (hlt : ∀ k, k < 6 → S0.2.2.1 42 k = iI (lt k) ∧ -100 ≤ lt k ∧ lt k ≤ 100) : ∀ (X : List (Int × Int)) (i h : Nat) (o : Option (List Int)) (g : Nat → Int64) (x : Int32), i + X.length = e → (∀ k c, X[k]? = some c → C[i + k]? = some c) → hgt X h = some 1 → h ≤ i → pI o g x h → (∀ v r g', o.bind (evC lt X) = some (v :: r) → i64 v → post (lI v) (sdS S0 g' (iI 0))) → (o.bind (evC lt X) = none → ∀ r g', post r (sdS S0 g' (iI 1))) → wX1_sideTells_17 post (X.length + 1) (iI side) (iI h) (iI i) (sdS S0 g x) := by
  intro X
  induction X with
  | nil =>
    intro i h o g x hi hX hh hhi hp h1 h0
    have hh1 : h = 1 := by cases hh; rfl
    simp only [List.length_nil] at hi
    unfold wX1_sideTells_17
    refine ⟨iI_in (by omega) (by omega) (by omega), b_t ?_ ⟨iI_in (z := 0) (by omega) (by omega) (by omega), ?_⟩⟩
    · simp (disch := omega) only [iI_nat]
      rw [show (side : Int).toNat = side by omega]
      show S0.2.2.1 35 side ≤ _
      rw [he, iI_le (by omega) (by omega) (by omega) (by omega)]; omega
    · show post ((mB S0 43 g).2.2.2 43 0) (sdS S0 g x)
      rw [mB_at]
      cases o with
      | none =>
        have hx : x = iI 1 := hp
        rw [hx]; exact h0 rfl _ _
      | some stk =>
        obtain ⟨hx, hl, hv⟩ := hp
        rw [hh1] at hl
        match stk, hl with
        | [v], _ =>
          obtain ⟨e1, e2⟩ := hv 0 v rfl
          rw [hh1] at e1
          rw [hx, show g 0 = lI v from e1]
          exact h1 v [] g rfl e2
  | cons c X ih =>
    intro i h o g x hi hX hh hhi hp h1 h0
    rw [List.length_cons] at hi
    have hc := hX 0 c rfl
    obtain ⟨a1, a2⟩ := hC i c hc
    have hcok := hok c (List.mem_of_getElem? hc)
    have hX' : ∀ k d, X[k]? = some d → C[i + 1 + k]? = some d := fun k d hk => by
      rw [show i + 1 + k = i + (k + 1) by omega]; exact hX (k + 1) d hk
    obtain ⟨c1, c2⟩ := c
    simp only [] at a1 a2
    have hhc : (hg1 (c1, c2) h).bind (hgt X) = some 1 := hh
    -- what is left to do behind one code
    have next : ∀ (h' : Nat) (o' : Option (List Int)) (g' : Nat → Int64) (x' : Int32), hg1 (c1, c2) h = some h' → h' ≤ i + 1 → pI o' g' x' h' → o' = o.bind (ev1 lt (c1, c2)) → wX1_sideTells_17 post (X.length + 1) (iI side) (iI h') (iI (i + 1 : Nat)) (sdS S0 g' x') := by
      intro h' o' g' x' e1 e2 e3 e4
      rw [e1] at hhc
      have eo : o.bind (evC lt ((c1, c2) :: X)) = o'.bind (evC lt X) := by
        rw [e4]
        cases o with
        | none => rfl
        | some s => rfl
      exact ih (i + 1) h' o' g' x' (by omega) hX' hhc e2 e3 (fun v r g'' z => h1 v r g'' (by rw [eo]; exact z)) (fun z => h0 (by rw [eo]; exact z))
    unfold wX1_sideTells_17
    refine ⟨iI_in (by omega) (by omega) (by omega), b_f ?_ ⟨iI_in (by omega) (by omega) (by omega), ?_⟩⟩
    · simp (disch := omega) only [iI_nat]
      rw [show (side : Int).toNat = side by omega]
      show ¬ S0.2.2.1 35 side ≤ _
      rw [he, iI_le (by omega) (by omega) (by omega) (by omega)]; omega
    rw [nat_i (by omega)]
    have b1 : (sdS S0 g x).2.2.1 34 i = iI c1 := a1
    have b2 : (sdS S0 g x).2.2.1 33 i = iI c2 := a2
    have b3 : (sdS S0 g x).2.2.2 43 = g := mB_at S0 43 g
    have i1 : iI (i : Int) + 1 = iI ((i + 1 : Nat) : Int) := iI_add i 1
    have hh1 : iI (h : Int) + 1 = iI ((h + 1 : Nat) : Int) := iI_add h 1
    have hle := hgt_le _ _ _ hh
    rw [List.length_cons] at hle
    have hhb : h ≤ 110 := by omega
    rw [b1]
    rcases hcok with ⟨q1, q2, q3⟩ | ⟨q1, q2, q3⟩ | ⟨q1, q2, q3⟩ | q1
    · simp only [] at q1 q2 q3
      subst q1
      refine b_t rfl ?_
      unfold wX1_sideTells_46
      refine b_t rfl ⟨iI_in (by omega) (by omega) (by omega), ?_⟩
      unfold wX1_sideTells_78 wX1_sideTells_206
      refine ⟨iI_in (by omega) (by omega) (by omega), ?_⟩
      rw [nat_i (by omega), nat_i (by omega), b2, b3, iI_l (by omega) (by omega), sdS_B, hh1, i1]
      refine next (h + 1) (o.map (fun s => c2 :: s)) _ _ rfl (by omega) (pI_push (by omega) hp) ?_
      cases o with
      | none => rfl
      | some s => rfl
    · simp only [] at q1 q2 q3
      subst q1
      obtain ⟨l1, l2, l3⟩ := hlt c2.toNat (by omega)
      refine b_f (by decide) (b_t rfl ?_)
      unfold wX1_sideTells_46
      refine b_f (by decide) ⟨iI_in (by omega) (by omega) (by omega), ?_⟩
      rw [nat_i (by omega), b2]
      refine ⟨iI_in (by omega) (by omega) (by omega), ?_⟩
      unfold wX1_sideTells_78 wX1_sideTells_206
      refine ⟨iI_in (by omega) (by omega) (by omega), ?_⟩
      have b4 : (sdS S0 g x).2.2.1 42 c2.toNat = iI (lt c2.toNat) := l1
      rw [show (iI c2).toNatClampNeg = c2.toNat from iI_nat (by omega) (by omega), b4, nat_i (by omega), b3, iI_l (by omega) (by omega), sdS_B, hh1, i1]
      refine next (h + 1) (o.map (fun s => lt c2.toNat :: s)) _ _ rfl (by omega) (pI_push (by omega) hp) ?_
      cases o with
      | none => rfl
      | some s => rfl
    · simp only [] at q1 q2 q3
      subst q1
      have hp1 : 1 ≤ h := by
        refine Classical.byContradiction fun z => ?_
        have : hg1 (94, c2) h = none := by
          unfold hg1
          rw [if_neg (by simp), if_pos rfl, if_neg z]
        rw [this] at hhc; cases hhc
      have hgh : hg1 (94, c2) h = some h := by
        unfold hg1
        rw [if_neg (by simp), if_pos rfl, if_pos hp1]
      have hm : iI (h : Int) - (1 : Int32) = iI ((h - 1 : Nat) : Int) := by
        rw [show (1 : Int32) = iI 1 from rfl, iI_sub]; congr 1; omega
      obtain ⟨x0, hx0, ex, ho⟩ := pI_one hp hp1
      obtain ⟨r1, r2⟩ := pI_pw (lt := lt) (c2 := c2) hp ho
      refine b_f (by decide) (b_f (by decide) (b_t rfl ?_))
      rw [hm, nat_i (by omega), b2, b3, ex, show iI c2 = iI ((c2.toNat : Nat) : Int) by congr 1; omega]
      refine ⟨iI_in (by omega) (by omega) (by omega), iI_in (by omega) (by omega) (by omega), m_raised hx0 (by omega) (fun z ez hz => ?_) (fun ez z hz => ?_)⟩
      · refine ⟨iI_in (by omega) (by omega) (by omega), ?_⟩
        unfold wX1_sideTells_206
        rw [b3, sdS_B, i1]
        exact next h _ _ _ hgh (by omega) (r1 z ez hz) rfl
      · refine ⟨iI_in (by omega) (by omega) (by omega), ?_⟩
        unfold wX1_sideTells_206
        rw [show mI (sdS S0 g x) 44 1 = sdS S0 g (iI 1) from mI_mI (mB S0 43 g) 44 x 1, show (sdS S0 g (iI 1)).2.2.2 43 = g from mB_at S0 43 g, sdS_B, i1]
        exact next h _ _ _ hgh (by omega) (r2 ez _) rfl
    · simp only [] at q1
      have c0 : ¬ c1 = 0 := by omega
      have c9 : ¬ c1 = 1 := by omega
      have c8 : ¬ c1 = 94 := by omega
      have hp1 : 2 ≤ h := by
        refine Classical.byContradiction fun z => ?_
        have : hg1 (c1, c2) h = none := by
          unfold hg1
          rw [if_neg (by simp only []; omega), if_neg c8, if_neg z]
        rw [this] at hhc; cases hhc
      have hgh : hg1 (c1, c2) h = some (h - 1) := by
        unfold hg1
        rw [if_neg (by simp only []; omega), if_neg c8, if_pos hp1]
      have e1 : iI (h : Int) + (-1 : Int32) = iI ((h - 1 : Nat) : Int) := by
        rw [show (-1 : Int32) = iI (-1) from rfl, iI_add]; congr 1; omega
      have e2 : iI ((h - 1 : Nat) : Int) - (1 : Int32) = iI ((h - 2 : Nat) : Int) := by
        rw [show (1 : Int32) = iI 1 from rfl, iI_sub]; congr 1; omega
      obtain ⟨x0, y, hx0, hy, ex, ey, ho⟩ := pI_two hp hp1
      obtain ⟨r1, r2⟩ := pI_op (lt := lt) (c2 := c2) q1 hp ho
      have v1 : vp_in (iI (h : Int) + (-1 : Int32) - (1 : Int32)) 130 := by rw [e1, e2]; exact iI_in (by omega) (by omega) (by omega)
      have v2 : vp_in (iI (h : Int) + (-1 : Int32)) 130 := by rw [e1]; exact iI_in (by omega) (by omega) (by omega)
      have g1 : g (iI (h : Int) + (-1 : Int32) - (1 : Int32)).toNatClampNeg = lI y := by rw [e1, e2, nat_i (by omega)]; exact ey
      have g2 : g (iI (h : Int) + (-1 : Int32)).toNatClampNeg = lI x0 := by rw [e1, nat_i (by omega)]; exact ex
      have eb : mI (sdS S0 g x) 44 1 = sdS S0 g (iI 1) := mI_mI (mB S0 43 g) 44 x 1
      refine b_f (by simp (disch := omega) only [iLit, lLit, iI_add, iI_sub, iI_mul, iI_neg, lI_add, lI_sub, lI_mul, lI_neg, nI_i, lI_i, iI_l, iI_nat, iI_lt, iI_le, iI_eq, lI_lt, lI_le, lI_eq] <;> omega) (b_f (by simp (disch := omega) only [iLit, lLit, iI_add, iI_sub, iI_mul, iI_neg, lI_add, lI_sub, lI_mul, lI_neg, nI_i, lI_i, iI_l, iI_nat, iI_lt, iI_le, iI_eq, lI_lt, lI_le, lI_eq] <;> omega) (b_f (by simp (disch := omega) only [iLit, lLit, iI_add, iI_sub, iI_mul, iI_neg, lI_add, lI_sub, lI_mul, lI_neg, nI_i, lI_i, iI_l, iI_nat, iI_lt, iI_le, iI_eq, lI_lt, lI_le, lI_eq] <;> omega) ?_))
      rw [b3, g1, g2]
      by_cases d1 : c1 = 43
      · subst d1
        refine b_t rfl ⟨v1, v2, m_plus hy hx0 (fun hi => ?_) (fun hi => ?_)⟩
        · exact m_op205 hp1 (by omega) (next (h - 1) _ _ _ hgh (by omega) (r1 hi) rfl)
        · rw [eb]
          exact m_op205 hp1 (by omega) (next (h - 1) _ _ _ hgh (by omega) (r2 hi _) rfl)
      refine b_f (by simp (disch := omega) only [iLit, lLit, iI_add, iI_sub, iI_mul, iI_neg, lI_add, lI_sub, lI_mul, lI_neg, nI_i, lI_i, iI_l, iI_nat, iI_lt, iI_le, iI_eq, lI_lt, lI_le, lI_eq] <;> omega) ?_
      by_cases d2 : c1 = 45
      · subst d2
        refine b_t rfl ⟨v1, v2, m_minus hy hx0 (fun hi => ?_) (fun hi => ?_)⟩
        · exact m_op205 hp1 (by omega) (next (h - 1) _ _ _ hgh (by omega) (r1 hi) rfl)
        · rw [eb]
          exact m_op205 hp1 (by omega) (next (h - 1) _ _ _ hgh (by omega) (r2 hi _) rfl)
      refine b_f (by simp (disch := omega) only [iLit, lLit, iI_add, iI_sub, iI_mul, iI_neg, lI_add, lI_sub, lI_mul, lI_neg, nI_i, lI_i, iI_l, iI_nat, iI_lt, iI_le, iI_eq, lI_lt, lI_le, lI_eq] <;> omega) ⟨v1, v2, ?_⟩
      have d3 : c1 = 42 := by omega
      subst d3
      refine m_times hy hx0 (fun hi => ?_) (fun hi => ?_)
      · exact m_op205 hp1 (by omega) (next (h - 1) _ _ _ hgh (by omega) (r1 hi) rfl)
      · rw [eb]
        exact m_op205 hp1 (by omega) (next (h - 1) _ _ _ hgh (by omega) (r2 hi _) rfl)
