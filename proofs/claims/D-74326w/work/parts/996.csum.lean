set_option maxRecDepth 100000
set_option maxHeartbeats 4000000
/-! the component's sums -/
/-- an object that stands for codes -/
def cSm (N : NM) : Nat → Nat → List (Int × Int) → Prop
  | 0, _, _ => False
  | d + 1, q, X => (∃ v, N q = some (eO 8 [.long (lI v)]) ∧ X = [(0, v)] ∧ 0 ≤ v ∧ v < 10000) ∨ (∃ w, N q = some (eO 9 [.int (iI w)]) ∧ X = [(1, w)] ∧ 0 ≤ w ∧ w ≤ 5) ∨ (∃ c qa qb Xa Xb, N q = some (eO 10 [va_rf (some qa), va_rf (some qb), .int (iI c)]) ∧ (c = 42 ∨ c = 43 ∨ c = 45) ∧ X = Xa ++ (Xb ++ [(c, 0)]) ∧ cSm N d qa Xa ∧ cSm N d qb Xb) ∨ (∃ e qa Xa, N q = some (eO 11 [va_rf (some qa), .int (iI e)]) ∧ 0 ≤ e ∧ e ≤ 6 ∧ X = Xa ++ [(94, e)] ∧ cSm N d qa Xa)
theorem cSm.keep {N N' : NM} (h : ∀ z c fs, N z = some (eO c fs) → c ≠ 1 → N' z = some (eO c fs)) : ∀ (d q : Nat) (X : List (Int × Int)), cSm N d q X → cSm N' d q X
  | 0, _, _, hs => hs
  | d + 1, q, X, hs => by
    rcases hs with ⟨v, a1, a2⟩ | ⟨w, a1, a2⟩ | ⟨c, qa, qb, Xa, Xb, a1, a2, a3, a4, a5⟩ | ⟨e, qa, Xa, a1, a2, a3, a4, a5⟩
    · exact Or.inl ⟨v, h _ _ _ a1 (by omega), a2⟩
    · exact Or.inr (Or.inl ⟨w, h _ _ _ a1 (by omega), a2⟩)
    · exact Or.inr (Or.inr (Or.inl ⟨c, qa, qb, Xa, Xb, h _ _ _ a1 (by omega), a2, a3, cSm.keep h d qa Xa a4, cSm.keep h d qb Xb a5⟩))
    · exact Or.inr (Or.inr (Or.inr ⟨e, qa, Xa, h _ _ _ a1 (by omega), a2, a3, a4, cSm.keep h d qa Xa a5⟩))
theorem cSm.more {N : NM} : ∀ (d q : Nat) (X : List (Int × Int)), cSm N d q X → cSm N (d + 1) q X
  | 0, _, _, hs => hs.elim
  | d + 1, q, X, hs => by
    rcases hs with h | h | ⟨c, qa, qb, Xa, Xb, a1, a2, a3, a4, a5⟩ | ⟨e, qa, Xa, a1, a2, a3, a4, a5⟩
    · exact Or.inl h
    · exact Or.inr (Or.inl h)
    · exact Or.inr (Or.inr (Or.inl ⟨c, qa, qb, Xa, Xb, a1, a2, a3, cSm.more d qa Xa a4, cSm.more d qb Xb a5⟩))
    · exact Or.inr (Or.inr (Or.inr ⟨e, qa, Xa, a1, a2, a3, a4, cSm.more d qa Xa a5⟩))
theorem cSm.up {N : NM} {d q : Nat} {X : List (Int × Int)} (h : cSm N d q X) : ∀ k : Nat, cSm N (d + k) q X
  | 0 => h
  | k + 1 => cSm.more _ _ _ (cSm.up h k)
/-- codes that push one value, or go beyond -/
def pEv (lt : Nat → Int) (X : List (Int × Int)) (o : Option Int) : Prop := ∀ stk, evC lt X stk = o.map (fun v => v :: stk)
theorem pEv.sd {lt : Nat → Int} {X : List (Int × Int)} {o : Option Int} (h : pEv lt X o) : sdV lt X = o := by
  unfold sdV
  rw [h []]
  cases o <;> rfl
theorem pEv_op {lt : Nat → Int} {Xa Xb : List (Int × Int)} {oa ob : Option Int} {c : Int} (hc : c = 42 ∨ c = 43 ∨ c = 45) (ha : pEv lt Xa oa) (hb : pEv lt Xb ob) : pEv lt (Xa ++ (Xb ++ [(c, 0)])) (oa.bind (fun x => ob.bind (fun y => if i64 (opV c x y) then some (opV c x y) else none))) := fun stk => by
  have c0 : ¬ c = 0 := by omega
  have c1 : ¬ c = 1 := by omega
  have c9 : ¬ c = 94 := by omega
  rw [evC_app, ha]
  cases oa with
  | none => rfl
  | some x =>
    show evC lt (Xb ++ [(c, 0)]) (x :: stk) = _
    rw [evC_app, hb]
    cases ob with
    | none => rfl
    | some y =>
      show (ev1 lt (c, 0) (y :: x :: stk)).bind (evC lt []) = _
      unfold ev1
      rw [if_neg c0, if_neg c1, if_neg c9]
      show ((if i64 (opV c x y) then some (opV c x y :: stk) else none) : Option (List Int)).bind (evC lt []) = (if i64 (opV c x y) then some (opV c x y) else none).map (fun v => v :: stk)
      split <;> rfl
theorem pEv_pw {lt : Nat → Int} {Xa : List (Int × Int)} {oa : Option Int} {e : Int} (ha : pEv lt Xa oa) : pEv lt (Xa ++ [(94, e)]) (oa.bind (fun x => rsO x e.toNat 1)) := fun stk => by
  rw [evC_app, ha]
  cases oa with
  | none => rfl
  | some x =>
    show (ev1 lt (94, e) (x :: stk)).bind (evC lt []) = _
    unfold ev1
    rw [if_neg (by simp), if_neg (by simp), if_pos rfl]
    show ((rsO x e.toNat 1).map (fun z => z :: stk)).bind (evC lt []) = (rsO x e.toNat 1).map (fun v => v :: stk)
    cases rsO x e.toNat 1 <;> rfl
theorem rsO_in {a : Int} : ∀ (m : Nat) (v r : Int), i64 v → rsO a m v = some r → i64 r
  | 0, v, r, hv, h => by cases h; exact hv
  | m + 1, v, r, hv, h => by
    unfold rsO at h
    split at h
    · exact rsO_in m _ r (by assumption) h
    · cases h
theorem sm_ev {N : NM} {lt : Nat → Int} (hlt : ∀ k, k < 6 → -100 ≤ lt k ∧ lt k ≤ 100) : ∀ (d q : Nat) (X : List (Int × Int)), cSm N d q X → ∃ o, pEv lt X o ∧ ∀ v, o = some v → i64 v
  | 0, _, _, h => h.elim
  | d + 1, q, X, h => by
    rcases h with ⟨v, a1, a2, a3, a4⟩ | ⟨w, a1, a2, a3, a4⟩ | ⟨c, qa, qb, Xa, Xb, a1, a2, a3, a4, a5⟩ | ⟨e, qa, Xa, a1, a2, a3, a4, a5⟩
    · subst a2
      exact ⟨some v, fun stk => rfl, fun u hu => by cases hu; omega⟩
    · subst a2
      have := hlt w.toNat (by omega)
      exact ⟨some (lt w.toNat), fun stk => rfl, fun u hu => by cases hu; omega⟩
    · obtain ⟨oa, pa, ia⟩ := sm_ev hlt d qa Xa a4
      obtain ⟨ob, pb, ib⟩ := sm_ev hlt d qb Xb a5
      subst a3
      refine ⟨_, pEv_op a2 pa pb, fun v hv => ?_⟩
      cases oa with
      | none => cases hv
      | some x =>
        cases ob with
        | none => cases hv
        | some y =>
          have hv : (if i64 (opV c x y) then some (opV c x y) else none) = some v := hv
          split at hv
          · cases hv; assumption
          · cases hv
    · obtain ⟨oa, pa, ia⟩ := sm_ev hlt d qa Xa a5
      subst a4
      refine ⟨_, pEv_pw pa, fun v hv => ?_⟩
      cases oa with
      | none => cases hv
      | some x => exact rsO_in _ _ _ (by omega) hv
theorem pEv.uniq {lt : Nat → Int} {X : List (Int × Int)} {o o' : Option Int} (h : pEv lt X o) (h' : pEv lt X o') : o = o' := by rw [← h.sd, ← h'.sd]
theorem c_goesRound {post : Int32 → Prop} {c x y : Int} (hc : c = 42 ∨ c = 43 ∨ c = 45) (hx : i64 x) (hy : i64 y) (h1 : i64 (opV c x y) → post 0) (h0 : ¬ i64 (opV c x y) → post 1) : wX0_goesRound post (iI c) (lI x) (lI y) (lI (opV c x y)) := by
  unfold wX0_goesRound wX0_goesRound_82
  rcases hc with e | e | e
  · subst e
    have ev : opV 42 x y = x * y := rfl
    rw [ev] at h1 h0 ⊢
    refine b_f (by decide) (b_f (by decide) ?_)
    rw [show (-1 : Int64) = lI (-1) from rfl, show (-9223372036854775808 : Int64) = lI (-9223372036854775808) from rfl, show (0 : Int64) = lI 0 from rfl, lI_eq hx.1 hx.2 (by omega) (by omega), lI_eq hx.1 hx.2 (by omega) (by omega), lI_eq hy.1 hy.2 (by omega) (by omega)]
    refine ⟨fun c => h1 (by rw [c, Int.zero_mul]; omega), fun c => ⟨c, ?_⟩⟩
    by_cases g : i64 (x * y)
    · have e : lI (x * y) / lI x = lI y := by rw [div64 g hx, Int.mul_tdiv_cancel_left _ c]
      refine b_t e ⟨fun c1 => b_f (fun c2 => ?_) (h1 g), fun _ => h1 g⟩
      rw [c1, c2] at g
      exact absurd g (by decide)
    · refine ⟨fun e => ?_, fun _ => h0 g⟩
      obtain ⟨e1, e2⟩ := times_no hx hy c g e
      exact b_t e1 (b_t e2 (h0 g))
  · subst e
    have ev : opV 43 x y = x + y := rfl
    rw [ev] at h1 h0 ⊢
    refine b_t rfl ?_
    rw [← lI_add, plus_nn hx hy]
    exact ⟨h1, h0⟩
  · subst e
    have ev : opV 45 x y = x - y := rfl
    rw [ev] at h1 h0 ⊢
    refine b_f (by decide) (b_t rfl ?_)
    rw [← lI_sub, minus_nn hx hy]
    exact ⟨h1, h0⟩
section
variable {K : Nat → Nat → Nat}
/-- the mark of what goes beyond -/
abbrev nB (N : NM) (rx : Nat) (f : Nat → Int32) : NM := va_up N rx (some (eN 0 7 (upd f 6 1)))
theorem nB_ne {N : NM} {rx q : Nat} {f : Nat → Int32} (h : q ≠ rx) : nB N rx f q = N q := up_ne _ _ _ h
theorem nB_nB (N : NM) (rx : Nat) (f : Nat → Int32) : nB (nB N rx f) rx (upd f 6 1) = nB N rx f := by
  unfold nB
  rw [up_up]
  congr 3
  funext j
  unfold upd
  split <;> rfl
theorem nB_same {N : NM} {rx : Nat} {f : Nat → Int32} (h : N rx = some (eN 0 7 f)) (h6 : f 6 = 1) : nB N rx f = N := by
  have : upd f 6 1 = f := by
    funext j
    unfold upd
    split
    · rename_i e; rw [e, h6]
    · rfl
  unfold nB
  rw [this]
  exact up_self h
theorem c_product {post : Int64 → NM → Prop} {N : NM} {rx : Nat} {f : Nat → Int32} {x y : Int} (hr : N rx = some (eN 0 7 f)) (hx : i64 x) (hy : i64 y) (h1 : i64 (x * y) → post (lI (x * y)) N) (h0 : ¬ i64 (x * y) → post (lI (x * y)) (nB N rx f)) : wX0_product K post N (lI x) (lI y) rx := by
  unfold wX0_product
  rw [lI_mul]
  refine c_goesRound (c := 42) (Or.inl rfl) hx hy (fun g => b_t rfl (h1 g)) (fun g => b_f (by decide) ⟨_, _, hr, iI_in (z := 6) (by omega) (by omega) (by omega), fun N6 e6 => ?_⟩)
  subst e6
  exact h0 g
theorem c_pw_15 {rc : (Int64 → NM → Prop) → NM → Nat → Nat → Prop} {post : Int64 → NM → Prop} {q qa rx : Nat} {x : Int} {e : Nat} (hx : i64 x) (he : e ≤ 6) : ∀ (m k : Nat) (v : Int) (N : NM) (f : Nat → Int32), k + m = e → i64 v → N q = some (eO 11 [va_rf (some qa), .int (iI (e : Nat))]) → N rx = some (eN 0 7 f) → (∀ r, rsO x m v = some r → i64 r → post (lI r) N) → ((rsO x m v = none ∨ f 6 = 1) → ∀ r, post r (nB N rx f)) → wX13_of_15 K rc post (m + 1) q rx (lI x) (lI v) (iI k) N := by
  intro m
  induction m with
  | zero =>
    intro k v N f hk hv hq hr h1 h0
    unfold wX13_of_15
    exact ⟨_, _, hq, b_t (by simp (disch := omega) only [iLit, lLit, iI_add, iI_sub, iI_mul, iI_neg, lI_add, lI_sub, lI_mul, lI_neg, nI_i, lI_i, iI_l, iI_nat, iI_lt, iI_le, iI_eq, lI_lt, lI_le, lI_eq] <;> omega) (h1 v rfl hv)⟩
  | succ m ih =>
    intro k v N f hk hv hq hr h1 h0
    have hne : q ≠ rx := fun z => by rw [z, hr] at hq; cases hq
    unfold wX13_of_15
    refine ⟨_, _, hq, b_f (by simp (disch := omega) only [iLit, lLit, iI_add, iI_sub, iI_mul, iI_neg, lI_add, lI_sub, lI_mul, lI_neg, nI_i, lI_i, iI_l, iI_nat, iI_lt, iI_le, iI_eq, lI_lt, lI_le, lI_eq] <;> omega) (c_product hr hv hx (fun g => ?_) (fun g => ?_))⟩
    · rw [show iI (k : Int) + 1 = iI ((k + 1 : Nat) : Int) from iI_add k 1]
      refine ih (k + 1) _ N f (by omega) g hq hr (fun r er hr' => h1 r (by unfold rsO; rw [if_pos g]; exact er) hr') (fun z => h0 ?_)
      rcases z with z | z
      · exact Or.inl (by unfold rsO; rw [if_pos g]; exact z)
      · exact Or.inr z
    · rw [show iI (k : Int) + 1 = iI ((k + 1 : Nat) : Int) from iI_add k 1, lI_wrap (v * x)]
      have hn : rsO x (m + 1) v = none := by unfold rsO; rw [if_neg g]
      refine ih (k + 1) _ (nB N rx f) (upd f 6 1) (by omega) (bm_in _).1 ((nB_ne hne).trans hq) (up_eq _ _ _) (fun r _ _ => h0 (Or.inl hn) _) (fun _ r => ?_)
      rw [nB_nB]
      exact h0 (Or.inl hn) r
theorem c_op_65 {rc : (Int64 → NM → Prop) → NM → Nat → Nat → Prop} {post : Int64 → NM → Prop} {N : NM} {q qa qb rx : Nat} {f : Nat → Int32} {c x y : Int} (hc : c = 43 ∨ c = 45) (hq : N q = some (eO 10 [va_rf (some qa), va_rf (some qb), .int (iI c)])) (hr : N rx = some (eN 0 7 f)) (hx : i64 x) (hy : i64 y) (h1 : i64 (opV c x y) → post (lI (opV c x y)) N) (h0 : ¬ i64 (opV c x y) → ∀ r, post r (nB N rx f)) : wX14_of_45 K rc post q rx (lI x) (lI y) N := by
  have run : wX14_of_65 K rc post q rx (lI x) (lI y) (lI (opV c x y)) N := by
    unfold wX14_of_65
    refine ⟨_, _, _, hq, c_goesRound (by omega) hx hy (fun g => b_t rfl (h1 g)) (fun g => b_f (by decide) ⟨_, _, hr, iI_in (z := 6) (by omega) (by omega) (by omega), fun N6 e6 => ?_⟩)⟩
    subst e6
    exact h0 g _
  unfold wX14_of_45
  refine ⟨_, _, _, hq, fun e => ?_, fun e => ?_⟩
  · have : c = 43 := by
      rw [show (43 : Int32) = iI 43 from rfl, iI_eq (by omega) (by omega) (by omega) (by omega)] at e; exact e
    subst this
    rw [lI_add]; exact run
  · have : c = 45 := by
      rw [show (43 : Int32) = iI 43 from rfl, iI_eq (by omega) (by omega) (by omega) (by omega)] at e; omega
    subst this
    rw [lI_sub]; exact run
/-- behind both parts: the sign -/
theorem c_sign {rc : (Int64 → NM → Prop) → NM → Nat → Nat → Prop} {post : Int64 → NM → Prop} {N : NM} {q qa qb rx : Nat} {f : Nat → Int32} {c x y : Int} (hc : c = 42 ∨ c = 43 ∨ c = 45) (hq : N q = some (eO 10 [va_rf (some qa), va_rf (some qb), .int (iI c)])) (hr : N rx = some (eN 0 7 f)) (hx : i64 x) (hy : i64 y) (h1 : i64 (opV c x y) → post (lI (opV c x y)) N) (h0 : ¬ i64 (opV c x y) → ∀ r, post r (nB N rx f)) : ∃ f18 f19 f20, N q = some (eO 10 [va_rf f18, va_rf f19, .int f20]) ∧ (((f20 = (43 : Int32)) → (wX14_of_45 K rc post q rx (lI x) (lI y) N)) ∧ (¬ (f20 = (43 : Int32)) → (((f20 = (45 : Int32)) → (wX14_of_45 K rc post q rx (lI x) (lI y) N)) ∧ (¬ (f20 = (45 : Int32)) → (wX0_product K (fun r41 N42 => post r41 N42) N (lI x) (lI y) rx))))) := by
  refine ⟨_, _, _, hq, fun e => ?_, fun e => ⟨fun e2 => ?_, fun e2 => ?_⟩⟩
  · rw [show (43 : Int32) = iI 43 from rfl, iI_eq (by omega) (by omega) (by omega) (by omega)] at e
    exact c_op_65 (by omega) hq hr hx hy h1 h0
  · rw [show (45 : Int32) = iI 45 from rfl, iI_eq (by omega) (by omega) (by omega) (by omega)] at e2
    exact c_op_65 (by omega) hq hr hx hy h1 h0
  · rw [show (43 : Int32) = iI 43 from rfl, iI_eq (by omega) (by omega) (by omega) (by omega)] at e
    rw [show (45 : Int32) = iI 45 from rfl, iI_eq (by omega) (by omega) (by omega) (by omega)] at e2
    have : c = 42 := by omega
    subst this
    exact c_product hr hx hy h1 (fun g => h0 g _)
theorem c_sum {lt : Nat → Int} (hlt : ∀ k, k < 6 → -100 ≤ lt k ∧ lt k ≤ 100) {rx : Nat} : ∀ (d q : Nat) (X : List (Int × Int)) (N : NM) (f : Nat → Int32) (post : Int64 → NM → Prop) (o : Option Int), cSm N d q X → N rx = some (eN 0 7 f) → (∀ k, k < 6 → f k = iI (lt k)) → pEv lt X o → (∀ v, o = some v → i64 v → post (lI v) N) → ((o = none ∨ f 6 = 1) → ∀ r, post r (nB N rx f)) → wSum K d post N q rx
  | 0, _, _, _, _, _, _, h, _, _, _, _, _ => h.elim
  | d + 1, q, X, N, f, post, o, h, hr, hf, hp, h1, h0 => by
    rcases h with ⟨v, a1, a2, a3, a4⟩ | ⟨w, a1, a2, a3, a4⟩ | ⟨c, qa, qb, Xa, Xb, a1, a2, a3, a4, a5⟩ | ⟨e, qa, Xa, a1, a2, a3, a4, a5⟩
    · subst a2
      have eo : o = some v := hp.uniq (fun stk => rfl)
      exact Or.inl ⟨⟨_, a1⟩, _, a1, h1 v eo (by omega)⟩
    · subst a2
      have eo : o = some (lt w.toNat) := hp.uniq (fun stk => rfl)
      have hw := hlt w.toNat (by omega)
      refine Or.inr (Or.inl ⟨⟨_, a1⟩, _, a1, _, _, hr, iI_in (by omega) (by omega) (by omega), ?_⟩)
      rw [iI_nat (by omega) (by omega), hf w.toNat (by omega), iI_l (by omega) (by omega)]
      exact h1 _ eo (by omega)
    · obtain ⟨oa, pa, ia⟩ := sm_ev hlt d qa Xa a4
      obtain ⟨ob, pb, ib⟩ := sm_ev hlt d qb Xb a5
      subst a3
      have eo := hp.uniq (pEv_op a2 pa pb)
      have hne : q ≠ rx := fun z => by rw [z, hr] at a1; cases a1
      refine Or.inr (Or.inr (Or.inl ⟨⟨_, a1⟩, ?_⟩))
      -- what is beyond stays so
      have beyond : ∀ (r7 : Int64), (oa = none ∨ ob = none ∨ f 6 = 1) → ∀ (r15 : Int64), ∃ f18 f19 f20, (nB N rx f) q = some (eO 10 [va_rf f18, va_rf f19, .int f20]) ∧ (((f20 = (43 : Int32)) → (wX14_of_45 K (fun post N a x => wSum K d post N a x) post q rx r7 r15 (nB N rx f))) ∧ (¬ (f20 = (43 : Int32)) → (((f20 = (45 : Int32)) → (wX14_of_45 K (fun post N a x => wSum K d post N a x) post q rx r7 r15 (nB N rx f))) ∧ (¬ (f20 = (45 : Int32)) → (wX0_product K (fun r41 N42 => post r41 N42) (nB N rx f) r7 r15 rx))))) := fun r7 hb r15 => by
        obtain ⟨x, hx, ex⟩ := lI_of r7
        obtain ⟨y, hy, ey⟩ := lI_of r15
        have hb0 : ∀ r, post r (nB N rx f) := h0 (by
          rcases hb with z | z | z
          · left; rw [eo, z]; rfl
          · left; rw [eo, z]; cases oa <;> rfl
          · exact Or.inr z)
        rw [ex, ey]
        refine c_sign a2 ((nB_ne hne).trans a1) (up_eq _ _ _) hx hy (fun _ => hb0 _) (fun _ r => ?_)
        rw [nB_nB]
        exact hb0 r
      have keep : ∀ z c fs, N z = some (eO c fs) → c ≠ 1 → (nB N rx f) z = some (eO c fs) := fun z c fs hz _ => by
        rw [nB_ne (fun w => by rw [w, hr] at hz; cases hz)]; exact hz
      have hf' : ∀ k, k < 6 → (upd f 6 1) k = iI (lt k) := fun k hk => by rw [upd_ne _ _ _ (by omega)]; exact hf k hk
      have second : ∀ (r7 : Int64), (oa = none ∨ f 6 = 1) → wSum K d (fun r15 N16 => ∃ f18 f19 f20, N16 q = some (eO 10 [va_rf f18, va_rf f19, .int f20]) ∧ (((f20 = (43 : Int32)) → (wX14_of_45 K (fun post N a x => wSum K d post N a x) post q rx r7 r15 N16)) ∧ (¬ (f20 = (43 : Int32)) → (((f20 = (45 : Int32)) → (wX14_of_45 K (fun post N a x => wSum K d post N a x) post q rx r7 r15 N16)) ∧ (¬ (f20 = (45 : Int32)) → (wX0_product K (fun r41 N42 => post r41 N42) N16 r7 r15 rx)))))) (nB N rx f) qb rx := fun r7 hb => by
        refine c_sum hlt d qb Xb (nB N rx f) (upd f 6 1) _ ob (cSm.keep keep d qb Xb a5) (up_eq _ _ _) hf' pb (fun v ev hv => ?_) (fun _ r => ?_)
        · exact beyond r7 (by rcases hb with z | z; exact Or.inl z; exact Or.inr (Or.inr z)) _
        · rw [nB_nB]
          exact beyond r7 (by rcases hb with z | z; exact Or.inl z; exact Or.inr (Or.inr z)) r
      unfold wX14_of
      refine ⟨_, _, _, a1, qa, rfl, ?_⟩
      refine c_sum hlt d qa Xa N f _ oa a4 hr hf pa (fun x ex hx => ⟨_, _, _, a1, qb, rfl, ?_⟩) (fun hb r => ⟨_, _, _, (nB_ne hne).trans a1, qb, rfl, second r hb⟩)
      refine c_sum hlt d qb Xb N f _ ob a5 hr hf pb (fun y ey hy => ?_) (fun hb r => ?_)
      · refine c_sign a2 a1 hr hx hy (fun g => h1 _ ?_ g) (fun g r => h0 (Or.inl ?_) r)
        · rw [eo, ex, ey]
          show (if i64 (opV c x y) then some (opV c x y) else none) = _
          rw [if_pos g]
        · rw [eo, ex, ey]
          show (if i64 (opV c x y) then some (opV c x y) else none) = _
          rw [if_neg g]
      · exact beyond _ (by rcases hb with z | z; exact Or.inr (Or.inl z); exact Or.inr (Or.inr z)) r
    · obtain ⟨oa, pa, ia⟩ := sm_ev hlt d qa Xa a5
      subst a4
      have eo := hp.uniq (pEv_pw pa)
      have hne : q ≠ rx := fun z => by rw [z, hr] at a1; cases a1
      have ee : iI e = iI ((e.toNat : Nat) : Int) := by congr 1; omega
      have a1' := a1
      rw [ee] at a1'
      refine Or.inr (Or.inr (Or.inr ⟨⟨_, a1⟩, ?_⟩))
      unfold wX13_of
      refine ⟨_, _, a1, qa, rfl, ?_⟩
      refine c_sum hlt d qa Xa N f _ oa a5 hr hf pa (fun x ex hx => ⟨e.toNat + 1, ?_⟩) (fun hb r => ⟨e.toNat + 1, ?_⟩)
      · refine c_pw_15 (e := e.toNat) hx (by omega) e.toNat 0 1 N f (by omega) (by omega) a1' hr (fun r er hr' => h1 r (by rw [eo, ex]; exact er) hr') (fun hb r => h0 ?_ r)
        rcases hb with z | z
        · left; rw [eo, ex]; exact z
        · exact Or.inr z
      · obtain ⟨x, hx, ex⟩ := lI_of r
        rw [ex]
        have hb0 : ∀ r, post r (nB N rx f) := h0 (by
          rcases hb with z | z
          · left; rw [eo, z]; rfl
          · exact Or.inr z)
        refine c_pw_15 (e := e.toNat) hx (by omega) e.toNat 0 1 (nB N rx f) (upd f 6 1) (by omega) (by omega) ((nB_ne hne).trans a1') (up_eq _ _ _) (fun r _ _ => hb0 _) (fun _ r => ?_)
        rw [nB_nB]
        exact hb0 r
end
