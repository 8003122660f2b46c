set_option maxRecDepth 100000
set_option maxHeartbeats 4000000
/-! the component: number, greed, enough -/
section
variable {K : Nat → Nat → Nat} {a : Nat → Nat}
theorem c_number_131 {K68 : Nat → Option Nat → Nat → Int64 → Int64 → Int32 → Nat → Nat → NM → Prop} {post : Int64 → NM → Prop} {S : CS} {N : NM} {q j hq mc ms : Nat} {ts : List tm} {t : tm} {n y : Int} {f0 : Nat → Int32} (hL : cL K a S N) (hF : cF K N q ts) (hv : vF ts) (hr : rowsL S ts) (ht : ts[j]? = some t) (hn : -100000 ≤ n ∧ n ≤ 100000) (hq0 : N hq = some (eN 0 5 f0)) (hy : f0 j = iI y) (hy1 : t.2.2.1 ≤ y) (hy2 : y ≤ t.2.2.2) : ∀ (m : Nat) (x v : Int), x + m = y → t.2.2.1 ≤ x → K68 (a 0) (some q) hq (lI (n - tv t y)) (lI (v + uI x (y - 1) (fun x => Wy (ts.drop (j + 1)) (n - tv t x)))) (iI ((j + 1 : Nat) : Int)) mc ms N → wX0_number_131 K K68 post (m + 1) (a 0) (some q) hq (lI n) (lI v) (iI j) (iI x) mc ms N := by
  have h5 := hv.1
  have hj := (List.getElem?_eq_some_iff.mp ht).1
  have hvt := hv.2 t (List.mem_of_getElem? ht)
  have hlo := hvt.lo
  have hF' := hF
  obtain ⟨y0, f, f1, f2, f3⟩ := hF'
  obtain ⟨u, u1, u2⟩ := f3 j t ht
  have hin : vp_in (iI (j : Int)) ts.length := iI_in (by omega) (by omega) (by omega)
  have hin5 : vp_in (iI (j : Int)) 5 := iI_in (by omega) (by omega) (by omega)
  have hat : f (iI (j : Int)).toNatClampNeg = some u := by rw [nat_i (by omega)]; exact u1
  have hy0 : f0 (iI (j : Int)).toNatClampNeg = iI y := by rw [nat_i (by omega)]; exact hy
  intro m
  induction m with
  | zero =>
    intro x v hm hx h
    unfold wX0_number_131
    refine ⟨_, _, hq0, hin5, ?_⟩
    rw [hy0]
    refine b_t (by simp (disch := omega) only [iLit, lLit, iI_add, iI_sub, iI_mul, iI_neg, lI_add, lI_sub, lI_mul, lI_neg, nI_i, lI_i, iI_l, iI_nat, iI_lt, iI_le, iI_eq, lI_lt, lI_le, lI_eq] <;> omega) ⟨q, rfl, _, f1, y0, rfl, _, _, f2, hin, hin5, u, hat, _, _, _, _, u2, ?_⟩
    rw [iI_l (by omega) (by omega)]
    refine c_value hvt u2 (by omega) (by omega) ?_
    rw [uI_none _ (by omega), Int.add_zero] at h
    rw [lI_sub, show iI (j : Int) + 1 = iI ((j + 1 : Nat) : Int) from iI_add j 1]
    exact h
  | succ m ih =>
    intro x v hm hx h
    have hb := hvt.tv hx (by omega)
    unfold wX0_number_131
    refine ⟨_, _, hq0, hin5, ?_⟩
    rw [hy0]
    refine b_f (by simp (disch := omega) only [iLit, lLit, iI_add, iI_sub, iI_mul, iI_neg, lI_add, lI_sub, lI_mul, lI_neg, nI_i, lI_i, iI_l, iI_nat, iI_lt, iI_le, iI_eq, lI_lt, lI_le, lI_eq] <;> omega) ⟨q, rfl, _, f1, y0, rfl, _, _, f2, hin, u, hat, _, _, _, _, u2, ?_⟩
    rw [iI_l (by omega) (by omega)]
    refine c_value hvt u2 (by omega) (by omega) ⟨_, _, _, _, _, _, _, _, _, _, _, _, _, _, _, _, _, _, _, hL.obj, ?_⟩
    rw [lI_sub]
    refine c_rest hL hv hr hj (by omega) (fun r er r0 r1 => ?_)
    rw [lI_add, show iI x + (1 : Int32) = iI (x + 1) from iI_add x 1]
    refine ih (x + 1) (v + r) (by omega) (by omega) ?_
    rw [uI_first _ (by omega), ← Int.add_assoc, ← er] at h
    exact h
theorem c_number_68 {post : Int64 → NM → Prop} {S : CS} {N : NM} {q hq mc ms : Nat} {ts : List tm} {y : Nat → Int} {f0 : Nat → Int32} (hL : cL K a S N) (hF : cF K N q ts) (hv : vF ts) (hr : rowsL S ts) (hq0 : N hq = some (eN 0 5 f0)) (hy : ∀ j, j < 5 → f0 j = iI (y j) ∧ i32 (y j)) : ∀ (m i : Nat) (n v : Int), i + m = ts.length → -(3000 * (6 + i : Int)) ≤ n → n ≤ 3000 * (6 + i : Int) → post (lI (nmbR y (ts.drop i) i n v)) N → wX0_number_68 K post (m + 1) (a 0) (some q) hq (lI n) (lI v) (iI i) mc ms N := by
  have h5 := hv.1
  have hF' := hF
  obtain ⟨y0, f, f1, f2, f3⟩ := hF'
  intro m
  induction m with
  | zero =>
    intro i n v hm n1 n2 h
    unfold wX0_number_68
    refine ⟨q, rfl, _, f1, c_many0 hF ?_⟩
    refine b_t (by simp (disch := omega) only [iLit, lLit, iI_add, iI_sub, iI_mul, iI_neg, lI_add, lI_sub, lI_mul, lI_neg, nI_i, lI_i, iI_l, iI_nat, iI_lt, iI_le, iI_eq, lI_lt, lI_le, lI_eq] <;> omega) ?_
    rw [List.drop_of_length_le (by omega)] at h
    unfold nmbR at h
    rw [show (0 : Int64) = lI 0 from rfl, lI_eq (by omega) (by omega) (by omega) (by omega)]
    exact ⟨fun e => by rw [if_pos (by omega)] at h; exact h, fun e => by rw [if_neg (by omega)] at h; exact h⟩
  | succ m ih =>
    intro i n v hm n1 n2 h
    obtain ⟨t, ht⟩ : ∃ t, ts[i]? = some t := ⟨_, List.getElem?_eq_getElem (by omega)⟩
    have hd : ts.drop i = t :: ts.drop (i + 1) := by
      obtain ⟨h1, h2⟩ := List.getElem?_eq_some_iff.mp ht
      rw [← h2]; exact List.drop_eq_getElem_cons h1
    have hvt := hv.2 t (List.mem_of_getElem? ht)
    have hlo := hvt.lo
    obtain ⟨u, u1, u2⟩ := f3 i t ht
    obtain ⟨y1, y2⟩ := hy i (by omega)
    have hin : vp_in (iI (i : Int)) ts.length := iI_in (by omega) (by omega) (by omega)
    unfold wX0_number_68
    refine ⟨q, rfl, _, f1, c_many0 hF ?_⟩
    refine b_f (by simp (disch := omega) only [iLit, lLit, iI_add, iI_sub, iI_mul, iI_neg, lI_add, lI_sub, lI_mul, lI_neg, nI_i, lI_i, iI_l, iI_nat, iI_lt, iI_le, iI_eq, lI_lt, lI_le, lI_eq] <;> omega) ⟨_, _, hq0, iI_in (by omega) (by omega) (by omega), _, f1, y0, rfl, _, _, f2, hin, u, by rw [nat_i (by omega)]; exact u1, _, _, _, _, u2, hin, ?_⟩
    rw [nat_i (by omega), y1, iI_l y2.1 y2.2, iI_l (by omega) (by omega), iI_l (by omega) (by omega)]
    rw [hd] at h
    unfold nmbR at h
    refine c_isIn (by omega) (by omega) (by omega) (fun c1 c2 => b_f (by decide) ⟨hin, ?_⟩) (fun c => b_t rfl (by rw [if_neg c] at h; exact h))
    rw [if_pos ⟨c1, c2⟩] at h
    have hb := hvt.tv c1 c2
    refine ⟨(y i - t.2.2.1).toNat + 1, c_number_131 (y := y i) hL hF hv hr ht (by omega) hq0 y1 c1 c2 _ _ _ (by omega) (by omega) ?_⟩
    exact ih (i + 1) _ _ (by omega) (by omega) (by omega) h
theorem c_number {post : Int64 → NM → Prop} {MC MS : Nat} {S : CS} {N : NM} {F : Nat → List tm} {z n : Int} {y : Nat → Int} (hK : kOk K) (hL : cL K a S N) (hF : cSlots K S N F) (hc : cLaid K S N) (hz : i32 z) (hn : i32 n) (hy : ∀ j, j < 5 → i32 (y j)) (hMC : 10 ≤ MC) (hMS : 300 ≤ MS)
    (h0 : ¬ (0 ≤ z ∧ z ≤ 3 ∧ F z.toNat ≠ [] ∧ -3000 ≤ n ∧ n ≤ 3000) → post (lI (-1)) N) (h1 : ∀ (s : Nat) S' N', s < 4 → z = s → F s ≠ [] → -3000 ≤ n → n ≤ 3000 → cW K a S N S' N' → post (lI (nmbR y (F s) 0 n 0)) N') : wX0_number K post MC MS N (a 0) (iI z) (iI n) (iI (y 0)) (iI (y 1)) (iI (y 2)) (iI (y 3)) (iI (y 4)) := by
  unfold wX0_number
  refine ⟨_, _, _, _, _, _, _, _, _, _, _, _, _, _, _, _, _, _, _, hL.obj, 3, 210, by omega, by omega, c_at hL hF hz (by omega) (by omega) (fun hq => ⟨fun _ => h0 (fun w => hq ⟨w.1, w.2.1, w.2.2.1⟩), fun _ e => by cases e⟩) (fun s q hs e hne hq hf hv => ⟨fun e => (by cases e), fun _ ea => ?_⟩)⟩
  cases ea
  have h5 := hv.1
  refine c_isNumber hn (fun n1 n2 => b_f (by decide) ⟨_, _, _, _, _, _, _, _, _, _, _, _, _, _, _, _, _, _, _, hL.obj, ?_⟩) (fun hc => b_t rfl (h0 (fun w => hc w.2.2.2)))
  refine c_laysWays hK hL hf hv hc (fun S' N' hL' hk' he h5' hr => ?_)
  have hW : cW K a S N S' N' := ⟨hL', hk', he, Or.inr ⟨q, F s, h5', hf.kp hL hk', hv, hr⟩⟩
  have e5 : (5 : Int32).toNatClampNeg = 5 := by decide
  rw [e5]
  have v5 : ∀ z : Int, 0 ≤ z → z < 5 → vp_in (iI z) 5 := fun z q1 q2 => iI_in q1 (by omega) (by omega)
  refine ⟨by decide, by omega, by omega, by omega, fun nq hnq N60 e60 => ⟨v5 0 (by omega) (by omega), fun N63 e63 => ⟨v5 1 (by omega) (by omega), fun N66 e66 => ⟨v5 2 (by omega) (by omega), fun N69 e69 => ⟨v5 3 (by omega) (by omega), fun N72 e72 => ⟨v5 4 (by omega) (by omega), fun N75 e75 => ⟨(F s).length + 1, ?_⟩⟩⟩⟩⟩⟩⟩
  subst e60 e63 e66 e69 e72 e75
  simp only [up_up]
  have ho := hL'.outN hnq
  have hW' := fun e => (cW.start hL' hW.2.2.2).new hnq ho (fun e he => by rw [hnq] at he; cases he) e
  generalize hg : upd (upd (upd (upd (upd (fun _ => 0) (0 : Int32).toNatClampNeg (iI (y 0))) (1 : Int32).toNatClampNeg (iI (y 1))) (2 : Int32).toNatClampNeg (iI (y 2))) (3 : Int32).toNatClampNeg (iI (y 3))) (4 : Int32).toNatClampNeg (iI (y 4)) = g
  have hgy : ∀ j, j < 5 → g j = iI (y j) ∧ i32 (y j) := fun j hj => by
    refine ⟨?_, hy j hj⟩
    rw [← hg]
    rcases (show j = 0 ∨ j = 1 ∨ j = 2 ∨ j = 3 ∨ j = 4 by omega) with q | q | q | q | q <;> subst q <;> rfl
  have hW2 := hW' (eN 0 5 g)
  rw [iI_l hn.1 hn.2]
  refine c_number_68 (y := y) hW2.1 ((hf.kp hL hk').kp hL' hW2.2.1) hv (fun i hi => hr i hi) (up_eq _ _ _) hgy (F s).length 0 n 0 (by omega) (by omega) (by omega) ?_
  rw [List.drop_zero]
  exact h1 s S' _ hs e hne n1 n2 (hW.trans hW2)
/-! greed -/
theorem c_gr_96 {K13 : Option Nat → Int64 → Int32 → Int32 → NM → Prop} {post : Int32 → NM → Prop} {N : NM} {x0 : Option Nat} {x1 : Int64} {best x : Int} {v0 : Int32} {P : Prop} (hv : (v0 = 0 ∧ ¬ P) ∨ (v0 = 1 ∧ P)) (h1 : P → K13 x0 x1 (iI x) (iI (x + 1)) N) (h0 : ¬ P → K13 x0 x1 (iI best) (iI (x + 1)) N) : wX0_greedyOf_96 K K13 post x0 x1 (iI best) (iI x) v0 N := by
  unfold wX0_greedyOf_96 wX0_greedyOf_109
  rw [show iI x + (1 : Int32) = iI (x + 1) from iI_add x 1]
  rcases hv with ⟨e, p⟩ | ⟨e, p⟩
  · exact b_t e (h0 p)
  · exact b_f (by rw [e]; decide) (h1 p)
theorem c_gr_13 {post : Int32 → NM → Prop} {N : NM} {u : Nat} {t : tm} {rest : Int} (hvt : vT t) (hu : N u = some (oTm K t)) (hrest : -1000000 ≤ rest ∧ rest ≤ 1000000) : ∀ (m : Nat) (best x : Int), x + m = t.2.2.2 + 1 → t.2.2.1 ≤ x → t.2.2.1 ≤ best → best ≤ t.2.2.2 → post (iI (grB (tv t) rest m best x)) N → wX0_greedyOf_13 K post (m + 1) (some u) (lI rest) (iI best) (iI x) N := by
  have hlo := hvt.lo
  intro m
  induction m with
  | zero =>
    intro best x hm hx hb1 hb2 h
    unfold wX0_greedyOf_13
    exact ⟨u, rfl, _, _, _, _, hu, b_t (by simp (disch := omega) only [iLit, lLit, iI_add, iI_sub, iI_mul, iI_neg, lI_add, lI_sub, lI_mul, lI_neg, nI_i, lI_i, iI_l, iI_nat, iI_lt, iI_le, iI_eq, lI_lt, lI_le, lI_eq] <;> omega) h⟩
  | succ m ih =>
    intro best x hm hx hb1 hb2 h
    have vx := hvt.tv hx (by omega)
    have vb := hvt.tv hb1 hb2
    unfold grB at h
    have nx : ∀ b : Int, b = (if (if tv t x ≤ rest then rest < tv t best ∨ tv t best < tv t x else rest < tv t best ∧ tv t x < tv t best) then x else best) → wX0_greedyOf_13 K post (m + 1) (some u) (lI rest) (iI b) (iI (x + 1)) N := fun b eb => by
      rw [← eb] at h
      refine ih b (x + 1) (by omega) (by omega) ?_ ?_ h
      · rw [eb]; split <;> omega
      · rw [eb]; split <;> omega
    have c44 : ∀ v0 : Int32, ((v0 = 0 ∧ ¬ tv t x < tv t best) ∨ (v0 = 1 ∧ tv t x < tv t best)) → wX0_greedyOf_44 K (fun x0 x1 x3 x4 N => wX0_greedyOf_13 K post (m + 1) x0 x1 x3 x4 N) post (some u) (lI rest) (iI best) (iI x) v0 N := fun v0 hv0 => by
      unfold wX0_greedyOf_44
      refine ⟨u, rfl, _, _, _, _, hu, ?_⟩
      rw [iI_l (by omega) (by omega), iI_l (by omega) (by omega)]
      refine c_value hvt hu (by omega) (by omega) ?_
      rw [lI_le (by omega) (by omega) (by omega) (by omega)]
      refine ⟨fun e => ⟨_, _, _, _, hu, c_value hvt hu (by omega) (by omega) ?_⟩, fun e => ?_⟩
      · rw [lI_lt (by omega) (by omega) (by omega) (by omega)]
        refine ⟨fun e2 => ?_, fun e2 => ⟨_, _, _, _, hu, c_value hvt hu (by omega) (by omega) ⟨_, _, _, _, hu, c_value hvt hu (by omega) (by omega) ?_⟩⟩⟩
        · unfold wX0_greedyOf_95
          refine c_gr_96 (P := False) (Or.inl ⟨rfl, id⟩) (fun p => p.elim) (fun _ => nx best ?_)
          rw [if_neg]
          rw [if_neg (by omega)]; omega
        · rw [lI_le (by omega) (by omega) (by omega) (by omega)]
          refine ⟨fun e3 => ?_, fun e3 => ?_⟩
          · unfold wX0_greedyOf_95
            refine c_gr_96 (P := False) (Or.inl ⟨rfl, id⟩) (fun p => p.elim) (fun _ => nx best ?_)
            rw [if_neg]
            rw [if_pos (by omega)]; omega
          · refine c_gr_96 (P := True) (Or.inr ⟨rfl, trivial⟩) (fun _ => nx x ?_) (fun p => absurd trivial p)
            rw [if_pos]
            rw [if_pos (by omega)]; omega
      · refine c_gr_96 (P := tv t x < tv t best) hv0 (fun p => nx x ?_) (fun p => nx best ?_)
        · rw [if_pos]
          split <;> omega
        · rw [if_neg]
          split <;> omega
    unfold wX0_greedyOf_13
    refine ⟨u, rfl, _, _, _, _, hu, b_f (by simp (disch := omega) only [iLit, lLit, iI_add, iI_sub, iI_mul, iI_neg, lI_add, lI_sub, lI_mul, lI_neg, nI_i, lI_i, iI_l, iI_nat, iI_lt, iI_le, iI_eq, lI_lt, lI_le, lI_eq] <;> omega) ?_⟩
    rw [iI_l (by omega) (by omega), iI_l (by omega) (by omega)]
    refine c_value hvt hu (by omega) (by omega) ⟨_, _, _, _, hu, c_value hvt hu (by omega) (by omega) ?_⟩
    rw [lI_le (by omega) (by omega) (by omega) (by omega)]
    exact ⟨fun e => c44 0 (Or.inl ⟨rfl, by omega⟩), fun e => c44 1 (Or.inr ⟨rfl, by omega⟩)⟩
theorem c_greedyOf {post : Int32 → NM → Prop} {N : NM} {u : Nat} {t : tm} {rest : Int} (hvt : vT t) (hu : N u = some (oTm K t)) (hrest : -1000000 ≤ rest ∧ rest ≤ 1000000) (h : post (iI (grS t rest)) N) : wX0_greedyOf K post N (some u) (lI rest) := by
  have hlo := hvt.lo
  unfold wX0_greedyOf
  refine ⟨u, rfl, _, _, _, _, hu, (t.2.2.2 - t.2.2.1).toNat + 1, ?_⟩
  rw [show iI t.2.2.1 + (1 : Int32) = iI (t.2.2.1 + 1) from iI_add _ 1]
  exact c_gr_13 hvt hu hrest _ _ _ (by omega) (by omega) (by omega) (by omega) h
theorem c_greed_49 {post : Int32 → NM → Prop} {N : NM} {q mc ms : Nat} {ts : List tm} {i : Int} (hF : cF K N q ts) (hv : vF ts) (hi : i32 i) : ∀ (m j : Nat) (rest : Int), j + m = ts.length → -(3000 * (6 + j : Int)) ≤ rest → rest ≤ 3000 * (6 + j : Int) → post (iI (greedR (ts.drop j) rest i j)) N → wX0_greed_49 K post (m + 1) (iI i) (some q) (lI rest) (iI j) mc ms N := by
  have h5 := hv.1
  have hF' := hF
  obtain ⟨y0, f, f1, f2, f3⟩ := hF'
  intro m
  induction m with
  | zero =>
    intro j rest hm n1 n2 h
    unfold wX0_greed_49
    refine ⟨q, rfl, _, f1, c_many0 hF (b_t (by simp (disch := omega) only [iLit, lLit, iI_add, iI_sub, iI_mul, iI_neg, lI_add, lI_sub, lI_mul, lI_neg, nI_i, lI_i, iI_l, iI_nat, iI_lt, iI_le, iI_eq, lI_lt, lI_le, lI_eq] <;> omega) ?_)⟩
    rw [List.drop_of_length_le (by omega)] at h
    rw [lI_i]
    exact h
  | succ m ih =>
    intro j rest hm n1 n2 h
    obtain ⟨t, ht⟩ : ∃ t, ts[j]? = some t := ⟨_, List.getElem?_eq_getElem (by omega)⟩
    have hd : ts.drop j = t :: ts.drop (j + 1) := by
      obtain ⟨h1, h2⟩ := List.getElem?_eq_some_iff.mp ht
      rw [← h2]; exact List.drop_eq_getElem_cons h1
    have hvt := hv.2 t (List.mem_of_getElem? ht)
    have hlo := hvt.lo
    obtain ⟨u, u1, u2⟩ := f3 j t ht
    have hin : vp_in (iI (j : Int)) ts.length := iI_in (by omega) (by omega) (by omega)
    have hg := grB_in (tv t) rest t.2.2.1 t.2.2.2 (t.2.2.2 - t.2.2.1).toNat t.2.2.1 (t.2.2.1 + 1) (by omega) (by omega) (by omega) (by omega)
    have hg : t.2.2.1 ≤ grS t rest ∧ grS t rest ≤ t.2.2.2 := hg
    have hb := hvt.tv hg.1 hg.2
    unfold wX0_greed_49
    refine ⟨q, rfl, _, f1, c_many0 hF (b_f (by simp (disch := omega) only [iLit, lLit, iI_add, iI_sub, iI_mul, iI_neg, lI_add, lI_sub, lI_mul, lI_neg, nI_i, lI_i, iI_l, iI_nat, iI_lt, iI_le, iI_eq, lI_lt, lI_le, lI_eq] <;> omega) ⟨_, f1, y0, rfl, _, _, f2, hin, ?_⟩)⟩
    rw [nat_i (by omega), u1]
    refine c_greedyOf hvt u2 (by omega) ?_
    rw [hd] at h
    unfold greedR at h
    rw [iI_eq (by omega) (by omega) hi.1 hi.2]
    refine ⟨fun e => by rw [if_pos e] at h; exact h, fun e => ⟨_, f1, y0, rfl, _, _, f2, hin, u, u1, _, _, _, _, u2, ?_⟩⟩
    rw [if_neg e] at h
    rw [iI_l (by omega) (by omega)]
    refine c_value hvt u2 (by omega) (by omega) ?_
    rw [lI_sub, show iI (j : Int) + 1 = iI ((j + 1 : Nat) : Int) from iI_add j 1]
    refine ih (j + 1) _ (by omega) (by omega) (by omega) ?_
    rw [show ((j + 1 : Nat) : Int) = (j : Int) + 1 by omega]
    exact h
theorem c_greed {post : Int32 → NM → Prop} {MC MS : Nat} {S : CS} {N : NM} {F : Nat → List tm} {z n i : Int} (hL : cL K a S N) (hF : cSlots K S N F) (hz : i32 z) (hn : i32 n) (hi : i32 i) (hMC : 3 ≤ MC) (hMS : 210 ≤ MS)
    (h0 : ¬ (0 ≤ z ∧ z ≤ 3 ∧ F z.toNat ≠ [] ∧ -3000 ≤ n ∧ n ≤ 3000 ∧ -1 ≤ i ∧ i < (F z.toNat).length) → post (iI (-100000)) N) (h1 : ∀ s : Nat, s < 4 → z = s → F s ≠ [] → -3000 ≤ n → n ≤ 3000 → post (iI (greedR (F s) n i 0)) N) : wX0_greed K post MC MS N (a 0) (iI z) (iI n) (iI i) := by
  unfold wX0_greed
  refine ⟨_, _, _, _, _, _, _, _, _, _, _, _, _, _, _, _, _, _, _, hL.obj, 3, 210, hMC, hMS, c_at hL hF hz (by omega) (by omega) (fun hq => ⟨fun _ => h0 (fun w => hq ⟨w.1, w.2.1, w.2.2.1⟩), fun _ e => by cases e⟩) (fun s q hs e hne hq hf hv => ⟨fun e => (by cases e), fun _ ea => ?_⟩)⟩
  cases ea
  subst e
  have hf' := hf
  obtain ⟨y, f, f1, f2, f3⟩ := hf'
  have h5 := hv.1
  rw [show ((s : Int)).toNat = s by omega] at h0
  refine c_isNumber hn (fun n1 n2 => b_f (by decide) ⟨_, f1, c_many0 hf ?_⟩) (fun hc => b_t rfl (h0 (fun w => hc ⟨w.2.2.2.1, w.2.2.2.2.1⟩)))
  rw [show iI ((F s).length : Int) - 1 = iI (((F s).length : Int) - 1) from iI_sub _ 1, iI_l hi.1 hi.2, iI_l (z := ((F s).length : Int) - 1) (by omega) (by omega)]
  refine c_isIn (b := -1) (by omega) (by omega) (by omega) (fun c1 c2 => b_f (by decide) ⟨(F s).length + 1, ?_⟩) (fun c => b_t rfl (h0 (fun w => c ⟨w.2.2.2.2.2.1, by omega⟩)))
  rw [iI_l hn.1 hn.2]
  exact c_greed_49 hf hv hi (F s).length 0 n (by omega) (by omega) (by omega) (h1 s hs rfl hne n1 n2)
end
