set_option maxRecDepth 100000
set_option maxHeartbeats 4000000
/-! the component: common, ways by numbers, greed -/
/-- a term, a form, a row of terms -/
def fk : NE → Nat
  | .inr (6, _) => 1
  | .inr (7, _) => 1
  | .inl (5, _, _) => 1
  | _ => 0
section
variable {K : Nat → Nat → Nat} {a : Nat → Nat}
theorem cF.up {N : NM} {q x : Nat} {ts : List tm} {e' : Option NE} (h : cF K N q ts) (hx : ∀ e, N x = some e → fk e = 0) : cF K (va_up N x e') q ts := by
  obtain ⟨y, f, h1, h2, h3⟩ := h
  have n : ∀ z e, N z = some e → fk e = 1 → z ≠ x := fun z e a b c => by
    rw [c] at a; have := hx e a; omega
  refine ⟨y, f, by rw [up_ne _ _ _ (n _ _ h1 rfl)]; exact h1, by rw [up_ne _ _ _ (n _ _ h2 rfl)]; exact h2, fun i t ht => ?_⟩
  obtain ⟨z, z1, z2⟩ := h3 i t ht
  exact ⟨z, z1, by rw [up_ne _ _ _ (n _ _ z2 rfl)]; exact z2⟩
theorem cLaid.up {S : CS} {N : NM} {x : Nat} {e' : Option NE} (h : cLaid K S N) (hx : ∀ e, N x = some e → fk e = 0) : cLaid K S (va_up N x e') := by
  rcases h with h | ⟨q, ts, h1, h2, h3, h4⟩
  · exact Or.inl h
  · exact Or.inr ⟨q, ts, h1, h2.up hx, h3, h4⟩
/-- a cell that is new since N changes -/
theorem cW.new {S S' : CS} {N N' : NM} {x : Nat} (h : cW K a S N S' N') (hx : N x = none) (hn : ∀ i, i < 28 → x ≠ a i) (hk : ∀ e, N' x = some e → fk e = 0) (e : NE) : cW K a S N S' (va_up N' x (some e)) :=
  ⟨h.1.off hn _, h.2.1.new hx e, h.2.2.1, h.2.2.2.up hk⟩
theorem c_common_93 {post : Int32 → NM → Prop} {S0 : CS} {N0 : NM} {q hq : Nat} {ts : List tm} {w : Int → Int} {i b x : Int} {mc ms : Nat} {f : Nat → Int32} (hK : kOk K) (hv : vF ts) (hL0 : cL K a S0 N0) (hF : cF K N0 q ts) (hh : N0 hq = some (eN 2 6001 f)) (ho : ∀ i, i < 28 → hq ≠ a i) (hf : ∀ n : Int, x ≤ n → n ≤ b → f (n + 3000).toNat = (if 0 < w n then 1 else 0)) (hi : i32 i) (hx : -3000 ≤ x) (hb : b ≤ 3000) : ∀ (m : Nat) (c k : Int) (S : CS) (N : NM), k + m = b + 1 → x ≤ k → 0 ≤ c → c + m ≤ 100000 → cW K a S0 N0 S N → (∀ S' N', cW K a S0 N0 S' N' → post (iI (missR (both0 w (Wy ts)) i m c k)) N') → wX0_common_93 K post (m + 1) (a 0) (iI b) (iI i) (some q) hq (iI c) (iI k) mc ms N := by
  intro m
  induction m with
  | zero =>
    intro c k S N hk hk0 hc hm hI h
    unfold wX0_common_93
    refine b_t (by simp (disch := omega) only [iLit, lLit, iI_add, iI_sub, iI_mul, iI_neg, lI_add, lI_sub, lI_mul, lI_neg, nI_i, lI_i, iI_l, iI_nat, iI_lt, iI_le, iI_eq, lI_lt, lI_le, lI_eq] <;> omega) ?_
    simp (disch := omega) only [iLit, lLit, iI_add, iI_sub, iI_mul, iI_neg, lI_add, lI_sub, lI_mul, lI_neg, nI_i, lI_i, iI_eq]
    have h := h S N hI
    unfold missR at h
    exact ⟨fun e => by rw [if_pos e] at h; exact h, fun e => by rw [if_neg e] at h; exact h⟩
  | succ m ih =>
    intro c k S N hk hk0 hc hm hI h
    unfold wX0_common_93
    have e1 : (3000 : Int32) + iI k = iI (k + 3000) := (iI_add 3000 k).trans (by congr 1; omega)
    rw [e1]
    refine b_f (by simp (disch := omega) only [iLit, lLit, iI_add, iI_sub, iI_mul, iI_neg, lI_add, lI_sub, lI_mul, lI_neg, nI_i, lI_i, iI_l, iI_nat, iI_lt, iI_le, iI_eq, lI_lt, lI_le, lI_eq] <;> omega) ⟨_, _, hI.2.1 hq _ hh ho, iI_in (by omega) (by omega) (by omega), ?_⟩
    rw [iI_nat (by omega) (by omega), hf k hk0 (by omega)]
    unfold missR at h
    have skip : ¬ (both0 w (Wy ts) k ≤ 0) → ∀ S' N', cW K a S0 N0 S' N' → wX0_common_141 K (fun x0 x4 x5 x7 x8 x9 x10 mc ms N => wX0_common_93 K post (m + 1) x0 x4 x5 x7 x8 x9 x10 mc ms N) post (a 0) (iI b) (iI i) (some q) hq (iI c) (iI k) mc ms N' := fun e S' N' hI' => by
      rw [if_neg e] at h
      unfold wX0_common_141
      rw [show iI k + (1 : Int32) = iI (k + 1) from iI_add k 1]
      exact ih c (k + 1) S' N' (by omega) (by omega) (by omega) (by omega) hI' h
    refine ⟨fun e => ?_, fun e => ⟨_, _, _, _, _, _, _, _, _, _, _, _, _, _, _, _, _, _, _, hI.1.obj, ?_⟩⟩
    · refine skip ?_ S N hI
      unfold both0
      rw [if_neg (fun z => by rw [if_pos z.1] at e; exact absurd e (by decide))]; omega
    · have hw : 0 < w k := Classical.byContradiction fun z => by
        rw [if_neg z] at e; exact e rfl
      refine c_wy hK hv hL0 hF hI (by omega) (fun r S' N' er r0 r1 hI' => ?_)
      rw [show (0 : Int64) = lI 0 from rfl, lI_eq (by omega) (by omega) (by omega) (by omega)]
      refine ⟨fun e2 => skip ?_ S' N' hI', fun e2 => ?_⟩
      · unfold both0
        rw [if_neg (fun z => by omega)]; omega
      · have hb0 : both0 w (Wy ts) k ≤ 0 := by
          unfold both0
          rw [if_pos ⟨hw, by omega⟩]; omega
        rw [if_pos hb0] at h
        simp (disch := omega) only [iI_eq]
        refine ⟨fun e3 => ?_, fun e3 => ?_⟩
        · rw [if_pos e3] at h; exact h S' N' hI'
        · rw [if_neg e3] at h
          unfold wX0_common_141
          rw [show iI k + (1 : Int32) = iI (k + 1) from iI_add k 1, show iI c + (1 : Int32) = iI (c + 1) from iI_add c 1]
          exact ih (c + 1) (k + 1) S' N' (by omega) (by omega) (by omega) (by omega) hI' h
theorem c_common_47 {post : Int32 → NM → Prop} {S0 : CS} {N0 : NM} {q q2 hq : Nat} {ts ts2 : List tm} {i b x : Int} {mc ms : Nat} (hK : kOk K) (hv : vF ts) (hv2 : vF ts2) (hL0 : cL K a S0 N0) (hF : cF K N0 q ts) (hF2 : cF K N0 q2 ts2) (hn : N0 hq = none) (hi : i32 i) (hx : -3000 ≤ x) (hxb : x ≤ b) (hb : b ≤ 3000) (h : ∀ S' N', cW K a S0 N0 S' N' → post (iI (missR (both0 (Wy ts) (Wy ts2)) i (b - x + 1).toNat 0 x)) N') : ∀ (m : Nat) (k : Int) (S : CS) (N : NM) (f : Nat → Int32), k + m = b + 1 → x ≤ k → cW K a S0 N0 S N → N hq = some (eN 2 6001 f) → (∀ n : Int, x ≤ n → n < k → f (n + 3000).toNat = (if 0 < Wy ts n then 1 else 0)) → wX0_common_47 K post (m + 1) (a 0) (iI x) (iI b) (iI i) (some q) (some q2) hq (iI k) mc ms N := by
  have ho := hL0.outN hn
  intro m
  induction m with
  | zero =>
    intro k S N f hk hk0 hI hN hf
    unfold wX0_common_47
    refine b_t (by simp (disch := omega) only [iLit, lLit, iI_add, iI_sub, iI_mul, iI_neg, lI_add, lI_sub, lI_mul, lI_neg, nI_i, lI_i, iI_l, iI_nat, iI_lt, iI_le, iI_eq, lI_lt, lI_le, lI_eq] <;> omega) ⟨(b - x + 1).toNat + 1, ?_⟩
    exact c_common_93 hK hv2 hI.1 (hF2.kp hL0 hI.2.1) hN ho (fun n n1 n2 => hf n n1 (by omega)) hi hx hb _ 0 x S N (by omega) (by omega) (by omega) (by omega) (cW.start hI.1 hI.2.2.2) (fun S' N' hI' => h S' N' (hI.trans hI'))
  | succ m ih =>
    intro k S N f hk hk0 hI hN hf
    unfold wX0_common_47
    refine b_f (by simp (disch := omega) only [iLit, lLit, iI_add, iI_sub, iI_mul, iI_neg, lI_add, lI_sub, lI_mul, lI_neg, nI_i, lI_i, iI_l, iI_nat, iI_lt, iI_le, iI_eq, lI_lt, lI_le, lI_eq] <;> omega) ⟨_, _, _, _, _, _, _, _, _, _, _, _, _, _, _, _, _, _, _, hI.1.obj, ?_⟩
    refine c_wy hK hv hI.1 (hF.kp hL0 hI.2.1) (cW.start hI.1 hI.2.2.2) (by omega) (fun r S' N' er r0 r1 hI' => ?_)
    have hN' := hI'.2.1 hq _ hN ho
    have e1 : (3000 : Int32) + iI k = iI (k + 3000) := (iI_add 3000 k).trans (by congr 1; omega)
    have fin : ∀ v : Int32, v = (if 0 < Wy ts k then 1 else 0) → wX0_common_80 K (fun x0 x3 x4 x5 x6 x7 x8 x9 mc ms N => wX0_common_47 K post (m + 1) x0 x3 x4 x5 x6 x7 x8 x9 mc ms N) post (a 0) (iI x) (iI b) (iI i) (some q) (some q2) hq (iI k) v (iI (k + 3000)) hq mc ms N' := fun v ev => by
      unfold wX0_common_80
      refine ⟨_, _, hN', iI_in (by omega) (by omega) (by omega), fun N127 eN => ?_⟩
      subst eN
      rw [show iI k + (1 : Int32) = iI (k + 1) from iI_add k 1, iI_nat (by omega) (by omega)]
      have hnar : vp_nar .boolean v = v := by
        rw [ev]
        split <;> rfl
      rw [hnar]
      refine ih (k + 1) S' _ _ (by omega) (by omega) ((hI.trans hI').new hn ho (fun e he => by rw [hN'] at he; cases he; rfl) _) (up_eq _ _ _) (fun n n1 n2 => ?_)
      by_cases c : n = k
      · rw [c, upd_eq]; exact ev
      · rw [upd_ne _ _ _ (by omega)]; exact hf n n1 (by omega)
    rw [e1, show (0 : Int64) = lI 0 from rfl, lI_le (by omega) (by omega) (by omega) (by omega)]
    refine ⟨fun e => fin 0 ?_, fun e => fin 1 ?_⟩
    · rw [if_neg (by omega)]
    · rw [if_pos (by omega)]
theorem c_common {post : Int32 → NM → Prop} {MC MS : Nat} {S : CS} {N : NM} {F : Nat → List tm} {z z2 x y i : Int} (hK : kOk K) (hL : cL K a S N) (hF : cSlots K S N F) (hc : cLaid K S N) (hz : i32 z) (hz2 : i32 z2) (hx : i32 x) (hy : i32 y) (hi : i32 i) (hMC : 10 ≤ MC) (hMS : 7000 ≤ MS) (h0 : ¬ (0 ≤ z ∧ z ≤ 3 ∧ F z.toNat ≠ [] ∧ 0 ≤ z2 ∧ z2 ≤ 3 ∧ F z2.toNat ≠ [] ∧ -3000 ≤ x ∧ x ≤ y ∧ y ≤ 3000) → post (iI (-100000)) N) (h1 : ∀ (s s2 : Nat) S' N', s < 4 → z = s → F s ≠ [] → s2 < 4 → z2 = s2 → F s2 ≠ [] → -3000 ≤ x → x ≤ y → y ≤ 3000 → cW K a S N S' N' → post (iI (missR (both0 (Wy (F s)) (Wy (F s2))) i (y - x + 1).toNat 0 x)) N') : wX0_common K post MC MS N (a 0) (iI z) (iI z2) (iI x) (iI y) (iI i) := by
  unfold wX0_common
  refine ⟨_, _, _, _, _, _, _, _, _, _, _, _, _, _, _, _, _, _, _, hL.obj, 3, 210, by omega, by omega, c_at hL hF hz (by omega) (by omega) (fun hq => ?_) (fun s q hs e hne hq hf hv => ?_)⟩
  · refine ⟨_, _, _, _, _, _, _, _, _, _, _, _, _, _, _, _, _, _, _, hL.obj, 3, 210, by omega, by omega, c_at hL hF hz2 (by omega) (by omega) (fun hq2 => ?_) (fun s2 q2 hs2 e2 hne2 hq2 hf2 hv2 => ?_)⟩
    · exact ⟨fun _ => h0 (fun w => hq ⟨w.1, w.2.1, w.2.2.1⟩), fun _ e => by cases e⟩
    · exact ⟨fun _ => h0 (fun w => hq ⟨w.1, w.2.1, w.2.2.1⟩), fun _ e => by cases e⟩
  · refine ⟨_, _, _, _, _, _, _, _, _, _, _, _, _, _, _, _, _, _, _, hL.obj, 3, 210, by omega, by omega, c_at hL hF hz2 (by omega) (by omega) (fun hq2 => ?_) (fun s2 q2 hs2 e2 hne2 hq2 hf2 hv2 => ?_)⟩
    · exact ⟨fun e => (by cases e), fun _ _ => ⟨fun _ => h0 (fun w => hq2 ⟨w.2.2.2.1, w.2.2.2.2.1, w.2.2.2.2.2.1⟩), fun _ e => by cases e⟩⟩
    · refine ⟨fun e => (by cases e), fun _ _ => ⟨fun e => (by cases e), fun _ _ => ?_⟩⟩
      refine c_isSpan hx hy (fun n1 n2 n3 => b_f (by decide) ?_) (fun hc => b_t rfl (h0 (fun w => hc (by omega))))
      have e6 : (6001 : Int32).toNatClampNeg = 6001 := by decide
      rw [e6]
      refine ⟨by decide, by omega, by omega, by omega, fun nq hnq N67 eN => ⟨(y - x + 1).toNat + 1, ?_⟩⟩
      subst eN
      refine c_common_47 hK hv hv2 hL hf hf2 hnq hi n1 n2 n3 (fun S' N' hI => h1 s s2 S' N' hs e hne hs2 e2 hne2 n1 n2 n3 hI) _ x S _ (fun _ => 0) (by omega) (by omega) ((cW.start hL hc).new hnq (hL.outN hnq) (fun e he => by rw [hnq] at he; cases he) _) (up_eq _ _ _) (fun n q1 q2 => by omega)
theorem c_rest {post : Int64 → NM → Prop} {S : CS} {N : NM} {ts : List tm} {i : Nat} {z : Int} (hL : cL K a S N) (hv : vF ts) (hr : rowsL S ts) (hi : i < ts.length) (hz : -1000000 ≤ z ∧ z ≤ 1000000) (h : ∀ r : Int, r = Wy (ts.drop (i + 1)) z → 0 ≤ r → r < 9223372036854775808 → post (lI r) N) : wX0_rest K post N (a 0) (iI i) (lI z) := by
  have h5 := hv.1
  unfold wX0_rest
  show wX0_isIn _ (lI z) (lI (-15000)) (lI 15000)
  refine c_isIn (by omega) (by omega) (by omega) (fun c1 c2 => b_f (by decide) ?_) (fun c => b_t rfl ?_)
  · obtain ⟨ff, g1, g2⟩ := hL.frm
    have i1 : iI (i : Int) + 1 = iI ((i + 1 : Nat) : Int) := iI_add i 1
    refine ⟨_, _, _, _, _, _, _, _, _, _, _, _, _, _, _, _, _, _, _, hL.obj, a 4, rfl, _, _, g1, ?_⟩
    rw [i1, lI_i, show iI z + (15000 : Int32) = iI (z + 15000) from iI_add z 15000]
    refine ⟨iI_in (by omega) (by omega) (by omega), a (10 + (i + 1)), by rw [nat_i (by omega)]; exact g2 (i + 1) (by omega), _, _, hL.row (k := i + 1) (by omega), iI_in (by omega) (by omega) (by omega), ?_⟩
    rw [iI_nat (by omega) (by omega), hr (i + 1) (by omega) (z + 15000) (by omega) (by omega)]
    unfold wR
    rw [show z + 15000 - 15000 = z by omega]
    exact h _ rfl (Wy_nn _ _) (Wy_lt (hv.drop _) _)
  · have := h 0 (by rw [Wy_sup5 (hv.drop (i + 1)) (by omega)]) (by omega) (by omega)
    exact this
theorem c_way_91 {K71 : Nat → Int32 → Option Nat → Int64 → Int64 → Int32 → Int32 → Nat → Nat → NM → Prop} {post : Int32 → NM → Prop} {S : CS} {N : NM} {q j mc ms : Nat} {ts : List tm} {t : tm} {n : Int} {x5 : Int32} (hL : cL K a S N) (hF : cF K N q ts) (hv : vF ts) (hr : rowsL S ts) (ht : ts[j]? = some t) (hn : -100000 ≤ n ∧ n ≤ 100000) : ∀ (m : Nat) (x k : Int), x + m = t.2.2.2 + 1 → t.2.2.1 ≤ x → 0 ≤ k → k < 9223372036854775808 → k < uI x t.2.2.2 (fun x => Wy (ts.drop (j + 1)) (n - tv t x)) → K71 (a 0) x5 (some q) (lI (n - tv t (srch (fun x => Wy (ts.drop (j + 1)) (n - tv t x)) m x k).1)) (lI (srch (fun x => Wy (ts.drop (j + 1)) (n - tv t x)) m x k).2) (iI (srch (fun x => Wy (ts.drop (j + 1)) (n - tv t x)) m x k).1) (iI ((j + 1 : Nat) : Int)) mc ms N → wX0_way_91 K K71 post m (a 0) x5 (some q) (lI n) (lI k) (iI x) (iI j) mc ms N := by
  have h5 := hv.1
  have hj := (List.getElem?_eq_some_iff.mp ht).1
  have hvt := hv.2 t (List.mem_of_getElem? ht)
  have hlo := hvt.lo
  have hF' := hF
  obtain ⟨y, f, f1, f2, f3⟩ := hF'
  obtain ⟨u, u1, u2⟩ := f3 j t ht
  have j1 : iI (j : Int) + 1 = iI ((j + 1 : Nat) : Int) := iI_add j 1
  intro m
  induction m with
  | zero => intro x k hm hx h0 h9 h1 h; rw [uI_none _ (by omega)] at h1; omega
  | succ m ih =>
    intro x k hm hx h0 h9 h1 h
    have hb := hvt.tv hx (by omega)
    have e0 := uI_first (lo := x) (hi := t.2.2.2) (fun x => Wy (ts.drop (j + 1)) (n - tv t x)) (by omega)
    have hin : vp_in (iI (j : Int)) ts.length := iI_in (by omega) (by omega) (by omega)
    have hat : f (iI (j : Int)).toNatClampNeg = some u := by rw [nat_i (by omega)]; exact u1
    unfold wX0_way_91
    unfold srch at h
    refine ⟨q, rfl, _, f1, y, rfl, _, _, f2, hin, u, hat, _, _, _, _, u2, ?_⟩
    rw [iI_l (by omega) (by omega)]
    refine c_value hvt u2 (by omega) (by omega) ⟨_, _, _, _, _, _, _, _, _, _, _, _, _, _, _, _, _, _, _, hL.obj, ?_⟩
    rw [lI_sub]
    refine c_rest hL hv hr hj (by omega) (fun r er r0 r1 => ?_)
    rw [← er] at h
    rw [← er] at e0
    rw [lI_lt (by omega) (by omega) (by omega) (by omega)]
    refine ⟨fun e => ⟨_, f1, y, rfl, _, _, f2, hin, u, hat, _, _, _, _, u2, ?_⟩, fun e => ⟨_, f1, y, rfl, _, _, f2, hin, u, hat, _, _, _, _, u2, ?_⟩⟩
    · rw [if_pos e] at h
      refine c_value hvt u2 (by omega) (by omega) ?_
      rw [lI_sub, j1]
      exact h
    · rw [if_neg e] at h
      refine c_value hvt u2 (by omega) (by omega) ⟨_, _, _, _, _, _, _, _, _, _, _, _, _, _, _, _, _, _, _, hL.obj, ?_⟩
      rw [lI_sub]
      refine c_rest hL hv hr hj (by omega) (fun r' er' _ _ => ?_)
      rw [← er] at er'
      subst er'
      rw [lI_sub, show iI x + (1 : Int32) = iI (x + 1) from iI_add x 1]
      exact ih (x + 1) (k - r') (by omega) (by omega) (by omega) (by omega) (by omega) h
theorem c_way_71 {post : Int32 → NM → Prop} {S : CS} {N : NM} {q i mc ms : Nat} {ts : List tm} (hL : cL K a S N) (hF : cF K N q ts) (hv : vF ts) (hr : rowsL S ts) (hi : i < ts.length) : ∀ (m t : Nat) (k n : Int) (x : Int32), t + m = i + 1 → (m = 0 → post x N) → (m ≠ 0 → 0 ≤ k ∧ k < Wy (ts.drop t) n ∧ -(3000 * (6 + t : Int)) ≤ n ∧ n ≤ 3000 * (6 + t : Int) ∧ ∃ y, (fnd (ts.drop t) k n)[m - 1]? = some y ∧ post (iI y) N) → wX0_way_71 K post (m + 1) (a 0) (iI i) (some q) (lI n) (lI k) x (iI t) mc ms N := by
  have h5 := hv.1
  intro m
  induction m with
  | zero =>
    intro t k n x ht h1 h2
    unfold wX0_way_71
    exact b_t (by simp (disch := omega) only [iLit, lLit, iI_add, iI_sub, iI_mul, iI_neg, lI_add, lI_sub, lI_mul, lI_neg, nI_i, lI_i, iI_l, iI_nat, iI_lt, iI_le, iI_eq, lI_lt, lI_le, lI_eq] <;> omega) (h1 rfl)
  | succ m ih =>
    intro j k n x hm h1 h2
    obtain ⟨k1, k2, n1, n2, y, hy, hp⟩ := h2 (by omega)
    obtain ⟨t, ht⟩ : ∃ t, ts[j]? = some t := ⟨_, List.getElem?_eq_getElem (by omega)⟩
    have hd : ts.drop j = t :: ts.drop (j + 1) := by
      obtain ⟨h1, h2⟩ := List.getElem?_eq_some_iff.mp ht
      rw [← h2]; exact List.drop_eq_getElem_cons h1
    have hvt := hv.2 t (List.mem_of_getElem? ht)
    have hlo := hvt.lo
    have hF' := hF
    obtain ⟨y0, f, f1, f2, f3⟩ := hF'
    obtain ⟨u, u1, u2⟩ := f3 j t ht
    have k3 : k < 9223372036854775808 := Int.lt_trans k2 (Wy_lt (hv.drop j) n)
    rw [hd, Wy_cons] at k2
    rw [hd, fnd_cons] at hy
    have hso := srch_ok (fun x => Wy (ts.drop (j + 1)) (n - tv t x)) t.2.2.2 (t.2.2.2 - t.2.2.1 + 1).toNat t.2.2.1 k (by omega) k1 k2
    have hb := hvt.tv hso.1 hso.2.1
    unfold wX0_way_71
    refine b_f (by simp (disch := omega) only [iLit, lLit, iI_add, iI_sub, iI_mul, iI_neg, lI_add, lI_sub, lI_mul, lI_neg, nI_i, lI_i, iI_l, iI_nat, iI_lt, iI_le, iI_eq, lI_lt, lI_le, lI_eq] <;> omega) ⟨q, rfl, _, f1, y0, rfl, _, _, f2, iI_in (by omega) (by omega) (by omega), u, by rw [nat_i (by omega)]; exact u1, _, _, _, _, u2, (t.2.2.2 - t.2.2.1 + 1).toNat, ?_⟩
    refine c_way_91 hL hF hv hr ht (by omega) _ t.2.2.1 k (by omega) (by omega) k1 k3 k2 ?_
    refine ih (j + 1) _ _ _ (by omega) (fun e => ?_) (fun e => ⟨hso.2.2.1, hso.2.2.2, by omega, by omega, y, ?_, hp⟩)
    · subst e
      cases hy
      exact hp
    · rw [show m + 1 - 1 = (m - 1) + 1 by omega] at hy
      exact hy
theorem c_way {post : Int32 → NM → Prop} {MC MS : Nat} {S : CS} {N : NM} {F : Nat → List tm} {z n k i : Int} (hK : kOk K) (hL : cL K a S N) (hF : cSlots K S N F) (hc : cLaid K S N) (hz : i32 z) (hn : i32 n) (hk : i64 k) (hi : i32 i) (hMC : 3 ≤ MC) (hMS : 210 ≤ MS)
    (h0 : ¬ (0 ≤ z ∧ z ≤ 3 ∧ F z.toNat ≠ [] ∧ -3000 ≤ n ∧ n ≤ 3000 ∧ 0 ≤ i ∧ i < (F z.toNat).length) → post (iI (-100000)) N) (h1 : ∀ (s j : Nat) S' N', s < 4 → z = s → F s ≠ [] → -3000 ≤ n → n ≤ 3000 → i = j → j < (F s).length → ¬ (0 ≤ k ∧ k < Wy (F s) n) → cW K a S N S' N' → post (iI (-100000)) N') (h2 : ∀ (s j : Nat) (y : Int) S' N', s < 4 → z = s → F s ≠ [] → -3000 ≤ n → n ≤ 3000 → i = j → 0 ≤ k → k < Wy (F s) n → (fnd (F s) k n)[j]? = some y → cW K a S N S' N' → post (iI y) N') : wX0_way K post MC MS N (a 0) (iI z) (iI n) (lI k) (iI i) := by
  unfold wX0_way
  refine ⟨_, _, _, _, _, _, _, _, _, _, _, _, _, _, _, _, _, _, _, hL.obj, 3, 210, hMC, hMS, c_at hL hF hz (by omega) (by omega) (fun hq => ⟨fun _ => h0 (fun w => hq ⟨w.1, w.2.1, w.2.2.1⟩), fun _ e => by cases e⟩) (fun s q hs e hne hq hf hv => ⟨fun e => (by cases e), fun _ ea => ?_⟩)⟩
  cases ea
  subst e
  have hf' := hf
  obtain ⟨y, f, f1, f2, f3⟩ := hf'
  have h5 := hv.1
  rw [show ((s : Int)).toNat = s by omega] at h0
  refine c_isNumber hn (fun n1 n2 => b_f (by decide) ⟨_, f1, c_many0 hf ?_⟩) (fun hc => b_t rfl (h0 (fun w => hc ⟨w.2.2.2.1, w.2.2.2.2.1⟩)))
  rw [show iI ((F s).length : Int) - 1 = iI (((F s).length : Int) - 1) from iI_sub _ 1, iI_l hi.1 hi.2, iI_l (z := ((F s).length : Int) - 1) (by omega) (by omega)]
  refine c_isIn (b := 0) (by omega) (by omega) (by omega) (fun c1 c2 => b_f (by decide) ⟨_, _, _, _, _, _, _, _, _, _, _, _, _, _, _, _, _, _, _, hL.obj, ?_⟩) (fun c => b_t rfl (h0 (fun w => c ⟨w.2.2.2.2.2.1, by omega⟩)))
  refine c_waysOf hK hL hf hv hc ⟨n1, n2⟩ (fun S' N' hL' hk' he h5' hr => ?_)
  have hW : cW K a S N S' N' := ⟨hL', hk', he, Or.inr ⟨q, F s, h5', hf.kp hL hk', hv, hr⟩⟩
  have hwn := Wy_nn (F s) n
  have hwl := Wy_lt hv n
  rw [show lI (Wy (F s) n) - (1 : Int64) = lI (Wy (F s) n - 1) from lI_sub _ 1]
  refine c_isIn (b := 0) hk (by omega) (by omega) (fun d1 d2 => b_f (by decide) ⟨i.toNat + 2, ?_⟩) (fun d => b_t rfl (h1 s i.toNat S' N' hs rfl hne n1 n2 (by omega) (by omega) (fun w => d ⟨w.1, by omega⟩) hW))
  rw [iI_l hn.1 hn.2, show iI i = iI ((i.toNat : Nat) : Int) by congr 1; omega]
  obtain ⟨y', hy'⟩ : ∃ y', (fnd (F s) k n)[i.toNat]? = some y' := ⟨_, List.getElem?_eq_getElem (by rw [fnd_len]; omega)⟩
  refine c_way_71 hL' (hf.kp hL hk') hv hr (by omega) (i.toNat + 1) 0 k n _ (by omega) (fun e => by omega) (fun _ => ⟨d1, by rw [List.drop_zero]; omega, by omega, by omega, y', ?_, h2 s i.toNat y' S' N' hs rfl hne n1 n2 (by omega) d1 (by omega) hy' hW⟩)
  rw [List.drop_zero]; exact hy'
end
