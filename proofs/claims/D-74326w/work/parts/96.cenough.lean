set_option maxRecDepth 100000
set_option maxHeartbeats 4000000
/-! the component: enough, unlike ways -/
def ulE (S S' : CS) : Prop := S'.1.2 = S.1.2 ∧ (∀ k, k ≠ 6 → S'.1.1 k = S.1.1 k) ∧ S'.2.1 = S.2.1 ∧ S'.2.2.1 = S.2.2.1 ∧ (∀ k, k < 6 ∨ 12 ≤ k → S'.2.2.2.1 k = S.2.2.2.1 k) ∧ S'.2.2.2.2 = S.2.2.2.2
theorem ulE.refl (S : CS) : ulE S S := ⟨rfl, fun _ _ => rfl, rfl, rfl, fun _ _ => rfl, rfl⟩
theorem ulE.trans {S S' S'' : CS} (h : ulE S S') (g : ulE S' S'') : ulE S S'' := ⟨g.1.trans h.1, fun k a => (g.2.1 k a).trans (h.2.1 k a), g.2.2.1.trans h.2.2.1, g.2.2.2.1.trans h.2.2.2.1, fun k a => (g.2.2.2.2.1 k a).trans (h.2.2.2.2.1 k a), g.2.2.2.2.2.trans h.2.2.2.2.2⟩
theorem ulE.G {S : CS} {k : Nat} (hk : 6 ≤ k ∧ k < 12) (g : Nat → Int64) : ulE S (cG S k g) := ⟨rfl, fun _ _ => rfl, rfl, rfl, fun j a => up_ne _ _ _ (by omega), rfl⟩
theorem ulE.R {S : CS} (v : Option Nat) : ulE S (cR S 6 v) := ⟨rfl, fun _ a => up_ne _ _ _ a, rfl, rfl, fun _ _ => rfl, rfl⟩
section
variable {K : Nat → Nat → Nat} {a : Nat → Nat}
theorem cLaid.ul {S S' : CS} {N N' : NM} (hL : cL K a S N) (hk : kp a N N') (he : ulE S S') (h : cLaid K S N) : cLaid K S' N' := by
  rcases h with h | ⟨q, ts, h1, h2, h3, h4⟩
  · exact Or.inl (by rw [he.2.1 5 (by omega)]; exact h)
  · refine Or.inr ⟨q, ts, by rw [he.2.1 5 (by omega)]; exact h1, h2.kp hL hk, h3, fun i hi => ?_⟩
    have := h3.1
    rw [he.2.2.2.2.1 i (by omega)]; exact h4 i hi
theorem cpyL {f g : Nat → Int64} {w : Int → Int} (h : rowL f w) : rowL (va_cpy f g (0 : Int32).toNatClampNeg (0 : Int32).toNatClampNeg (30001 : Int32).toNatClampNeg) w := fun s s1 s2 => by
  have e0 : (0 : Int32).toNatClampNeg = 0 := by decide
  have e1 : (30001 : Int32).toNatClampNeg = 30001 := by decide
  rw [e0, e1]
  unfold va_cpy
  rw [if_pos (by omega), show 0 + (s.toNat - 0) = s.toNat by omega]
  exact h s s1 s2
theorem c_en_79 {K48 : Nat → Int32 → Option Nat → Int32 → Nat → Nat → NM → Prop} {post : Int32 → NM → Prop} {S0 S : CS} {N0 : NM} {q i mc ms : Nat} {ts : List tm} {t : tm} {n : Int} (hL0 : cL K a S0 N0) (hF0 : cF K N0 q ts) (hv : vF ts) (ht : ts[i]? = some t) (hn : -3000 ≤ n ∧ n ≤ 3000) {w : Int → Int} (hw : rowL (S.2.2.2.1 6) w) (hok : okW i w)
    (h : ∀ N' g g6, cL K a (cG (cG S 7 g) 6 g6) N' → kp a N0 N' → rowL g6 (LyT t w) → (if LyT t w (n + 15000) ≤ 0 then K48 (a 0) (iI n) (some q) (iI ((i + 1 : Nat) : Int)) mc ms N' else post (iI ((i + 1 : Nat) : Int)) N')) : ∀ (m : Nat) (x : Int) (N : NM) (g : Nat → Int64), x + m = t.2.2.2 + 1 → t.2.2.1 ≤ x → cL K a (cG S 7 g) N → kp a N0 N → rowL g (fun s => uI t.2.2.1 (x - 1) (fun x => w (s - tv t x))) → wX0_enough_79 K K48 post (m + 1) (a 0) (iI n) (some q) (iI i) (iI x) mc ms N := by
  have h5 := hv.1
  have hi := (List.getElem?_eq_some_iff.mp ht).1
  have hvt := hv.2 t (List.mem_of_getElem? ht)
  have hlo := hvt.lo
  have hz := hok.sup (by omega)
  have i1 : iI (i : Int) + 1 = iI ((i + 1 : Nat) : Int) := iI_add i 1
  intro m
  induction m with
  | zero =>
    intro x N g hx hx0 hL hk hr
    obtain ⟨y, f, f1, f2, f3⟩ := hF0.kp hL0 hk
    obtain ⟨z, z1, z2⟩ := f3 i t ht
    obtain ⟨ff, g1, g2⟩ := hL.layers
    have hr' : rowL g (LyT t w) := fun s s1 s2 => by
      rw [hr s s1 s2]
      show lI (uI t.2.2.1 (x - 1) (fun x => w (s - tv t x))) = _
      rw [show x - 1 = t.2.2.2 by omega]
      rfl
    have h6 : N (a 16) = some (eL 1 30001 (S.2.2.2.1 6)) := hL.row (k := 6) (by omega)
    have h7 : N (a 17) = some (eL 1 30001 g) := hL.row (k := 7) (by omega)
    unfold wX0_enough_79
    refine ⟨q, rfl, _, f1, y, rfl, _, _, f2, iI_in (by omega) (by omega) (by omega), z, by rw [nat_i (by omega)]; exact z1, _, _, _, _, z2, b_t (by simp (disch := omega) only [iLit, lLit, iI_add, iI_sub, iI_mul, iI_neg, lI_add, lI_sub, lI_mul, lI_neg, nI_i, lI_i, iI_l, iI_nat, iI_lt, iI_le, iI_eq, lI_lt, lI_le, lI_eq] <;> omega) ?_⟩
    refine ⟨_, _, _, _, _, _, _, _, _, _, _, _, _, _, _, _, _, _, _, hL.obj, a 5, rfl, _, _, g1, iI_in (z := 1) (by omega) (by omega) (by omega), iI_in (z := 0) (by omega) (by omega) (by omega), a 16, g2 0 (by omega), a 17, g2 1 (by omega), _, _, h6, _, _, h7, by decide, by decide, by decide, by decide, by decide, fun N213 eN => ⟨iI_in (z := 0) (by omega) (by omega) (by omega), ?_⟩⟩
    have hc := cpyL (g := S.2.2.2.1 6) hr'
    generalize hg6 : va_cpy g (S.2.2.2.1 6) (0 : Int32).toNatClampNeg (0 : Int32).toNatClampNeg (30001 : Int32).toNatClampNeg = g6 at hc eN ⊢
    subst eN
    have hL2 : cL K a (cG (cG S 7 g) 6 g6) (va_up N (a 16) (some (eL 1 30001 g6))) := hL.setRow (r := 6) (by omega) g6
    have hk2 := hk.at (i := 16) (by omega) (eL 1 30001 g6)
    have hh := h _ g g6 hL2 hk2 hc
    rw [show (15000 : Int32) + iI n = iI (n + 15000) from (iI_add 15000 n).trans (by congr 1; omega), iI_nat (by omega) (by omega), hc (n + 15000) (by omega) (by omega), i1]
    refine ⟨iI_in (by omega) (by omega) (by omega), ?_⟩
    have hb := (hok.step hvt).lt (by omega) (n + 15000)
    rw [show (0 : Int64) = lI 0 from rfl, lI_le (by omega) (by omega) (by omega) (by omega)]
    exact ⟨fun e => by rw [if_pos e] at hh; exact hh, fun e => by rw [if_neg e] at hh; exact hh⟩
  | succ m ih =>
    intro x N g hx hx0 hL hk hr
    obtain ⟨y, f, f1, f2, f3⟩ := hF0.kp hL0 hk
    obtain ⟨z, z1, z2⟩ := f3 i t ht
    obtain ⟨ff, g1, g2⟩ := hL.layers
    unfold wX0_enough_79
    have hin : vp_in (iI (i : Int)) ts.length := iI_in (by omega) (by omega) (by omega)
    refine ⟨q, rfl, _, f1, y, rfl, _, _, f2, hin, z, by rw [nat_i (by omega)]; exact z1, _, _, _, _, z2, b_f (by simp (disch := omega) only [iLit, lLit, iI_add, iI_sub, iI_mul, iI_neg, lI_add, lI_sub, lI_mul, lI_neg, nI_i, lI_i, iI_l, iI_nat, iI_lt, iI_le, iI_eq, lI_lt, lI_le, lI_eq] <;> omega) ?_⟩
    refine ⟨_, _, _, _, _, _, _, _, _, _, _, _, _, _, _, _, _, _, _, hL.obj, a 5, rfl, _, _, g1, iI_in (z := 1) (by omega) (by omega) (by omega), iI_in (z := 0) (by omega) (by omega) (by omega), hin, ?_⟩
    rw [iI_l (by omega) (by omega)]
    refine c_value hvt z2 (by omega) (by omega) ⟨a 17, g2 1 (by omega), a 16, g2 0 (by omega), ?_⟩
    have htv := hvt.tv hx0 (by omega)
    rw [lI_i]
    refine c_adds (i := 7) (j := 6) hL (by omega) (by omega) (by omega) (by omega) (by rw [cG_at]; exact hr) (by rw [cG_ne _ _ (by omega)]; exact hw) hz (fun N' g' hL' hk' hr' => ?_)
    rw [cG_cG] at hL'
    rw [show iI x + (1 : Int32) = iI (x + 1) from iI_add x 1]
    refine ih (x + 1) N' g' (by omega) (by omega) hL' (hk.trans hk') (fun s s1 s2 => ?_)
    rw [hr' s s1 s2]
    have e := uI_end (lo := t.2.2.1) (hi := x - 1) (fun x => w (s - tv t x)) (by omega)
    rw [show x - 1 + 1 = x by omega] at e
    show lI (uI t.2.2.1 (x - 1) (fun x => w (s - tv t x)) + w (s - tv t x)) = lI (uI t.2.2.1 (x + 1 - 1) (fun x => w (s - tv t x)))
    rw [show x + 1 - 1 = x by omega, e]
theorem c_en_48 {post : Int32 → NM → Prop} {S0 : CS} {N0 : NM} {q mc ms : Nat} {ts : List tm} {n : Int} (hL0 : cL K a S0 N0) (hF0 : cF K N0 q ts) (hv : vF ts) (hn : -3000 ≤ n ∧ n ≤ 3000) : ∀ (m j : Nat) (w : Int → Int) (S : CS) (N : NM), j + m = ts.length → okW j w → cL K a S N → kp a N0 N → ulE S0 S → S.1.1 6 = none → rowL (S.2.2.2.1 6) w → (∀ S' N', cL K a S' N' → kp a N0 N' → ulE S0 S' → S'.1.1 6 = none → post (iI (enoR (ts.drop j) w n j)) N') → wX0_enough_48 K post (m + 1) (a 0) (iI n) (some q) (iI j) mc ms N := by
  have h5 := hv.1
  intro m
  induction m with
  | zero =>
    intro j w S N hm hok hL hk he h6 hr h
    have hF := hF0.kp hL0 hk
    have hF' := hF
    obtain ⟨y, f, f1, f2, f3⟩ := hF'
    unfold wX0_enough_48
    refine ⟨q, rfl, _, f1, c_many0 hF (b_t (by simp (disch := omega) only [iLit, lLit, iI_add, iI_sub, iI_mul, iI_neg, lI_add, lI_sub, lI_mul, lI_neg, nI_i, lI_i, iI_l, iI_nat, iI_lt, iI_le, iI_eq, lI_lt, lI_le, lI_eq] <;> omega) ?_)⟩
    rw [List.drop_of_length_le (by omega)] at h
    exact h S N hL hk he h6
  | succ m ih =>
    intro j w S N hm hok hL hk he h6 hr h
    have hF := hF0.kp hL0 hk
    have hF' := hF
    obtain ⟨y, f, f1, f2, f3⟩ := hF'
    obtain ⟨t, ht⟩ : ∃ t, ts[j]? = some t := ⟨_, List.getElem?_eq_getElem (by omega)⟩
    have hd : ts.drop j = t :: ts.drop (j + 1) := by
      obtain ⟨h1, h2⟩ := List.getElem?_eq_some_iff.mp ht
      rw [← h2]; exact List.drop_eq_getElem_cons h1
    have hvt := hv.2 t (List.mem_of_getElem? ht)
    have hlo := hvt.lo
    obtain ⟨ff, g1, g2⟩ := hL.layers
    have hrow7 : N (a 17) = some (eL 1 30001 (S.2.2.2.1 7)) := hL.row (k := 7) (by omega)
    unfold wX0_enough_48
    refine ⟨q, rfl, _, f1, c_many0 hF (b_f (by simp (disch := omega) only [iLit, lLit, iI_add, iI_sub, iI_mul, iI_neg, lI_add, lI_sub, lI_mul, lI_neg, nI_i, lI_i, iI_l, iI_nat, iI_lt, iI_le, iI_eq, lI_lt, lI_le, lI_eq] <;> omega) ⟨_, _, _, _, _, _, _, _, _, _, _, _, _, _, _, _, _, _, _, hL.obj, a 5, rfl, _, _, g1, iI_in (z := 1) (by omega) (by omega) (by omega), a 17, g2 1 (by omega), c_fill hrow7 (by omega) (fun g hg => ?_)⟩)⟩
    have hL1 : cL K a (cG S 7 g) (va_up N (a 17) (some (eL 1 30001 g))) := hL.setRow (r := 7) (by omega) g
    have hk1 := hk.at (i := 17) (by omega) (eL 1 30001 g)
    obtain ⟨y, f, f1, f2, f3⟩ := hF0.kp hL0 hk1
    obtain ⟨z, z1, z2⟩ := f3 j t ht
    refine ⟨_, f1, y, rfl, _, _, f2, iI_in (by omega) (by omega) (by omega), z, by rw [nat_i (by omega)]; exact z1, _, _, _, _, z2, (t.2.2.2 + 1 - t.2.2.1).toNat + 1, ?_⟩
    rw [hd] at h
    unfold enoR at h
    refine c_en_79 (S := S) (w := w) hL0 hF0 hv ht hn hr hok (fun N' g' g6 hL' hk' hr' => ?_) _ t.2.2.1 _ g (by omega) (by omega) hL1 hk1 (fun s s1 s2 => ?_)
    · have he' : ulE S0 (cG (cG S 7 g') 6 g6) := (he.trans (ulE.G (by omega) _)).trans (ulE.G (by omega) _)
      split
      · rename_i e
        simp only [if_pos e] at h
        refine ih (j + 1) (LyT t w) (cG (cG S 7 g') 6 g6) N' (by omega) (hok.step hvt) hL' hk' he' h6 (by rw [cG_at]; exact hr') ?_
        rw [show ((j + 1 : Nat) : Int) = (j : Int) + 1 by omega]
        exact h
      · rename_i e
        simp only [if_neg e] at h
        rw [show ((j + 1 : Nat) : Int) = (j : Int) + 1 by omega]
        exact h _ N' hL' hk' he' h6
    · rw [hg _ (by omega)]
      show (0 : Int64) = lI (uI t.2.2.1 (t.2.2.1 - 1) (fun x => w (s - tv t x)))
      rw [uI_none _ (by omega)]
      rfl
theorem c_enough {post : Int32 → NM → Prop} {MC MS : Nat} {S : CS} {N : NM} {F : Nat → List tm} {z n : Int} (hL : cL K a S N) (hF : cSlots K S N F) (hz : i32 z) (hn : i32 n) (hMC : 3 ≤ MC) (hMS : 210 ≤ MS) (h0 : ¬ (0 ≤ z ∧ z ≤ 3 ∧ F z.toNat ≠ [] ∧ -3000 ≤ n ∧ n ≤ 3000) → post (iI (-1)) N) (h1 : ∀ (s : Nat) S' N', s < 4 → z = s → F s ≠ [] → -3000 ≤ n → n ≤ 3000 → cL K a S' N' → kp a N N' → ulE S S' → S'.1.1 6 = none → post (iI (enoR (F s) w0R n 0)) N') : wX0_enough K post MC MS N (a 0) (iI z) (iI n) := by
  unfold wX0_enough
  refine ⟨_, _, _, _, _, _, _, _, _, _, _, _, _, _, _, _, _, _, _, hL.obj, 3, 210, hMC, hMS, c_at hL hF hz (by omega) (by omega) (fun hq => ⟨fun _ => h0 (fun w => hq ⟨w.1, w.2.1, w.2.2.1⟩), fun _ e => by cases e⟩) (fun s q hs e hne hq hf hv => ⟨fun e => (by cases e), fun _ ea => ?_⟩)⟩
  have h5 := hv.1
  obtain ⟨ff, g1, g2⟩ := hL.layers
  have hrow6 : N (a 16) = some (eL 1 30001 (S.2.2.2.1 6)) := hL.row (k := 6) (by omega)
  refine c_isNumber hn (fun n1 n2 => b_f (by decide) ⟨_, _, _, _, _, _, _, _, _, _, _, _, _, _, _, _, _, _, _, hL.obj, a 5, rfl, _, _, g1, iI_in (z := 0) (by omega) (by omega) (by omega), a 16, g2 0 (by omega), c_fill hrow6 (by omega) (fun g hg => ?_)⟩) (fun hc => b_t rfl (h0 (fun w => hc w.2.2.2)))
  have hL1 : cL K a (cG S 6 g) (va_up N (a 16) (some (eL 1 30001 g))) := hL.setRow (r := 6) (by omega) g
  have hk1 := (kp.refl a N).at (i := 16) (by omega) (eL 1 30001 g)
  refine ⟨_, _, _, _, _, _, _, _, _, _, _, _, _, _, _, _, _, _, _, hL1.obj, fun N81 e81 => ?_⟩
  have e81 : N81 = va_up (va_up N (a 16) (some (eL 1 30001 g))) (a 0) (some (oT a (cR (cG S 6 g) 6 none))) := e81
  subst e81
  have hL2 : cL K a (cR (cG S 6 g) 6 none) (va_up (va_up N (a 16) (some (eL 1 30001 g))) (a 0) (some (oT a (cR (cG S 6 g) 6 none)))) := hL1.setV rfl
  have hk2 := hk1.at (i := 0) (by omega) (oT a (cR (cG S 6 g) 6 none))
  obtain ⟨ff, g1, g2⟩ := hL2.layers
  have hrow : (va_up (va_up N (a 16) (some (eL 1 30001 g))) (a 0) (some (oT a (cR (cG S 6 g) 6 none)))) (a 16) = some (eL 1 30001 g) := hL2.row (k := 6) (by omega)
  refine ⟨a 5, rfl, _, _, g1, iI_in (z := 0) (by omega) (by omega) (by omega), a 16, g2 0 (by omega), _, _, hrow, iI_in (z := 15000) (by omega) (by omega) (by omega), fun N94 e94 => ⟨(F s).length + 1, ?_⟩⟩
  generalize hg2 : vp_updL g (15000 : Int32).toNatClampNeg (1 : Int64) = g' at e94
  subst e94
  have hL3 : cL K a (cG (cR (cG S 6 g) 6 none) 6 g') _ := hL2.setRow (r := 6) (by omega) g'
  have hk3 := hk2.at (i := 16) (by omega) (eL 1 30001 g')
  refine c_en_48 hL hf hv ⟨n1, n2⟩ (F s).length 0 w0R _ _ (by omega) okW_0 hL3 hk3 (((ulE.G (by omega) g).trans (ulE.R none)).trans (ulE.G (by omega) g')) (up_eq (cG S 6 g).1.1 6 none) ?_ (fun S' N' a1 a2 a3 a4 => h1 s S' N' hs e hne n1 n2 a1 a2 a3 a4)
  rw [cG_at, ← hg2]
  intro s s1 s2
  show vp_updL g 15000 (1 : Int64) s.toNat = lI (w0R s)
  unfold vp_updL w0R
  by_cases e : s = 15000
  · rw [if_pos (by omega), if_pos e]; rfl
  · rw [if_neg (by omega), if_neg e, hg _ (by omega)]; rfl
end
