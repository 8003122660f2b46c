set_option maxRecDepth 100000
set_option maxHeartbeats 4000000
/-! the component lays unlike ways -/
theorem idx_le {t : tm} : ∀ (ts : List tm) (k : Nat), ts[k]? = some t → ts.idxOf t ≤ k
  | [], k, h => by simp at h
  | x :: ts, 0, h => by
    cases h
    rw [List.idxOf_cons]
    simp
  | x :: ts, k + 1, h => by
    have := idx_le ts k h
    rw [List.idxOf_cons]
    cases (x == t) with
    | true => exact Nat.zero_le _
    | false =>
      show ts.idxOf t + 1 ≤ k + 1
      omega
/-- how the component counts like terms -/
def lkS (ts : List tm) (t : tm) (i : Nat) : Nat → Nat
  | 0 => 0
  | j + 1 => lkS ts t i j + (if ts[j]? = some t then (if j < i then 6 else 1) else 0)
theorem lkS_first {ts : List tm} {t : tm} {i : Nat} (h : ∀ k, k < i → ts[k]? ≠ some t) : ∀ j, j ≤ ts.length → lkS ts t i j = (ts.take j).count t
  | 0, _ => by rw [List.take_zero]; rfl
  | j + 1, hj => by
    obtain ⟨u, hu⟩ : ∃ u, ts[j]? = some u := ⟨_, List.getElem?_eq_getElem (by omega)⟩
    have e3 : ts.take (j + 1) = ts.take j ++ [u] := by
      rw [List.take_add_one, hu]; rfl
    unfold lkS
    rw [lkS_first h j (by omega), e3, List.count_append, hu]
    congr 1
    by_cases e : u = t
    · subst e
      have hji : ¬ j < i := fun z => h j z hu
      rw [if_pos rfl, if_neg hji]
      simp
    · rw [if_neg (fun z => e (Option.some.inj z))]
      simp [e]
theorem lkS_more {ts : List tm} {t : tm} {i k : Nat} (hk : k < i) (ht : ts[k]? = some t) : ∀ j, k < j → 6 ≤ lkS ts t i j
  | 0, h => by omega
  | j + 1, h => by
    unfold lkS
    by_cases e : k = j
    · subst e
      rw [if_pos ht, if_pos hk]; omega
    · have := lkS_more hk ht j (by omega)
      omega
theorem lkS_le {ts : List tm} {t : tm} {i : Nat} : ∀ j, lkS ts t i j ≤ 6 * j
  | 0 => Nat.le_refl _
  | j + 1 => by
    have := lkS_le (ts := ts) (t := t) (i := i) j
    unfold lkS
    split
    · split <;> omega
    · omega
theorem lnS_mono {pt : List Nat} {i : Nat} : ∀ d : Nat, lnS pt i ≤ lnS pt (i + d)
  | 0 => Nat.le_refl _
  | d + 1 => by
    have := lnS_mono (pt := pt) (i := i) d
    show _ ≤ (if pt.getD (i + d) 0 = i + d then szP pt (i + d) + lnS pt (i + d) else lnS pt (i + d))
    split <;> omega
theorem wR_far {L : List tm} (hv : ∀ t ∈ L, vT t) {s : Int} (h : wR L s ≠ 0) (h5 : L.length ≤ 5) : 0 ≤ s ∧ s ≤ 30000 := by
  have := Wy_sup L hv (s - 15000) h
  omega
theorem un_sup {ts : List tm} {t : tm} {i m c : Nat} (hv : vF ts) (hne : ts ≠ []) (ht : ts[i]? = some t) (he : ts.idxOf t = i) (hm : m ≤ tcnt t) (hc : c ≤ ts.count t) : sup (hM (tv t) t.2.2.1 (unW ts w0R i) m c) := fun s hs => by
  have hi := (List.getElem?_eq_some_iff.mp ht).1
  obtain ⟨n1, L, l1, l2, l3⟩ := unW_cap hv.2 i (by omega)
  obtain ⟨ks, -, -, -, -, -, -, -, h5⟩ := pat_ok hne hv.1
  have h0 := hM_nn (v := tv t) (lo := t.2.2.1) n1 m c s
  have h1 := hM_mono (v := tv t) (lo := t.2.2.1) n1 c s m (tcnt t - m)
  rw [show m + (tcnt t - m) = tcnt t by omega] at h1
  have h2 := hM_many (t := t) n1 l3 c s
  have hln : ts.count t + lnS (pat ts) i = lnS (pat ts) (i + 1) := by
    show _ = (if (pat ts).getD i 0 = i then szP (pat ts) i + lnS (pat ts) i else lnS (pat ts) i)
    rw [pat_at ht, if_pos he, count_pat ht he]
  have hln2 := lnS_mono (pt := pat ts) (i := i + 1) (ts.length - (i + 1))
  rw [show i + 1 + (ts.length - (i + 1)) = ts.length by omega] at hln2
  have hz : wR (List.replicate c t ++ L) s = 0 := Classical.byContradiction fun e => by
    have := wR_far (fun u hu => ?_) e (by rw [List.length_append, List.length_replicate, l1]; omega)
    · omega
    · rcases List.mem_append.mp hu with q | q
      · rw [(List.mem_replicate.mp q).2]; exact hv.2 t (List.mem_of_getElem? ht)
      · exact l2 u q
  omega
section
variable {K : Nat → Nat → Nat} {a : Nat → Nat}
theorem cL.lay {S : CS} {N : NM} (h : cL K a S N) : ∃ f, N (a 5) = some (eR 6 6 f) ∧ ∀ c, c < 6 → f c = some (a (10 + (6 + c))) := by
  obtain ⟨f, h1, h2⟩ := h.layers
  refine ⟨f, h1, fun c hc => ?_⟩
  rw [h2 c hc]
  show some (a (16 + c)) = _
  rw [show 10 + (6 + c) = 16 + c by omega]
/-- what laying unlike ways goes on with -/
abbrev cU (K : Nat → Nat → Nat) (a : Nat → Nat) (S0 : CS) (N0 : NM) (q : Nat) (S : CS) (N : NM) : Prop := cL K a S N ∧ kp a N0 N ∧ ulE S0 S ∧ S.1.1 6 = some q
theorem c_ul_152 {K28 : Nat → Option Nat → Int32 → NM → Prop} {K135 : Nat → Option Nat → Int32 → Int32 → Int32 → NM → Prop} {post : Unit → NM → Prop} {S0 : CS} {N0 : NM} {q i like m : Nat} {ts : List tm} {t : tm} {w : Int → Int} (hL0 : cL K a S0 N0) (hF0 : cF K N0 q ts) (hv : vF ts) (ht : ts[i]? = some t) (hlk : like ≤ 5) (hm : t.2.2.1 + m ≤ t.2.2.2) (hsup : ∀ m c, m ≤ tcnt t → c ≤ like → sup (hM (tv t) t.2.2.1 w m c))
    (h : ∀ S' N', cU K a S0 N0 q S' N' → (∀ j, j ≤ like → rowL (S'.2.2.2.1 (6 + j)) (hM (tv t) t.2.2.1 w (m + 1) j)) → K135 (a 0) (some q) (iI i) (iI like) (iI (t.2.2.1 + m + 1)) N') : ∀ (mm c : Nat) (S : CS) (N : NM), c + mm = like + 1 → 1 ≤ c → cU K a S0 N0 q S N → (∀ j, j ≤ like → j < c → rowL (S.2.2.2.1 (6 + j)) (hM (tv t) t.2.2.1 w (m + 1) j)) → (∀ j, j ≤ like → c ≤ j → rowL (S.2.2.2.1 (6 + j)) (hM (tv t) t.2.2.1 w m j)) → wX0_laysUnlike_152 K K28 K135 post (mm + 1) (a 0) (some q) (iI i) (iI like) (iI (t.2.2.1 + m)) (iI c) N := by
  have h5 := hv.1
  have hi := (List.getElem?_eq_some_iff.mp ht).1
  have hvt := hv.2 t (List.mem_of_getElem? ht)
  have hlo := hvt.lo
  have hcnt : ((tcnt t : Nat) : Int) = t.2.2.2 - t.2.2.1 + 1 := by unfold tcnt; omega
  intro mm
  induction mm with
  | zero =>
    intro c S N hc hc1 hU h1 h2
    unfold wX0_laysUnlike_152
    refine b_t (by simp (disch := omega) only [iLit, lLit, iI_add, iI_sub, iI_mul, iI_neg, lI_add, lI_sub, lI_mul, lI_neg, nI_i, lI_i, iI_l, iI_nat, iI_lt, iI_le, iI_eq, lI_lt, lI_le, lI_eq] <;> omega) ?_
    rw [show iI (t.2.2.1 + m) + (1 : Int32) = iI (t.2.2.1 + m + 1) from iI_add _ 1]
    exact h S N hU (fun j hj => h1 j hj (by omega))
  | succ mm ih =>
    intro c S N hc hc1 hU h1 h2
    obtain ⟨hL, hk, he, h6⟩ := hU
    obtain ⟨y, f, f1, f2, f3⟩ := hF0.kp hL0 hk
    obtain ⟨z, z1, z2⟩ := f3 i t ht
    obtain ⟨ff, g1, g2⟩ := hL.lay
    have c1 : iI (c : Int) - 1 = iI ((c - 1 : Nat) : Int) := (iI_sub c 1).trans (by congr 1; omega)
    unfold wX0_laysUnlike_152
    refine b_f (by simp (disch := omega) only [iLit, lLit, iI_add, iI_sub, iI_mul, iI_neg, lI_add, lI_sub, lI_mul, lI_neg, nI_i, lI_i, iI_l, iI_nat, iI_lt, iI_le, iI_eq, lI_lt, lI_le, lI_eq] <;> omega) ⟨_, _, _, _, _, _, _, _, _, _, _, _, _, _, _, _, _, _, _, hL.obj, a 5, rfl, _, _, g1, iI_in (by omega) (by omega) (by omega), by rw [c1]; exact iI_in (by omega) (by omega) (by omega), q, rfl, _, f1, y, rfl, _, _, f2, iI_in (by omega) (by omega) (by omega), z, by rw [nat_i (by omega)]; exact z1, _, _, _, _, z2, ?_⟩
    rw [iI_l (by omega) (by omega), c1]
    refine c_value hvt z2 (by omega) (by omega) ⟨a (10 + (6 + c)), ?_, a (10 + (6 + (c - 1))), ?_, ?_⟩
    · rw [nat_i (by omega)]; exact g2 c (by omega)
    · rw [nat_i (by omega)]; exact g2 (c - 1) (by omega)
    have htv := hvt.tv (x := t.2.2.1 + m) (by omega) (by omega)
    rw [lI_i]
    refine c_adds (i := 6 + c) (j := 6 + (c - 1)) hL (by omega) (by omega) (by omega) (by omega) (h2 c (by omega) (by omega)) (h1 (c - 1) (by omega) (by omega)) (hsup (m + 1) (c - 1) (by omega) (by omega)) (fun N' g' hL' hk' hr' => ?_)
    rw [show iI (c : Int) + 1 = iI ((c + 1 : Nat) : Int) from iI_add c 1]
    refine ih (c + 1) (cG S (6 + c) g') N' (by omega) (by omega) ⟨hL', hk.trans hk', he.trans (ulE.G (by omega) g'), h6⟩ (fun j hj1 hj2 => ?_) (fun j hj1 hj2 => ?_)
    · by_cases e : j = c
      · subst e
        rw [cG_at]
        intro s s1 s2
        rw [hr' s s1 s2]
        obtain ⟨c', hc'⟩ : ∃ c', j = c' + 1 := ⟨j - 1, by omega⟩
        subst hc'
        rw [hM_s]
        rfl
      · rw [cG_ne _ _ (by omega)]; exact h1 j hj1 (by omega)
    · rw [cG_ne _ _ (by omega)]; exact h2 j hj1 (by omega)
theorem c_ul_135 {K28 : Nat → Option Nat → Int32 → NM → Prop} {post : Unit → NM → Prop} {S0 : CS} {N0 : NM} {q i like : Nat} {ts : List tm} {t : tm} {w : Int → Int} (hL0 : cL K a S0 N0) (hF0 : cF K N0 q ts) (hv : vF ts) (ht : ts[i]? = some t) (hlk : 1 ≤ like ∧ like ≤ 5) (hsup : ∀ m c, m ≤ tcnt t → c ≤ like → sup (hM (tv t) t.2.2.1 w m c))
    (h : ∀ S' N', cU K a S0 N0 q S' N' → rowL (S'.2.2.2.1 6) (hM (tv t) t.2.2.1 w (tcnt t) like) → K28 (a 0) (some q) (iI ((i + 1 : Nat) : Int)) N') : ∀ (mm m : Nat) (S : CS) (N : NM), m + mm = tcnt t → cU K a S0 N0 q S N → (∀ j, j ≤ like → rowL (S.2.2.2.1 (6 + j)) (hM (tv t) t.2.2.1 w m j)) → wX0_laysUnlike_135 K K28 post (mm + 1) (a 0) (some q) (iI i) (iI like) (iI (t.2.2.1 + m)) N := by
  have h5 := hv.1
  have hi := (List.getElem?_eq_some_iff.mp ht).1
  have hvt := hv.2 t (List.mem_of_getElem? ht)
  have hlo := hvt.lo
  have hcnt : ((tcnt t : Nat) : Int) = t.2.2.2 - t.2.2.1 + 1 := by unfold tcnt; omega
  intro mm
  induction mm with
  | zero =>
    intro m S N hm hU hr
    have hU' := hU
    obtain ⟨hL, hk, he, h6⟩ := hU'
    obtain ⟨y, f, f1, f2, f3⟩ := hF0.kp hL0 hk
    obtain ⟨z, z1, z2⟩ := f3 i t ht
    obtain ⟨ff, g1, g2⟩ := hL.lay
    have h16 : N (a 16) = some (eL 1 30001 (S.2.2.2.1 6)) := hL.row (k := 6) (by omega)
    unfold wX0_laysUnlike_135
    refine ⟨q, rfl, _, f1, y, rfl, _, _, f2, iI_in (by omega) (by omega) (by omega), z, by rw [nat_i (by omega)]; exact z1, _, _, _, _, z2, b_t (by simp (disch := omega) only [iLit, lLit, iI_add, iI_sub, iI_mul, iI_neg, lI_add, lI_sub, lI_mul, lI_neg, nI_i, lI_i, iI_l, iI_nat, iI_lt, iI_le, iI_eq, lI_lt, lI_le, lI_eq] <;> omega) ?_⟩
    refine ⟨_, _, _, _, _, _, _, _, _, _, _, _, _, _, _, _, _, _, _, hL.obj, a 5, rfl, _, _, g1, iI_in (by omega) (by omega) (by omega), iI_in (z := 0) (by omega) (by omega) (by omega), a 16, g2 0 (by omega), a (10 + (6 + like)), by rw [nat_i (by omega)]; exact g2 like (by omega), _, _, h16, _, _, hL.row (k := 6 + like) (by omega), by decide, by decide, by decide, by decide, by decide, fun N164 eN => ?_⟩
    have hc := cpyL (g := S.2.2.2.1 6) (hr like (Nat.le_refl _))
    generalize hg6 : va_cpy (S.2.2.2.1 (6 + like)) (S.2.2.2.1 6) (0 : Int32).toNatClampNeg (0 : Int32).toNatClampNeg (30001 : Int32).toNatClampNeg = g6 at hc eN
    subst eN
    have hL2 : cL K a (cG S 6 g6) (va_up N (a 16) (some (eL 1 30001 g6))) := hL.setRow (r := 6) (by omega) g6
    unfold wX0_laysUnlike_222
    rw [show iI (i : Int) + 1 = iI ((i + 1 : Nat) : Int) from iI_add i 1]
    refine h (cG S 6 g6) _ ⟨hL2, hk.at (i := 16) (by omega) _, he.trans (ulE.G (by omega) g6), h6⟩ ?_
    rw [cG_at, ← show m = tcnt t by omega]
    exact hc
  | succ mm ih =>
    intro m S N hm hU hr
    have hU' := hU
    obtain ⟨hL, hk, he, h6⟩ := hU'
    obtain ⟨y, f, f1, f2, f3⟩ := hF0.kp hL0 hk
    obtain ⟨z, z1, z2⟩ := f3 i t ht
    unfold wX0_laysUnlike_135
    refine ⟨q, rfl, _, f1, y, rfl, _, _, f2, iI_in (by omega) (by omega) (by omega), z, by rw [nat_i (by omega)]; exact z1, _, _, _, _, z2, b_f (by simp (disch := omega) only [iLit, lLit, iI_add, iI_sub, iI_mul, iI_neg, lI_add, lI_sub, lI_mul, lI_neg, nI_i, lI_i, iI_l, iI_nat, iI_lt, iI_le, iI_eq, lI_lt, lI_le, lI_eq] <;> omega) ⟨like + 1, ?_⟩⟩
    refine c_ul_152 (m := m) hL0 hF0 hv ht hlk.2 (by omega) hsup (fun S' N' hU' hr' => ?_) like 1 S N (by omega) (by omega) hU (fun j hj1 hj2 => ?_) (fun j hj1 hj2 => hr j hj1)
    · have := ih (m + 1) S' N' (by omega) hU' hr'
      rw [show t.2.2.1 + ((m + 1 : Nat) : Int) = t.2.2.1 + m + 1 by omega] at this
      exact this
    · have hj0 : j = 0 := by omega
      subst hj0
      have := hr 0 (by omega)
      rw [hM_0] at this ⊢
      exact this
theorem c_ul_101 {K28 : Nat → Option Nat → Int32 → NM → Prop} {post : Unit → NM → Prop} {S0 : CS} {N0 : NM} {q i like : Nat} {ts : List tm} {t : tm} {w : Int → Int} (hL0 : cL K a S0 N0) (hF0 : cF K N0 q ts) (hv : vF ts) (ht : ts[i]? = some t) (hlk : 1 ≤ like ∧ like ≤ 5) (hsup : ∀ m c, m ≤ tcnt t → c ≤ like → sup (hM (tv t) t.2.2.1 w m c))
    (h : ∀ S' N', cU K a S0 N0 q S' N' → rowL (S'.2.2.2.1 6) (hM (tv t) t.2.2.1 w (tcnt t) like) → K28 (a 0) (some q) (iI ((i + 1 : Nat) : Int)) N') : ∀ (mm c : Nat) (S : CS) (N : NM), c + mm = like + 1 → 1 ≤ c → cU K a S0 N0 q S N → (∀ j, j < c → rowL (S.2.2.2.1 (6 + j)) (hM (tv t) t.2.2.1 w 0 j)) → wX0_laysUnlike_101 K K28 post (mm + 1) (a 0) (some q) (iI i) (iI like) (iI c) N := by
  have h5 := hv.1
  have hi := (List.getElem?_eq_some_iff.mp ht).1
  intro mm
  induction mm with
  | zero =>
    intro c S N hc hc1 hU hr
    have hU' := hU
    obtain ⟨hL, hk, he, h6⟩ := hU'
    obtain ⟨y, f, f1, f2, f3⟩ := hF0.kp hL0 hk
    obtain ⟨z, z1, z2⟩ := f3 i t ht
    unfold wX0_laysUnlike_101
    refine b_t (by simp (disch := omega) only [iLit, lLit, iI_add, iI_sub, iI_mul, iI_neg, lI_add, lI_sub, lI_mul, lI_neg, nI_i, lI_i, iI_l, iI_nat, iI_lt, iI_le, iI_eq, lI_lt, lI_le, lI_eq] <;> omega) ⟨q, rfl, _, f1, y, rfl, _, _, f2, iI_in (by omega) (by omega) (by omega), z, by rw [nat_i (by omega)]; exact z1, _, _, _, _, z2, tcnt t + 1, ?_⟩
    have := c_ul_135 (post := post) hL0 hF0 hv ht hlk hsup h (tcnt t) 0 S N (by omega) hU (fun j hj => hr j (by omega))
    rw [show t.2.2.1 + ((0 : Nat) : Int) = t.2.2.1 by omega] at this
    exact this
  | succ mm ih =>
    intro c S N hc hc1 hU hr
    obtain ⟨hL, hk, he, h6⟩ := hU
    obtain ⟨ff, g1, g2⟩ := hL.lay
    unfold wX0_laysUnlike_101
    refine b_f (by simp (disch := omega) only [iLit, lLit, iI_add, iI_sub, iI_mul, iI_neg, lI_add, lI_sub, lI_mul, lI_neg, nI_i, lI_i, iI_l, iI_nat, iI_lt, iI_le, iI_eq, lI_lt, lI_le, lI_eq] <;> omega) ⟨_, _, _, _, _, _, _, _, _, _, _, _, _, _, _, _, _, _, _, hL.obj, a 5, rfl, _, _, g1, iI_in (by omega) (by omega) (by omega), a (10 + (6 + c)), by rw [nat_i (by omega)]; exact g2 c (by omega), c_fill (hL.row (k := 6 + c) (by omega)) (by omega) (fun g hg => ?_)⟩
    rw [show iI (c : Int) + 1 = iI ((c + 1 : Nat) : Int) from iI_add c 1]
    refine ih (c + 1) (cG S (6 + c) g) _ (by omega) (by omega) ⟨hL.setRow (r := 6 + c) (by omega) g, hk.at (i := 10 + (6 + c)) (by omega) _, he.trans (ulE.G (by omega) g), h6⟩ (fun j hj => ?_)
    by_cases e : j = c
    · subst e
      rw [cG_at]
      intro s s1 s2
      rw [hg _ (by omega)]
      show (0 : Int64) = lI ((if j = 0 then w else fun _ => 0) s)
      rw [if_neg (by omega)]
      rfl
    · rw [cG_ne _ _ (by omega)]; exact hr j (by omega)
theorem c_isLike {post : Int32 → NM → Prop} {N : NM} {y z : Nat} {t u : tm} (hK : kOk K) (ht : vT t) (hu : vT u) (hy : N y = some (oTm K t)) (hz : N z = some (oTm K u)) (h1 : t = u → post 1 N) (h0 : t ≠ u → post 0 N) : wX4_isLike K post N y (some z) := by
  have c1 := ht.1
  have c2 := ht.2.1
  have c3 := ht.2.2.1
  have c4 := ht.2.2.2.1
  have c5 := ht.lo
  have d1 := hu.1
  have d2 := hu.2.1
  have d3 := hu.2.2.1
  have d4 := hu.2.2.2.1
  have d5 := hu.lo
  unfold wX4_isLike
  refine ⟨_, _, _, _, hy, z, rfl, _, _, _, _, hz, ?_⟩
  rw [iI_eq (by omega) (by omega) (by omega) (by omega), iI_eq (by omega) (by omega) (by omega) (by omega), iI_eq (by omega) (by omega) (by omega) (by omega)]
  refine ⟨fun e1 => ⟨fun e2 => ⟨fun e3 => ⟨fun e4 => h1 ?_, fun e4 => h0 (fun q => e4 (by rw [q]))⟩, fun e3 => h0 (fun q => e3 (by rw [q]))⟩, fun e2 => h0 (fun q => e2 (by rw [q]))⟩, fun e1 => h0 (fun q => e1 (by rw [q]))⟩
  have e2 := Option.some.inj e2
  have := hK _ _ (by omega) (by omega) e2
  obtain ⟨a1, a2, a3, a4⟩ := t
  obtain ⟨b1, b2, b3, b4⟩ := u
  simp only [] at *
  have : a2 = b2 := by omega
  subst e1 e3 e4 this
  rfl
theorem c_ul_41 {K28 : Nat → Option Nat → Int32 → NM → Prop} {post : Unit → NM → Prop} {N : NM} {q i : Nat} {ts : List tm} {t : tm} (hK : kOk K) (hF : cF K N q ts) (hv : vF ts) (ht : ts[i]? = some t) (h : (lkS ts t i ts.length ≤ 5 → ∃ k, wX0_laysUnlike_101 K K28 post k (a 0) (some q) (iI i) (iI (lkS ts t i ts.length : Nat)) (1 : Int32) N) ∧ (¬ lkS ts t i ts.length ≤ 5 → K28 (a 0) (some q) (iI ((i + 1 : Nat) : Int)) N)) : ∀ (m k : Nat), k + m = ts.length → wX0_laysUnlike_41 K K28 post (m + 1) (a 0) (some q) (iI i) (iI (lkS ts t i k : Nat)) (iI k) N := by
  have h5 := hv.1
  have hi := (List.getElem?_eq_some_iff.mp ht).1
  have hvt := hv.2 t (List.mem_of_getElem? ht)
  have hF' := hF
  obtain ⟨y, f, f1, f2, f3⟩ := hF'
  obtain ⟨z, z1, z2⟩ := f3 i t ht
  intro m
  induction m with
  | zero =>
    intro k hk
    have hle := lkS_le (ts := ts) (t := t) (i := i) ts.length
    rw [show k = ts.length by omega]
    unfold wX0_laysUnlike_41
    refine ⟨q, rfl, _, f1, c_many0 hF (b_t (by simp (disch := omega) only [iLit, lLit, iI_add, iI_sub, iI_mul, iI_neg, lI_add, lI_sub, lI_mul, lI_neg, nI_i, lI_i, iI_l, iI_nat, iI_lt, iI_le, iI_eq, lI_lt, lI_le, lI_eq] <;> omega) ?_)⟩
    rw [show (5 : Int32) = iI 5 from rfl, iI_le (by omega) (by omega) (by omega) (by omega)]
    refine ⟨fun e => h.1 (by omega), fun e => ?_⟩
    unfold wX0_laysUnlike_222
    rw [show iI (i : Int) + 1 = iI ((i + 1 : Nat) : Int) from iI_add i 1]
    exact h.2 (by omega)
  | succ m ih =>
    intro k hk
    have hle := lkS_le (ts := ts) (t := t) (i := i) k
    obtain ⟨u, hu⟩ : ∃ u, ts[k]? = some u := ⟨_, List.getElem?_eq_getElem (by omega)⟩
    have hvu := hv.2 u (List.mem_of_getElem? hu)
    obtain ⟨v, v1, v2⟩ := f3 k u hu
    have nx := ih (k + 1) (by omega)
    have e0 : lkS ts t i (k + 1) = lkS ts t i k + (if ts[k]? = some t then (if k < i then 6 else 1) else 0) := rfl
    have k1 : iI (k : Int) + 1 = iI ((k + 1 : Nat) : Int) := iI_add k 1
    unfold wX0_laysUnlike_41
    refine ⟨q, rfl, _, f1, c_many0 hF (b_f (by simp (disch := omega) only [iLit, lLit, iI_add, iI_sub, iI_mul, iI_neg, lI_add, lI_sub, lI_mul, lI_neg, nI_i, lI_i, iI_l, iI_nat, iI_lt, iI_le, iI_eq, lI_lt, lI_le, lI_eq] <;> omega) ⟨_, f1, y, rfl, _, _, f2, iI_in (by omega) (by omega) (by omega), iI_in (by omega) (by omega) (by omega), v, by rw [nat_i (by omega)]; exact v1, _, _, _, _, v2, ?_⟩)⟩
    rw [nat_i (by omega), z1]
    refine c_isLike hK hvu hvt v2 z2 (fun e => b_f (by decide) ?_) (fun e => b_t rfl ?_)
    · subst e
      rw [hu, if_pos rfl] at e0
      rw [iI_le (by omega) (by omega) (by omega) (by omega)]
      unfold wX0_laysUnlike_82 wX0_laysUnlike_84
      rw [k1]
      refine ⟨fun c => ?_, fun c => ?_⟩
      · rw [if_neg (by omega)] at e0
        rw [show iI (lkS ts u i k : Int) + 1 = iI ((lkS ts u i k + 1 : Nat) : Int) from iI_add _ 1, ← e0]
        exact nx
      · rw [if_pos (by omega)] at e0
        rw [show iI (lkS ts u i k : Int) + 6 = iI ((lkS ts u i k + 6 : Nat) : Int) from iI_add _ 6, ← e0]
        exact nx
    · rw [hu, if_neg (fun q => e (Option.some.inj q))] at e0
      rw [show lkS ts t i (k + 1) = lkS ts t i k by omega] at nx
      unfold wX0_laysUnlike_84
      rw [k1]
      exact nx
theorem c_ul_28 {post : Unit → NM → Prop} {S0 : CS} {N0 : NM} {q : Nat} {ts : List tm} (hK : kOk K) (hL0 : cL K a S0 N0) (hF0 : cF K N0 q ts) (hv : vF ts) (hne : ts ≠ [])
    (h : ∀ S' N', cU K a S0 N0 q S' N' → rowL (S'.2.2.2.1 6) (unW ts w0R ts.length) → post () N') : ∀ (m i : Nat) (S : CS) (N : NM), i + m = ts.length → cU K a S0 N0 q S N → rowL (S.2.2.2.1 6) (unW ts w0R i) → wX0_laysUnlike_28 K post (m + 1) (a 0) (some q) (iI i) N := by
  have h5 := hv.1
  intro m
  induction m with
  | zero =>
    intro i S N hi hU hr
    have hF := hF0.kp hL0 hU.2.1
    have hF' := hF
    obtain ⟨y, f, f1, f2, f3⟩ := hF'
    unfold wX0_laysUnlike_28
    refine ⟨q, rfl, _, f1, c_many0 hF (b_t (by simp (disch := omega) only [iLit, lLit, iI_add, iI_sub, iI_mul, iI_neg, lI_add, lI_sub, lI_mul, lI_neg, nI_i, lI_i, iI_l, iI_nat, iI_lt, iI_le, iI_eq, lI_lt, lI_le, lI_eq] <;> omega) ?_)⟩
    rw [show i = ts.length by omega] at hr
    exact h S N hU hr
  | succ m ih =>
    intro i S N hi hU hr
    have hF := hF0.kp hL0 hU.2.1
    have hF' := hF
    obtain ⟨y, f, f1, f2, f3⟩ := hF'
    obtain ⟨t, ht⟩ : ∃ t, ts[i]? = some t := ⟨_, List.getElem?_eq_getElem (by omega)⟩
    have ew : unW ts w0R (i + 1) = if ts.idxOf t = i then hM (tv t) t.2.2.1 (unW ts w0R i) (tcnt t) (ts.count t) else unW ts w0R i := by
      rw [unW, ht]
    unfold wX0_laysUnlike_28
    refine ⟨q, rfl, _, f1, c_many0 hF (b_f (by simp (disch := omega) only [iLit, lLit, iI_add, iI_sub, iI_mul, iI_neg, lI_add, lI_sub, lI_mul, lI_neg, nI_i, lI_i, iI_l, iI_nat, iI_lt, iI_le, iI_eq, lI_lt, lI_le, lI_eq] <;> omega) ⟨ts.length + 1, ?_⟩)⟩
    refine c_ul_41 hK hF hv ht ⟨fun hl => ?_, fun hl => ?_⟩ ts.length 0 (by omega)
    · have hidx : ts.idxOf t = i := Classical.byContradiction fun c => by
        have := lkS_more (i := i) (show ts.idxOf t < i by have := idx_le ts i ht; omega) (idx_at (List.mem_of_getElem? ht)) ts.length (by have := idx_le ts i ht; omega)
        omega
      have hcnt : lkS ts t i ts.length = ts.count t := by
        rw [lkS_first (fun k hk e => by have := idx_le ts k e; omega) ts.length (Nat.le_refl _), List.take_length]
      have hc1 : 1 ≤ ts.count t := List.count_pos_iff.mpr (List.mem_of_getElem? ht)
      rw [hcnt] at hl ⊢
      refine ⟨ts.count t + 1, ?_⟩
      refine c_ul_101 (w := unW ts w0R i) hL0 hF0 hv ht ⟨hc1, hl⟩ (fun m c hm hc => un_sup hv hne ht hidx hm hc) (fun S' N' hU' hr' => ih (i + 1) S' N' (by omega) hU' (by rw [ew, if_pos hidx]; exact hr')) (ts.count t) 1 S N (by omega) (by omega) hU (fun j hj => ?_)
      have hj0 : j = 0 := by omega
      subst hj0
      exact hr
    · have hidx : ts.idxOf t ≠ i := fun c => by
        have hcnt : lkS ts t i ts.length = ts.count t := by
          rw [lkS_first (fun k hk e => by have := idx_le ts k e; omega) ts.length (Nat.le_refl _), List.take_length]
        have := List.count_le_length (a := t) (l := ts)
        omega
      exact ih (i + 1) S N (by omega) hU (by rw [ew, if_neg hidx]; exact hr)
/-- what is laid of unlike ways -/
def cUnl (K : Nat → Nat → Nat) (S : CS) (N : NM) : Prop := S.1.1 6 = none ∨ ∃ q ts, S.1.1 6 = some q ∧ cF K N q ts ∧ vF ts ∧ rowL (S.2.2.2.1 6) (unW ts w0R ts.length)
theorem cUnl.up {S : CS} {N : NM} {x : Nat} {e' : Option NE} (h : cUnl K S N) (hx : ∀ e, N x = some e → fk e = 0) : cUnl K S (va_up N x e') := by
  rcases h with h | ⟨q, ts, h1, h2, h3, h4⟩
  · exact Or.inl h
  · exact Or.inr ⟨q, ts, h1, h2.up hx, h3, h4⟩
theorem cUnl.ly {S S' : CS} {N N' : NM} (hL : cL K a S N) (hk : kp a N N') (he : lyEq S S') (h : cUnl K S N) : cUnl K S' N' := by
  rcases h with h | ⟨q, ts, h1, h2, h3, h4⟩
  · exact Or.inl (by rw [he.2.1 6 (by omega)]; exact h)
  · refine Or.inr ⟨q, ts, by rw [he.2.1 6 (by omega)]; exact h1, h2.kp hL hk, h3, ?_⟩
    rw [he.2.2.2.2.1 6 (by omega)]; exact h4
/-- what a look that lays unlike ways leaves -/
def cWU (K : Nat → Nat → Nat) (a : Nat → Nat) (S : CS) (N : NM) (S' : CS) (N' : NM) : Prop := cL K a S' N' ∧ kp a N N' ∧ ulE S S' ∧ cUnl K S' N'
theorem c_uo_13 {post : Int64 → NM → Prop} {S : CS} {N : NM} {ts : List tm} {n : Int} (hL : cL K a S N) (hr : rowL (S.2.2.2.1 6) (unW ts w0R ts.length)) (hn : -3000 ≤ n ∧ n ≤ 3000) (h : post (lI (unS ts n)) N) : wX0_unlikeOf_13 K post (a 0) (iI n) N := by
  obtain ⟨ff, g1, g2⟩ := hL.layers
  have h16 : N (a 16) = some (eL 1 30001 (S.2.2.2.1 6)) := hL.row (k := 6) (by omega)
  unfold wX0_unlikeOf_13
  refine ⟨_, _, _, _, _, _, _, _, _, _, _, _, _, _, _, _, _, _, _, hL.obj, a 5, rfl, _, _, g1, iI_in (z := 0) (by omega) (by omega) (by omega), a 16, g2 0 (by omega), _, _, h16, ?_⟩
  rw [show (15000 : Int32) + iI n = iI (n + 15000) from (iI_add 15000 n).trans (by congr 1; omega), iI_nat (by omega) (by omega), hr (n + 15000) (by omega) (by omega)]
  exact ⟨iI_in (by omega) (by omega) (by omega), h⟩
theorem c_unlikeOf {post : Int64 → NM → Prop} {S0 S : CS} {N0 N : NM} {q : Nat} {ts : List tm} {n : Int} (hK : kOk K) (hL0 : cL K a S0 N0) (hF0 : cF K N0 q ts) (hv : vF ts) (hne : ts ≠ []) (hI : cWU K a S0 N0 S N) (hn : -3000 ≤ n ∧ n ≤ 3000)
    (h : ∀ S' N', cWU K a S0 N0 S' N' → post (lI (unS ts n)) N') : wX0_unlikeOf K post N (a 0) (some q) (iI n) := by
  have h5 := hv.1
  obtain ⟨hL, hk, he, hc⟩ := hI
  have hF := hF0.kp hL0 hk
  unfold wX0_unlikeOf
  refine ⟨_, _, _, _, _, _, _, _, _, _, _, _, _, _, _, _, _, _, _, hL.obj, fun e => ?_, fun e => ?_⟩
  · rcases hc with hc | ⟨q', ts', c1, c2, c3, c4⟩
    · rw [hc] at e; cases e
    · have e1 := e
      rw [c1] at e1
      have e1 : q' = q := Option.some.inj e1
      rw [e1] at c1 c2
      have := cF.inj hK c2 hF c3.2 hv.2
      subst this
      exact c_uo_13 hL c4 hn (h S N ⟨hL, hk, he, Or.inr ⟨q, ts', c1, c2, c3, c4⟩⟩)
  · unfold wX0_laysUnlike
    refine ⟨_, _, _, _, _, _, _, _, _, _, _, _, _, _, _, _, _, _, _, hL.obj, fun N21 e21 => ?_⟩
    have e21 : N21 = va_up N (a 0) (some (oT a (cR S 6 (some q)))) := e21
    subst e21
    have hL1 : cL K a (cR S 6 (some q)) (va_up N (a 0) (some (oT a (cR S 6 (some q))))) := hL.setV rfl
    have hk1 := hk.at (i := 0) (by omega) (oT a (cR S 6 (some q)))
    obtain ⟨ff, g1, g2⟩ := hL1.layers
    have hrow6 : (va_up N (a 0) (some (oT a (cR S 6 (some q))))) (a 16) = some (eL 1 30001 (S.2.2.2.1 6)) := hL1.row (k := 6) (by omega)
    refine ⟨a 5, rfl, _, _, g1, iI_in (z := 0) (by omega) (by omega) (by omega), a 16, g2 0 (by omega), c_fill hrow6 (by omega) (fun g hg => ?_)⟩
    have hL2 : cL K a (cG (cR S 6 (some q)) 6 g) (va_up (va_up N (a 0) (some (oT a (cR S 6 (some q))))) (a 16) (some (eL 1 30001 g))) := hL1.setRow (r := 6) (by omega) g
    have hk2 := hk1.at (i := 16) (by omega) (eL 1 30001 g)
    obtain ⟨ff, g1, g2⟩ := hL2.layers
    have hrow : (va_up (va_up N (a 0) (some (oT a (cR S 6 (some q))))) (a 16) (some (eL 1 30001 g))) (a 16) = some (eL 1 30001 g) := up_eq _ _ _
    refine ⟨_, _, _, _, _, _, _, _, _, _, _, _, _, _, _, _, _, _, _, hL2.obj, a 5, rfl, _, _, g1, iI_in (z := 0) (by omega) (by omega) (by omega), a 16, g2 0 (by omega), _, _, hrow, iI_in (z := 15000) (by omega) (by omega) (by omega), fun N63 e63 => ⟨ts.length + 1, ?_⟩⟩
    generalize hg2 : vp_updL g (15000 : Int32).toNatClampNeg (1 : Int64) = g' at e63
    subst e63
    have hL3 : cL K a (cG (cG (cR S 6 (some q)) 6 g) 6 g') _ := hL2.setRow (r := 6) (by omega) g'
    have hk3 := hk2.at (i := 16) (by omega) (eL 1 30001 g')
    refine c_ul_28 hK hL0 hF0 hv hne (fun S' N' hU' hr' => c_uo_13 hU'.1 hr' hn (h S' N' ⟨hU'.1, hU'.2.1, hU'.2.2.1, Or.inr ⟨q, ts, hU'.2.2.2, hF0.kp hL0 hU'.2.1, hv, hr'⟩⟩)) ts.length 0 _ _ (by omega) ⟨hL3, hk3, ((he.trans (ulE.R (some q))).trans (ulE.G (by omega) g)).trans (ulE.G (by omega) g'), up_eq S.1.1 6 (some q)⟩ ?_
    rw [cG_at, ← hg2]
    intro s s1 s2
    show vp_updL g 15000 (1 : Int64) s.toNat = lI (w0R s)
    unfold vp_updL w0R
    by_cases e : s = 15000
    · rw [if_pos (by omega), if_pos e]; rfl
    · rw [if_neg (by omega), if_neg e, hg _ (by omega)]; rfl
theorem cWU.start {S : CS} {N : NM} (hL : cL K a S N) (hc : cUnl K S N) : cWU K a S N S N := ⟨hL, kp.refl a N, ulE.refl S, hc⟩
theorem c_unlike {post : Int64 → NM → Prop} {MC MS : Nat} {S : CS} {N : NM} {F : Nat → List tm} {z n : Int} (hK : kOk K) (hL : cL K a S N) (hF : cSlots K S N F) (hc : cUnl K S N) (hz : i32 z) (hn : i32 n) (hMC : 3 ≤ MC) (hMS : 210 ≤ MS) (h0 : ¬ (0 ≤ z ∧ z ≤ 3 ∧ F z.toNat ≠ [] ∧ -3000 ≤ n ∧ n ≤ 3000) → post (lI (-1)) N) (h1 : ∀ (s : Nat) S' N', s < 4 → z = s → F s ≠ [] → -3000 ≤ n → n ≤ 3000 → cWU K a S N S' N' → post (lI (unS (F s) n)) N') : wX0_unlike K post MC MS N (a 0) (iI z) (iI n) := by
  unfold wX0_unlike
  refine ⟨_, _, _, _, _, _, _, _, _, _, _, _, _, _, _, _, _, _, _, hL.obj, 3, 210, hMC, hMS, c_at hL hF hz (by omega) (by omega) (fun hq => ⟨fun _ => h0 (fun w => hq ⟨w.1, w.2.1, w.2.2.1⟩), fun _ e => by cases e⟩) (fun s q hs e hne hq hf hv => ⟨fun e => (by cases e), fun _ ea => ?_⟩)⟩
  refine c_isNumber hn (fun n1 n2 => b_f (by decide) ⟨_, _, _, _, _, _, _, _, _, _, _, _, _, _, _, _, _, _, _, hL.obj, ?_⟩) (fun hc => b_t rfl (h0 (fun w => hc w.2.2.2)))
  exact c_unlikeOf hK hL hf hv hne (cWU.start hL hc) ⟨n1, n2⟩ (fun S' N' hI => h1 s S' N' hs e hne n1 n2 hI)
theorem c_many_38 {post : Int32 → NM → Prop} {S0 : CS} {N0 : NM} {q mc ms : Nat} {ts : List tm} {k : Int} {x4 : Int32} {ex : Bool} (hK : kOk K) (hL0 : cL K a S0 N0) (hF0 : cF K N0 q ts) (hv : vF ts) (hne : ts ≠ []) (hk : 1 ≤ k ∧ k ≤ 1000000) (hx : (x4 = 0 ∧ ex = false) ∨ (x4 ≠ 0 ∧ ex = true)) : ∀ (m : Nat) (n : Int) (S : CS) (N : NM), n + m = 3001 → -3000 ≤ n → cWU K a S0 N0 S N → (∀ S' N', cWU K a S0 N0 S' N' → post (iI (manR (unS ts) k ex m n)) N') → wX0_many_38 K post (m + 1) (a 0) (iI k) x4 (some q) (iI n) mc ms N := by
  intro m
  induction m with
  | zero =>
    intro n S N hn hn0 hI h
    unfold wX0_many_38
    exact b_t (by simp (disch := omega) only [iLit, lLit, iI_add, iI_sub, iI_mul, iI_neg, lI_add, lI_sub, lI_mul, lI_neg, nI_i, lI_i, iI_l, iI_nat, iI_lt, iI_le, iI_eq, lI_lt, lI_le, lI_eq] <;> omega) (h S N hI)
  | succ m ih =>
    intro n S N hn hn0 hI h
    unfold wX0_many_38
    refine b_f (by simp (disch := omega) only [iLit, lLit, iI_add, iI_sub, iI_mul, iI_neg, lI_add, lI_sub, lI_mul, lI_neg, nI_i, lI_i, iI_l, iI_nat, iI_lt, iI_le, iI_eq, lI_lt, lI_le, lI_eq] <;> omega) ?_
    have hu := unS_in hv hne n
    rw [iI_l (by omega) (by omega)]
    unfold manR at h
    have nx : (¬ (if ex = true then unS ts n = k else k ≤ unS ts n)) → ∀ S' N', cWU K a S0 N0 S' N' → wX0_many_85 K (fun x0 x3 x4 x5 x6 mc ms N => wX0_many_38 K post (m + 1) x0 x3 x4 x5 x6 mc ms N) post (a 0) (iI k) x4 (some q) (iI n) mc ms N' := fun c S' N' hI' => by
      rw [if_neg c] at h
      unfold wX0_many_85
      rw [show iI n + (1 : Int32) = iI (n + 1) from iI_add n 1]
      exact ih (n + 1) S' N' (by omega) (by omega) hI' h
    rcases hx with ⟨q1, q2⟩ | ⟨q1, q2⟩
    · refine b_t q1 ⟨_, _, _, _, _, _, _, _, _, _, _, _, _, _, _, _, _, _, _, hI.1.obj, c_unlikeOf hK hL0 hF0 hv hne hI (by omega) (fun S' N' hI' => ?_)⟩
      rw [lI_lt (by omega) (by omega) (by omega) (by omega)]
      refine ⟨fun e => nx (by rw [q2, if_neg (by decide)]; omega) S' N' hI', fun e => ?_⟩
      rw [if_pos (show (if ex = true then unS ts n = k else k ≤ unS ts n) by rw [q2, if_neg (by decide)]; omega)] at h
      exact h S' N' hI'
    · refine b_f q1 ⟨_, _, _, _, _, _, _, _, _, _, _, _, _, _, _, _, _, _, _, hI.1.obj, c_unlikeOf hK hL0 hF0 hv hne hI (by omega) (fun S' N' hI' => ?_)⟩
      rw [lI_eq (by omega) (by omega) (by omega) (by omega)]
      refine ⟨fun e => ?_, fun e => nx (by rw [q2, if_pos rfl]; exact e) S' N' hI'⟩
      rw [if_pos (show (if ex = true then unS ts n = k else k ≤ unS ts n) by rw [q2, if_pos rfl]; exact e)] at h
      exact h S' N' hI'
theorem c_many {post : Int32 → NM → Prop} {MC MS : Nat} {S : CS} {N : NM} {F : Nat → List tm} {z n k : Int} {x4 : Int32} {ex : Bool} (hK : kOk K) (hL : cL K a S N) (hF : cSlots K S N F) (hc : cUnl K S N) (hz : i32 z) (hn : i32 n) (hk : i32 k) (hx : (x4 = 0 ∧ ex = false) ∨ (x4 ≠ 0 ∧ ex = true)) (hMC : 3 ≤ MC) (hMS : 210 ≤ MS)
    (h0 : ¬ (0 ≤ z ∧ z ≤ 3 ∧ F z.toNat ≠ [] ∧ -3000 ≤ n ∧ n ≤ 3000 ∧ 1 ≤ k ∧ k ≤ 1000000) → post (iI (-100000)) N) (h1 : ∀ (s : Nat) S' N', s < 4 → z = s → F s ≠ [] → -3000 ≤ n → n ≤ 3000 → 1 ≤ k → k ≤ 1000000 → cWU K a S N S' N' → post (iI (manR (unS (F s)) k ex (3001 - n).toNat n)) N') : wX0_many K post MC MS N (a 0) (iI z) (iI n) (iI k) x4 := by
  unfold wX0_many
  refine ⟨_, _, _, _, _, _, _, _, _, _, _, _, _, _, _, _, _, _, _, hL.obj, 3, 210, hMC, hMS, c_at hL hF hz (by omega) (by omega) (fun hq => ⟨fun _ => h0 (fun w => hq ⟨w.1, w.2.1, w.2.2.1⟩), fun _ e => by cases e⟩) (fun s q hs e hne hq hf hv => ⟨fun e => (by cases e), fun _ ea => ?_⟩)⟩
  refine c_isNumber hn (fun n1 n2 => b_f (by decide) ?_) (fun hc => b_t rfl (h0 (fun w => hc (by omega))))
  rw [iI_l hk.1 hk.2]
  refine c_isIn (b := 1) (c := 1000000) (by omega) (by omega) (by omega) (fun k1 k2 => b_f (by decide) ⟨(3001 - n).toNat + 1, ?_⟩) (fun hc => b_t rfl (h0 (fun w => hc (by omega))))
  exact c_many_38 hK hL hf hv hne ⟨k1, k2⟩ hx _ n S N (by omega) n1 (cWU.start hL hc) (fun S' N' hI => h1 s S' N' hs e hne n1 n2 k1 k2 hI)
end
