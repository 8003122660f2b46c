set_option maxRecDepth 100000
set_option maxHeartbeats 4000000
/-! the component: write -/
section
variable {K : Nat → Nat → Nat} {a : Nat → Nat}
theorem cQ.dm {S0 S : CS} {N0 N : NM} (h : cQ K a S0 N0 S N) : dm N0 N := fun z hz => by
  by_cases c : ∃ i, i < 28 ∧ z = a i
  · obtain ⟨i, hi, rfl⟩ := c
    obtain ⟨e, he, -⟩ := h.1.kind hi
    rw [he]; exact fun e => by cases e
  · cases e : N0 z with
    | none => exact absurd e hz
    | some v => rw [h.2.1 z v e (fun i hi ei => c ⟨i, hi, ei⟩)]; exact fun e => by cases e
/-- ways, in any look -/
theorem c_wq {post : Int64 → NM → Prop} {S0 S : CS} {N0 N : NM} {q : Nat} {ts : List tm} {n : Int} (hK : kOk K) (hv : vF ts) (hL0 : cL K a S0 N0) (hF : cF K N0 q ts) (hQ : cQ K a S0 N0 S N) (hn : -3000 ≤ n ∧ n ≤ 3000) (h : ∀ S' N', cQ K a S0 N0 S' N' → kp a N N' → post (lI (Wy ts n)) N') : wX0_waysOf K post N (a 0) (some q) (iI n) := by
  have hF' : cF K N q ts := hF.kp hL0 hQ.2.1
  refine c_waysOf hK hQ.1 hF' hv hQ.2.2.2.2.2.2.1 hn (fun S' N' g1 g2 g3 g4 g5 => ?_)
  have hW : cW K a S N S' N' := ⟨g1, g2, g3, Or.inr ⟨q, ts, g4, hF'.kp hQ.1 g2, hv, g5⟩⟩
  exact h S' N' (hQ.trans (hW.Q hQ.1 hQ.2.2.2.2.2.2.2)) g2
def wrI (K : Nat → Nat → Nat) (a : Nat → Nat) (S0 : CS) (N0 N : NM) (x : Nat) (L : List Int) (w mc ms : Nat) : Prop := ∃ S bc bs, cQ K a S0 N0 S N ∧ sBd N0 N x L bc bs ∧ bc + 2 + 3 * w ≤ mc ∧ bs + 2310 + 210 * w ≤ ms
theorem c_wr_141 {K42 : Nat → Int32 → Int32 → Option Nat → Nat → Int32 → Nat → Nat → NM → Prop} {post : Int32 → NM → Prop} {S0 : CS} {N0 N : NM} {x w mc ms : Nat} {x1 x3 x6 : Int32} {x4 : Option Nat} {L : List Int} (hL0 : cL K a S0 N0) (hI : wrI K a S0 N0 N x L w mc ms) (hl : L.length ≤ 2300) (h : ∀ N' mc' ms', wrI K a S0 N0 N' x (L ++ [59]) w mc' ms' → K42 (a 0) x1 x3 x4 x (x6 + 1) mc' ms' N') : wX0_write_141 K K42 post (a 0) x1 x3 x4 x x6 mc ms N := by
  obtain ⟨S, bc, bs, hQ, hB, hc, hs⟩ := hI
  unfold wX0_write_141
  obtain ⟨f1, f2, f3, f4, o1⟩ := hB.x
  refine ⟨_, _, _, _, o1, ?_⟩
  obtain ⟨uc, us, bc1, bs1, u1, u2, hA⟩ := c_appC (K := K) (c := 59) hB (by omega) (by omega)
  refine ⟨uc, us, by omega, by omega, hA uc us (Nat.le_refl _) (Nat.le_refl _) _ (fun N1 hB1 hf1 => ?_)⟩
  exact h N1 _ _ ⟨S, bc1, bs1, hQ.fb hL0 hf1, hB1, by omega, by omega⟩
theorem c_wr_118 {K42 : Nat → Int32 → Int32 → Option Nat → Nat → Int32 → Nat → Nat → NM → Prop} {K81 : Nat → Int32 → Int32 → Option Nat → Nat → Int32 → Int32 → Nat → Nat → NM → Prop} {post : Int32 → NM → Prop} {S0 : CS} {N0 N : NM} {F : Nat → List tm} {s x j w mc ms : Nat} {x3 : Int32} {x4 : Option Nat} {n c y : Int} {L : List Int} (hK : kOk K) (hL0 : cL K a S0 N0) (hF : cSlots K S0 N0 F) (hs : s < 4) (hne : F s ≠ []) (hn : -3000 ≤ n ∧ n ≤ 3000) (hw : 0 < Wy (F s) n) (hc : 0 ≤ c ∧ c ≤ 127) (hy : (fnd (F s) 0 n)[j]? = some y) (hI : wrI K a S0 N0 N x L (w + 1) mc ms) (hl : L.length ≤ 2290) (h : ∀ N' mc' ms', wrI K a S0 N0 N' x (L ++ (c :: numS y)) w mc' ms' → K81 (a 0) (iI (s : Nat)) x3 x4 x (iI n) (iI (j : Nat) + 1) mc' ms' N') : wX0_write_118 K K42 K81 post (a 0) (iI (s : Nat)) x3 x4 x (iI n) (iI (j : Nat)) (iI c) x mc ms N := by
  obtain ⟨S, bc, bs, hQ, hB, hcc, hss⟩ := hI
  have hj := (List.getElem?_eq_some_iff.mp hy).1
  have hv := (hF s hs).1
  rw [fnd_len] at hj
  have h5 := hv.1
  have hy2 := fnd_in (F s) 0 n hv.2 (by omega) hw y (List.mem_of_getElem? hy)
  unfold wX0_write_118
  obtain ⟨f1, f2, f3, f4, o1⟩ := hB.x
  refine ⟨_, _, _, _, o1, ?_⟩
  obtain ⟨uc, us, bc1, bs1, u1, u2, hA⟩ := c_appC (K := K) (c := c) hB hc (by omega)
  refine ⟨uc, us, by omega, by omega, hA uc us (Nat.le_refl _) (Nat.le_refl _) _ (fun N1 hB1 hf1 => ?_)⟩
  have hQ1 := hQ.fb hL0 hf1
  refine ⟨_, _, _, _, _, _, _, _, _, _, _, _, _, _, _, _, _, _, _, hQ1.1.obj, 3, 210, by omega, by omega, ?_⟩
  rw [show (0 : Int64) = lI 0 from rfl]
  refine c_way hK hQ1.1 (cQ.slots hL0 hQ1 hF) hQ1.2.2.2.2.2.2.1 (by unfold i32; omega) (by unfold i32; omega) (by unfold i64; omega) (by unfold i32; omega) (Nat.le_refl _) (Nat.le_refl _) (fun q => absurd ⟨by omega, by omega, hne, by omega, by omega, by omega, by rw [Int.toNat_natCast]; omega⟩ q) (fun s' j' S' N' e1 e2 e3 e4 e5 e6 e7 e8 _ => ?_) (fun s' j' y' S' N' e1 e2 e3 e4 e5 e6 e7 e8 e9 hW => ?_)
  · have : s' = s := by omega
    subst this
    exact absurd ⟨by omega, hw⟩ e8
  · have es : s' = s := by omega
    subst es
    have ej : j' = j := by omega
    subst ej
    have ey : y' = y := by rw [hy] at e9; exact (Option.some.inj e9).symm
    subst ey
    have hQ2 := hQ1.trans (hW.Q hQ1.1 hQ1.2.2.2.2.2.2.2)
    have hB2 := hB1.kp hL0 hW.2.1 hQ2.dm
    obtain ⟨f1, f2, f3, f4, o2⟩ := hB2.x
    refine ⟨_, _, _, _, o2, ?_⟩
    obtain ⟨uc2, us2, bc2, bs2, v1, v2, hA2⟩ := c_appI (K := K) (v := y') hB2 (by omega) (by rw [List.length_append, List.length_singleton]; omega)
    refine ⟨uc2, us2, by omega, by omega, hA2 uc2 us2 (Nat.le_refl _) (Nat.le_refl _) _ (fun N3 hB3 hf3 => ?_)⟩
    refine h N3 _ _ ⟨S', bc2, bs2, hQ2.fb hL0 hf3, ?_, by omega, by omega⟩
    rw [List.append_assoc] at hB3
    exact hB3
theorem c_wr_81 {K42 : Nat → Int32 → Int32 → Option Nat → Nat → Int32 → Nat → Nat → NM → Prop} {post : Int32 → NM → Prop} {S0 : CS} {N0 : NM} {F : Nat → List tm} {s x q w : Nat} {x3 : Int32} {n : Int} (hK : kOk K) (hL0 : cL K a S0 N0) (hF : cSlots K S0 N0 F) (hs : s < 4) (hne : F s ≠ []) (hq : cF K N0 q (F s)) (hn : -3000 ≤ n ∧ n ≤ 3000) (hw : 0 < Wy (F s) n) : ∀ (m j : Nat) (L : List Int) (N : NM) (mc ms : Nat), j + m = (F s).length → L.length + 6 * m ≤ 2290 → wrI K a S0 N0 N x L (w + m) mc ms → (∀ N' mc' ms', wrI K a S0 N0 N' x (L ++ (wrV ((fnd (F s) 0 n).drop j) j ++ [59])) w mc' ms' → K42 (a 0) (iI (s : Nat)) x3 (some q) x (iI n + 1) mc' ms' N') → wX0_write_81 K K42 post (m + 1) (a 0) (iI (s : Nat)) x3 (some q) x (iI n) (iI (j : Nat)) mc ms N := by
  have hv := (hF s hs).1
  have h5 := hv.1
  have hfl := fnd_len (F s) 0 n
  intro m
  induction m with
  | zero =>
    intro j L N mc ms hm hl hI h
    have hI0 := hI
    obtain ⟨S, bc, bs, hQ, hB, hcc, hss⟩ := hI
    have hF' : cF K N q (F s) := hq.kp hL0 hQ.2.1
    unfold wX0_write_81
    obtain ⟨y, f, p1, p2, p3⟩ := hF'
    refine ⟨q, rfl, _, p1, c_many0 ⟨y, f, p1, p2, p3⟩ (b_t (by simp (disch := omega) only [iLit, lLit, iI_add, iI_sub, iI_mul, iI_neg, lI_add, lI_sub, lI_mul, lI_neg, nI_i, lI_i, iI_l, iI_nat, iI_lt, iI_le, iI_eq, lI_lt, lI_le, lI_eq] <;> omega) ?_)⟩
    rw [List.drop_eq_nil_of_le (by omega), show wrV [] j = [] from rfl, List.nil_append] at h
    exact c_wr_141 hL0 hI0 (by omega) h
  | succ m ih =>
    intro j L N mc ms hm hl hI h
    have hI0 := hI
    obtain ⟨S, bc, bs, hQ, hB, hcc, hss⟩ := hI
    have hF' : cF K N q (F s) := hq.kp hL0 hQ.2.1
    obtain ⟨y, hy⟩ : ∃ y, (fnd (F s) 0 n)[j]? = some y := ⟨_, List.getElem?_eq_getElem (by omega)⟩
    have hdr : (fnd (F s) 0 n).drop j = y :: (fnd (F s) 0 n).drop (j + 1) := by
      have hi : j < (fnd (F s) 0 n).length := by omega
      rw [List.drop_eq_getElem_cons hi]
      rw [List.getElem?_eq_getElem hi] at hy
      rw [Option.some.inj hy]
    rw [hdr, show wrV (y :: (fnd (F s) 0 n).drop (j + 1)) j = (if j = 0 then 61 else 44) :: (numS y ++ wrV ((fnd (F s) 0 n).drop (j + 1)) (j + 1)) from rfl] at h
    have hn5 := numS_len y
    unfold wX0_write_81
    obtain ⟨yy, f, p1, p2, p3⟩ := hF'
    refine ⟨q, rfl, _, p1, c_many0 ⟨yy, f, p1, p2, p3⟩ (b_f (by simp (disch := omega) only [iLit, lLit, iI_add, iI_sub, iI_mul, iI_neg, lI_add, lI_sub, lI_mul, lI_neg, nI_i, lI_i, iI_l, iI_nat, iI_lt, iI_le, iI_eq, lI_lt, lI_le, lI_eq] <;> omega) ⟨_, _, _, _, _, _, _, _, _, _, _, _, _, _, _, _, _, _, _, hQ.1.obj, ?_⟩)⟩
    have hwl := Wy_lt hv n
    refine c_wq hK hv hL0 hq hQ hn (fun S' N' hQ' hk => ?_)
    have hB' := hB.kp hL0 hk hQ'.dm
    rw [show (0 : Int64) = lI 0 from rfl, lI_le (by omega) (by omega) (by omega) (by omega)]
    refine b_f (by omega) ?_
    have nx : ∀ c : Int, c = (if j = 0 then 61 else 44) → wX0_write_118 K K42 (fun x0 x1 x3 x4 x5 x6 x7 mc ms N => wX0_write_81 K K42 post (m + 1) x0 x1 x3 x4 x5 x6 x7 mc ms N) post (a 0) (iI (s : Nat)) x3 (some q) x (iI n) (iI (j : Nat)) (iI c) x mc ms N' := by
      intro c ec
      refine c_wr_118 (w := w + m) hK hL0 hF hs hne hn hw (by rw [ec]; split <;> omega) hy ⟨S', bc, bs, hQ', hB', by omega, by omega⟩ (by omega) (fun N2 mc' ms' hI2 => ?_)
      rw [show iI (j : Int) + 1 = iI ((j + 1 : Nat) : Int) by rw [show (1 : Int32) = iI 1 from rfl, iI_add]; rfl]
      refine ih (j + 1) _ N2 mc' ms' (by omega) (by rw [List.length_append, List.length_cons]; omega) hI2 (fun N3 mc3 ms3 hI3 => h N3 mc3 ms3 ?_)
      rw [ec, List.append_assoc, List.cons_append, ← List.append_assoc (numS y)] at hI3
      exact hI3
    rw [show (0 : Int32) = iI 0 from rfl, iI_eq (by omega) (by omega) (by omega) (by omega)]
    exact ⟨fun c => nx 61 (by rw [if_pos (by omega)]), fun c => nx 44 (by rw [if_neg (by omega)])⟩
theorem c_wr_42 {post : Int32 → NM → Prop} {S0 : CS} {N0 : NM} {F : Nat → List tm} {s x q : Nat} {y : Int} (hK : kOk K) (hL0 : cL K a S0 N0) (hF : cSlots K S0 N0 F) (hs : s < 4) (hne : F s ≠ []) (hq : cF K N0 q (F s)) (hy : y ≤ 3000) : ∀ (m : Nat) (n : Int) (L : List Int) (N : NM) (mc ms : Nat), n + m = y + 1 → -3000 ≤ n → m ≤ 60 → L.length + 36 * m ≤ 2160 → wrI K a S0 N0 N x L (5 * m) mc ms → (∀ S' N', cT K a S0 N0 S' N' (L ++ wrS (F s) m n) → post (iI ((L ++ wrS (F s) m n).length : Nat)) N') → wX0_write_42 K post (m + 1) (a 0) (iI (s : Nat)) (iI y) (some q) x (iI n) mc ms N := by
  have hv := (hF s hs).1
  have h5 := hv.1
  intro m
  induction m with
  | zero =>
    intro n L N mc ms hm hn m60 hl hI h
    obtain ⟨S, bc, bs, hQ, hB, hcc, hss⟩ := hI
    unfold wX0_write_42
    refine b_t (by simp (disch := omega) only [iLit, lLit, iI_add, iI_sub, iI_mul, iI_neg, lI_add, lI_sub, lI_mul, lI_neg, nI_i, lI_i, iI_l, iI_nat, iI_lt, iI_le, iI_eq, lI_lt, lI_le, lI_eq] <;> omega) ⟨_, _, _, _, _, _, _, _, _, _, _, _, _, _, _, _, _, _, _, hQ.1.obj, mc, ms, Nat.le_refl _, Nat.le_refl _, ?_⟩
    rw [show wrS (F s) 0 n = [] from rfl, List.append_nil] at h
    exact c_shows hQ hB (by omega) (by omega) h
  | succ m ih =>
    intro n L N mc ms hm hn m60 hl hI h
    obtain ⟨S, bc, bs, hQ, hB, hcc, hss⟩ := hI
    have hn5 := numS_len n
    have hwn := wrN_len h5 n
    have hw8 := wL_len 8 (by omega)
    have hwl := Wy_lt hv n
    have hw0 := Wy_nn (F s) n
    have hfl := fnd_len (F s) 0 n
    rw [show wrS (F s) (m + 1) n = wrN (F s) n ++ wrS (F s) m (n + 1) from rfl] at h
    unfold wX0_write_42
    refine b_f (by simp (disch := omega) only [iLit, lLit, iI_add, iI_sub, iI_mul, iI_neg, lI_add, lI_sub, lI_mul, lI_neg, nI_i, lI_i, iI_l, iI_nat, iI_lt, iI_le, iI_eq, lI_lt, lI_le, lI_eq] <;> omega) ?_
    obtain ⟨f1, f2, f3, f4, o1⟩ := hB.x
    refine ⟨_, _, _, _, o1, ?_⟩
    obtain ⟨uc, us, bc1, bs1, u1, u2, hA⟩ := c_appI (K := K) (v := n) hB (by omega) (by omega)
    refine ⟨uc, us, by omega, by omega, hA uc us (Nat.le_refl _) (Nat.le_refl _) _ (fun N1 hB1 hf1 => ?_)⟩
    have hQ1 := hQ.fb hL0 hf1
    refine ⟨_, _, _, _, _, _, _, _, _, _, _, _, _, _, _, _, _, _, _, hQ1.1.obj, ?_⟩
    refine c_wq hK hv hL0 hq hQ1 (by omega) (fun S2 N2 hQ2 hk2 => ?_)
    have hB2 := hB1.kp hL0 hk2 hQ2.dm
    have nx : ∀ N' mc' ms', wrI K a S0 N0 N' x (L ++ wrN (F s) n) (5 * m) mc' ms' → wX0_write_42 K post (m + 1) (a 0) (iI (s : Nat)) (iI y) (some q) x (iI n + 1) mc' ms' N' := by
      intro N' mc' ms' hI'
      rw [show (1 : Int32) = iI 1 from rfl, iI_add]
      refine ih (n + 1) _ N' mc' ms' (by omega) (by omega) (by omega) (by rw [List.length_append]; omega) hI' (fun S' N'' hT => ?_)
      rw [List.append_assoc] at hT ⊢
      exact h S' N'' hT
    rw [show (0 : Int64) = lI 0 from rfl, lI_eq (by omega) (by omega) (by omega) (by omega)]
    refine ⟨fun c => ?_, fun c => ?_⟩
    · obtain ⟨f1, f2, f3, f4, o2⟩ := hB2.x
      refine ⟨_, _, _, _, o2, ?_⟩
      obtain ⟨uc2, us2, bc2, bs2, v1, v2, hA2⟩ := c_appS (K := K) (t := 8) hB2 (by omega) (by rw [List.length_append]; omega)
      refine ⟨uc2, us2, by omega, by omega, hA2 uc2 us2 (Nat.le_refl _) (Nat.le_refl _) _ (fun N3 hB3 hf3 => ?_)⟩
      have hQ3 := hQ2.fb hL0 hf3
      unfold wX0_write_78
      refine ⟨1, ?_⟩
      have hF' : cF K N3 q (F s) := hq.kp hL0 hQ3.2.1
      have hpos : 0 < (F s).length := List.length_pos_iff.mpr hne
      unfold wX0_write_81
      obtain ⟨yy, f, p1, p2, p3⟩ := hF'
      refine ⟨q, rfl, _, p1, c_many0 ⟨yy, f, p1, p2, p3⟩ (b_f ?_ ⟨_, _, _, _, _, _, _, _, _, _, _, _, _, _, _, _, _, _, _, hQ3.1.obj, ?_⟩)⟩
      · rw [show (0 : Int32) = iI 0 from rfl, iI_le (by omega) (by omega) (by omega) (by omega)]; omega
      · refine c_wq hK hv hL0 hq hQ3 (by omega) (fun S4 N4 hQ4 hk4 => ?_)
        have hB4 := hB3.kp hL0 hk4 hQ4.dm
        rw [show (0 : Int64) = lI 0 from rfl, lI_le (by omega) (by omega) (by omega) (by omega)]
        refine b_t (by omega) ?_
        refine c_wr_141 (w := 5 * m) hL0 ⟨S4, bc2, bs2, hQ4, hB4, by omega, by omega⟩ (by simp only [List.length_append]; omega) (fun N5 mc' ms' hI5 => nx N5 mc' ms' ?_)
        unfold wrN
        rw [if_neg (by omega)]
        simp only [List.append_assoc] at hI5
        exact hI5
    · unfold wX0_write_78
      refine ⟨(F s).length + 1, ?_⟩
      have := c_wr_81 (K42 := fun x0 x1 x3 x4 x5 x6 mc ms N => wX0_write_42 K post (m + 1) x0 x1 x3 x4 x5 x6 mc ms N) (post := post) (x3 := iI y) (x := x) (w := 5 * m) hK hL0 hF hs hne hq (n := n) (by omega) (by omega) (F s).length 0 (L ++ numS n) N2 (mc - uc) (ms - us) (by omega) (by rw [List.length_append]; omega) ⟨S2, bc1, bs1, hQ2, hB2, by omega, by omega⟩ (fun N5 mc' ms' hI5 => nx N5 mc' ms' ?_)
      · exact this
      · unfold wrN
        rw [if_pos (by omega)]
        rw [List.drop_zero, List.append_assoc] at hI5
        exact hI5
theorem c_write {post : Int32 → NM → Prop} {MC MS : Nat} {S : CS} {N : NM} {F : Nat → List tm} {z x y : Int} (hK : kOk K) (hL : cL K a S N) (hF : cSlots K S N F) (hc : cLaid K S N) (hu : cUnl K S N) (hz : i32 z) (hx : i32 x) (hy : i32 y) (hMC : 2000 ≤ MC) (hMS : 80000 ≤ MS)
    (h0 : ¬ (0 ≤ z ∧ z ≤ 3 ∧ F z.toNat ≠ [] ∧ -3000 ≤ x ∧ x ≤ y ∧ y ≤ 3000 ∧ y - x < 60) → post (iI (-1)) N) (h1 : ∀ (s : Nat) S' N', s < 4 → z = s → F s ≠ [] → -3000 ≤ x → x ≤ y → y ≤ 3000 → y - x < 60 → cT K a S N S' N' (wrS (F s) (y - x + 1).toNat x) → post (iI ((wrS (F s) (y - x + 1).toNat x).length : Nat)) N') : wX0_write K post MC MS N (a 0) (iI z) (iI x) (iI y) := by
  unfold wX0_write
  refine ⟨_, _, _, _, _, _, _, _, _, _, _, _, _, _, _, _, _, _, _, hL.obj, 3, 210, by omega, by omega, ?_⟩
  refine c_at hL hF hz (by omega) (by omega) (fun hn => ⟨fun _ => h0 (fun w => hn ⟨w.1, w.2.1, w.2.2.1⟩), fun a28 e => by cases e⟩) (fun s q hs ez hne hsl hf hv => ⟨fun e => (by cases e), fun a28 _ => ?_⟩)
  refine c_isSpan hx hy (fun n1 n2 n3 => b_f (by decide) ?_) (fun hc => b_t rfl (h0 (fun z => hc (by omega))))
  rw [iI_sub, show (60 : Int32) = iI 60 from rfl, iI_lt (by omega) (by omega) (by omega) (by omega)]
  refine ⟨fun c => ⟨by omega, by omega, fun nq hnq N34 e34 => ?_⟩, fun c => h0 (by omega)⟩
  subst e34
  have n1' := (nw.refl N).new hnq (eO 17 [va_rf none, .int 0, .int 0, .int 0])
  have hQ1 := (cQ.start hL hc hu).nw n1'
  have hd : dm N (va_up N nq (some (eO 17 [va_rf none, .int 0, .int 0, .int 0]))) := (show dm N N from fun z h => h).up nq _
  refine ⟨1, 16, by omega, by omega, ?_⟩
  refine c_newB hnq hd (up_eq _ _ _) (by omega) (by omega) (fun N' hB hf1 => ⟨(y - x + 1).toNat + 1, ?_⟩)
  rw [ez]
  refine c_wr_42 hK hL hF hs hne hf n3 (y - x + 1).toNat x [] N' _ _ (by omega) (by omega) (by omega) (by simp only [List.length_nil]; omega) ⟨S, 7, 4558, hQ1.fb hL hf1, hB, by omega, by omega⟩ (fun S' N'' hT => ?_)
  rw [List.nil_append] at hT ⊢
  exact h1 s S' N'' hs ez hne n1 n2 n3 c hT
end
