set_option maxRecDepth 100000
set_option maxHeartbeats 4000000
/-! the model reads a term, from its start; a form -/
theorem m_rd_66 {post : Int32 → MS → Prop} {S : MS} {T : Nat → Int} {n i p : Nat} {o j : Int} (hT : mTp S T n) (hp : p ≤ n) (hi : i ≤ 5) (hk : mTok S T n p) (hg : going S o j) (h4 : S.2.2.1 0 4 = iI i) (hB : isNb T n p ∨ kdAt T n p ≠ -1) (hN : ¬ (isNb T n p ∧ ¬ (1 ≤ numV T n p ∧ numV T n p ≤ 99))) (hO : owes post S T n i o j (tmRd T n p i)) : wX1_readTerm_66 post (iI i) S := by
  unfold wX1_readTerm_66
  simp (disch := omega) only [iLit, lLit, iI_add, iI_sub, iI_mul, iI_neg, lI_add, lI_sub, lI_mul, lI_neg, nI_i, lI_i, iI_eq]
  refine ⟨fun c => m_rd_fail hO (rdEq.refl S) hg hk 4 ?_, fun c => ?_⟩
  · unfold tmRd; rw [if_neg (fun z => z hB), if_neg hN, if_pos (by omega)]
  have hi5 : i < 5 := by omega
  have eR : tmRd T n p i = tmB T n (if isNb T n p then numV T n p else 1) (if isNb T n p then nxT T n p else p) := by unfold tmRd; rw [if_neg (fun z => z hB), if_neg hN, if_neg (by omega)]
  rw [eR] at hO
  refine ⟨iI_in (by omega) (by omega) (by omega), ?_⟩
  simp (disch := omega) only [iI_nat, mA_mA]
  rw [hk.1, show ((4 : Int) * (20 + (i : Int)) + 0).toNat = 4 * (5 * 4 + i) by omega, show (4 : Int) * (20 + (i : Int)) = ((4 * (5 * 4 + i) : Nat) : Int) by omega, iI_eq (by unfold srt; split <;> (try split) <;> (try split) <;> omega) (by unfold srt; split <;> (try split) <;> (try split) <;> omega) (by omega) (by omega)]
  have low : ∀ (x : Int32) (g : Nat → Int32), (∀ q, q < 4 * (5 * 4 + i) → g q = S.2.2.1 1 q) → ∀ q, q < 4 * (5 * 4 + i) → upd g (4 * (5 * 4 + i)) x q = S.2.2.1 1 q := fun x g hg q hq => by rw [upd_ne _ _ _ (by omega)]; exact hg q hq
  have rA : ∀ (G : Nat → Int32), (∀ q, q < 4 * (5 * 4 + i) → G q = S.2.2.1 1 q) → rdEq S (mA S 1 G) := fun G b => (rdEq.refl S).A1 G (fun q hq => b q (by omega))
  by_cases e : isNb T n p
  · rw [if_pos e, if_pos e] at hO
    refine b_t e.1 ⟨iI_in (by omega) (by omega) (by omega), ?_⟩
    have l2 := low (S.1 16) _ (low (iI 1) _ (fun q _ => rfl))
    have r2 := rA _ l2
    refine m_nextT (S := mA S 1 _) (r2.tape hT) hp hk (fun S' t k => ?_)
    refine m_rdB hT (nxT_le hp).2 hi5 (Classical.byContradiction (fun z => hN ⟨e, z⟩)) (r2.trans t.rd) k (t.going hg) (by rw [t.1]; exact h4) ?_ ?_ hO
    · rw [t.1, mA_at, upd_eq]; exact hk.2.2.2.2.1
    · intro q hq
      rw [t.1, mA_at]; exact l2 q hq
  · rw [if_neg e, if_neg e] at hO
    have hw := kdAt_w (hB.resolve_left e)
    refine b_f (by omega) ?_
    have l1 := low (iI 1) _ (fun q _ => rfl)
    exact m_rdB hT hp hi5 (by omega) (rA _ l1) hk hg h4 (by rw [mA_at, upd_eq]) (fun q hq => by rw [mA_at]; exact l1 q hq) hO
theorem m_rd_22 {post : Int32 → MS → Prop} {S : MS} {T : Nat → Int} {n i p : Nat} {o j : Int} (hT : mTp S T n) (hp : p ≤ n) (hi : i ≤ 5) (hk : mTok S T n p) (hg : going S o j) (h4 : S.2.2.1 0 4 = iI i) (hB : isNb T n p ∨ kdAt T n p ≠ -1) (hO : owes post S T n i o j (tmRd T n p i)) : wX1_readTerm_22 post (iI i) S := by
  unfold wX1_readTerm_22 wX1_readTerm_27
  refine b_f (by decide) (m_isNumber hk hT.1 hp (fun e => b_f (by decide) ?_) (fun e => b_t rfl (m_rd_66 hT hp hi hk hg h4 hB (fun z => e z.1) hO)))
  have hv := numV_in (T := T) (n := n) (p := p)
  rw [hk.2.2.2.2.1, iI_l (by omega) (by omega)]
  refine m_isIn (b := 1) (c := 99) (by omega) (by omega) (by omega) (fun a b => b_f (by decide) (m_rd_66 hT hp hi hk hg h4 hB (fun z => z.2 ⟨a, b⟩) hO)) (fun a => b_t rfl (m_rd_fail hO (rdEq.refl S) hg hk 2 ?_))
  unfold tmRd; rw [if_neg (fun z => z hB), if_pos ⟨e, a⟩]
theorem m_readTerm {post : Int32 → MS → Prop} {S : MS} {T : Nat → Int} {n i p : Nat} {o j : Int} (hT : mTp S T n) (hp : p ≤ n) (hi : i ≤ 5) (hk : mTok S T n p) (hg : going S o j) (h4 : S.2.2.1 0 4 = iI i) (hO : owes post S T n i o j (tmRd T n p i)) : wX1_readTerm post S := by
  unfold wX1_readTerm
  refine ⟨iI_in (z := 4) (by omega) (by omega) (by omega), ?_⟩
  rw [show Int32.toNatClampNeg 4 = 4 from rfl, h4]
  refine m_isNumber hk hT.1 hp (fun e => b_f (by decide) (m_rd_22 hT hp hi hk hg h4 (Or.inl e) hO)) (fun e => b_t rfl (m_kindHere hk hT.1 hp ?_))
  have hkd := kdAt_in T n p
  simp (disch := omega) only [iLit, lLit, iI_add, iI_sub, iI_mul, iI_neg, lI_add, lI_sub, lI_mul, lI_neg, nI_i, lI_i, iI_eq]
  refine ⟨fun c => ?_, fun c => m_rd_22 hT hp hi hk hg h4 (Or.inr c) hO⟩
  unfold wX1_readTerm_27
  refine b_t rfl (m_rd_fail hO (rdEq.refl S) hg hk 1 ?_)
  unfold tmRd; rw [if_pos (fun z => z.elim e (fun z => z c))]
/-- a form from p on, behind the terms L: a fault (kind, place, which term) or all terms -/
def fmRd (T : Nat → Int) (n : Nat) : Nat → Nat → List tm → (Int × Nat × Nat) ⊕ List tm
  | 0, p, L => .inl (4, p, L.length)
  | m + 1, p, L => match tmRd T n p L.length with
    | .inl (k, q) => .inl (k, q, L.length)
    | .inr (t, p') => if srt T n p' = 0 then .inr (L ++ [t]) else if ¬ sgIs T n p' 43 then .inl (1, p', L.length) else fmRd T n m (sk T n (p' + 1)) (L ++ [t])
def fmR (T : Nat → Int) (n : Nat) : (Int × Nat × Nat) ⊕ List tm := fmRd T n 6 (sk T n 0) []
/-- what is left behind a reading: the tape is empty, the fault told -/
abbrev told (S S' : MS) (k p o i : Int) : Prop := S'.2.2.2 = S.2.2.2 ∧ (∀ q, (q < 3 ∨ 20 < q) → S'.1 q = S.1 q) ∧ (∀ q, 2 ≤ q → S'.2.2.1 q = S.2.2.1 q) ∧ (∀ q, q < 4 → S'.2.2.1 0 q = S.2.2.1 0 q) ∧ (∀ q, q < 80 → S'.2.2.1 1 q = S.2.2.1 1 q) ∧ S'.1 3 = iI 0 ∧ S'.1 4 = iI k ∧ S'.1 5 = iI p ∧ S'.1 6 = iI o ∧ S'.1 7 = iI i
theorem m_isRead {post : Int32 → MS → Prop} {S S' : MS} {k p o i : Int} (hk : i32 k) (hr : rdEq S S') (hb : mBad S' k p o i) (h : ∀ S'' : MS, told S S'' k p o i → S''.1 8 = iI k → S''.2.2 = S'.2.2 → post (iI (if k = 0 then 1 else 0)) S'') : wX1_isRead post S' := by
  have g : told S (mI (mI (mI (mI (mI S' 3 (0 : Int32)) 4 (S'.1 8)) 5 (S'.1 9)) 6 (S'.1 10)) 7 (S'.1 11)) k p o i := by
    refine ⟨hr.1, fun q hq => ?_, hr.2.2.1, hr.2.2.2.1, hr.2.2.2.2, rfl, hb.1, hb.2.1, hb.2.2.1, hb.2.2.2⟩
    rw [← hr.2.1 q (by omega)]
    show va_up (va_up (va_up (va_up (va_up S'.1 3 _) 4 _) 5 _) 6 _) 7 _ q = _
    rw [up_ne _ _ _ (by omega), up_ne _ _ _ (by omega), up_ne _ _ _ (by omega), up_ne _ _ _ (by omega), up_ne _ _ _ (by omega)]
  have h2 := h _ g hb.1 rfl
  unfold wX1_isRead
  rw [hb.1, show (0 : Int32) = iI 0 from rfl, iI_eq (by omega) (by omega) (by omega) (by omega)]
  refine ⟨fun c => ?_, fun c => ?_⟩
  · rw [if_pos c, hb.1] at h2; exact h2
  · rw [if_neg c, hb.1] at h2; exact h2
theorem m_begins {post : Unit → MS → Prop} {S : MS} {T : Nat → Int} {n : Nat} (hT : mTp S T n) (h : ∀ S' : MS, rdEq S S' → S'.2.2 = S.2.2 → mTok S' T n (sk T n 0) → going S' 0 (-1) → post () S') : wX1_begins post S := by
  unfold wX1_begins
  have r : rdEq S (mI (mI (mI (mI (mI (mI (mI S 14 (0 : Int32)) 8 (0 : Int32)) 9 (-1 : Int32)) 10 (-1 : Int32)) 11 (-1 : Int32)) 18 (0 : Int32)) 19 (-1 : Int32)) := (((((((rdEq.refl S).I 14 (by omega) _).I 8 (by omega) _).I 9 (by omega) _).I 10 (by omega) _).I 11 (by omega) _).I 18 (by omega) _).I 19 (by omega) _
  exact m_next (q := 0) (r.tape hT) (by omega) rfl (fun S' t k => h S' (r.trans t.rd) (by rw [t.1]; rfl) k (t.going ⟨rfl, rfl, rfl, rfl, rfl, rfl⟩))
theorem going.bad {S : MS} {o i : Int} (h : going S o i) : mBad S 0 (-1) (-1) (-1) := ⟨h.1, h.2.2.2.1, h.2.2.2.2.1, h.2.2.2.2.2⟩
theorem going.out {S : MS} {o i : Int} (h : going S o i) (o' : Int) : going (mI S 18 (iI o')) o' i := ⟨h.1, rfl, h.2.2.1, h.2.2.2.1, h.2.2.2.2.1, h.2.2.2.2.2⟩
theorem going.arr {S : MS} {o i : Int} (h : going S o i) (k : Nat) (f : Nat → Int32) : going (mA S k f) o i := h
theorem mForms.told {S S' : MS} {F : Nat → List tm} (h : mForms S F) (h0 : ∀ q, q < 4 → S'.2.2.1 0 q = S.2.2.1 0 q) (h1 : ∀ q, q < 80 → S'.2.2.1 1 q = S.2.2.1 1 q) : mForms S' F := by
  intro s hs
  obtain ⟨e0, hv, hf⟩ := h s hs
  refine ⟨by rw [h0 s hs]; exact e0, hv, fun i t hit => ?_⟩
  have := (List.getElem?_eq_some_iff.mp hit).1
  have := hv.1
  have h2 : rTm (S.2.2.1 1) s i t := hf i t hit
  exact h2.of (fun k hk => h1 _ (by omega))
/-- behind a form's reading -/
abbrev fmO (post : Int32 → MS → Prop) (S : MS) (F : Nat → List tm) (d : Nat) (R : (Int × Nat × Nat) ⊕ List tm) : Prop :=
  (∀ k q o S', R = .inl (k, q, o) → told S S' k q o (-1) → post (iI (-1)) S') ∧
  (∀ L S', R = .inr L → told S S' 0 (-1) (-1) (-1) → ∀ f0 f1 : Nat → Int32, mForms (mA (mA S' 0 f0) 1 f1) (upF F d L) → post (iI (L.length : Nat)) (mI (mI (mA (mA S' 0 f0) 1 f1) 21 (iI (-1))) 23 (iI (-1))))
theorem tmC_k {T : Nat → Int} {n p q : Nat} {f c k : Int} (h : tmC T n f c p = .inl (k, q)) : 1 ≤ k ∧ k ≤ 4 := by
  unfold tmC at h
  split at h
  · cases h; omega
  split at h
  · cases h; omega
  split at h
  · cases h; omega
  split at h
  · cases h; omega
  split at h
  · cases h; omega
  · cases h
theorem tmB_k {T : Nat → Int} {n p q : Nat} {f k : Int} (h : tmB T n f p = .inl (k, q)) : 1 ≤ k ∧ k ≤ 4 := by
  unfold tmB at h
  split at h
  · cases h; omega
  split at h
  · cases h
  · exact tmC_k h
theorem tmRd_k {T : Nat → Int} {n p i q : Nat} {k : Int} (h : tmRd T n p i = .inl (k, q)) : 1 ≤ k ∧ k ≤ 4 := by
  unfold tmRd at h
  split at h
  · cases h; omega
  split at h
  · cases h; omega
  split at h
  · cases h; omega
  exact tmB_k h
theorem m_form_end {post : Int32 → MS → Prop} {S0 S : MS} {F : Nat → List tm} {d : Nat} {k p o : Int} {m : Nat} (hF : mForms S0 F) (hd : d < 4) (hk : 0 ≤ k ∧ k ≤ 9) (hr : rdEq S0 S) (hb : mBad S k p o (-1)) (h : (k ≠ 0 → ∀ S', told S0 S' k p o (-1) → post (iI (-1)) S')) (h2 : k = 0 → ∃ L, vF L ∧ S.2.2.1 0 4 = iI (L.length : Nat) ∧ gath (S.2.2.1 1) L L.length ∧ ∀ S', told S0 S' k p o (-1) → ∀ f0 f1 : Nat → Int32, mForms (mA (mA S' 0 f0) 1 f1) (upF F d L) → post (iI (L.length : Nat)) (mI (mI (mA (mA S' 0 f0) 1 f1) 21 (iI (-1))) 23 (iI (-1)))) : wX1_form_18 post (m + 1) (iI d) (iI 1) (iI 0) S := by
  unfold wX1_form_18
  refine b_t rfl (m_isRead (by omega) hr hb (fun S' t e8 e2 => b_f (by decide) ?_))
  rw [e8, show (0 : Int32) = iI 0 from rfl, iI_eq (by omega) (by omega) (by omega) (by omega)]
  refine ⟨fun c => ?_, fun c => h c S' t⟩
  obtain ⟨L, hv, h4, hg, hp⟩ := h2 c
  refine m_takes (hF.told t.2.2.2.1 t.2.2.2.2.1) hd hv (by rw [e2]; exact h4) (fun i x hx => by rw [e2]; exact hg i x (List.getElem?_eq_some_iff.mp hx).1 hx) (fun f0 f1 hm => ⟨iI_in (by omega) (by omega) (by omega), ?_⟩)
  have e := (hm d hd).1
  rw [upF_s] at e
  simp (disch := omega) only [iI_nat]
  rw [show (d : Int).toNat = d by omega]
  have q := hp S' t f0 f1 hm
  rw [← e] at q
  exact q
theorem m_form_18 {post : Int32 → MS → Prop} {S0 : MS} {F : Nat → List tm} {T : Nat → Int} {n d : Nat} (hF : mForms S0 F) (hT : mTp S0 T n) (hd : d < 4) : ∀ (m p : Nat) (L : List tm) (S : MS) (o : Int), p ≤ n → L.length + m = 6 → vF L → rdEq S0 S → mTok S T n p → going S o (-1) → S.2.2.1 0 4 = iI (L.length : Nat) → gath (S.2.2.1 1) L L.length → fmO post S0 F d (fmRd T n m p L) → wX1_form_18 post (m + 1) (iI d) (iI 1) (iI 1) S
  | 0, p, L, S, o, _, hl, hv, _, _, _, _, _, _ => by have := hv.1; omega
  | m + 1, p, L, S, o, hp, hl, hv, hr, hk, hg, h4, hG, hO => by
    unfold wX1_form_18
    refine b_f (by decide) ⟨iI_in (z := 4) (by omega) (by omega) (by omega), ?_⟩
    rw [show Int32.toNatClampNeg 4 = 4 from rfl, h4]
    unfold fmRd at hO
    have r1 : rdEq S0 (mI S 18 (iI (L.length : Nat))) := hr.I 18 (by omega) _
    refine m_readTerm (S := mI S 18 _) (i := L.length) (o := (L.length : Nat)) (j := -1) (r1.tape hT) hp hv.1 hk (hg.out _) h4 ⟨?_, ?_⟩
    · intro k q S' e b r
      rw [e] at hO
      have hkk := tmRd_k e
      refine b_t rfl ?_
      unfold wX1_form_50 wX1_form_51
      exact b_t rfl (m_form_end hF hd (by omega) (r1.trans r) b (fun _ S'' t => hO.1 k q L.length S'' rfl t) (fun c => by omega))
    · intro t p' S' e k g r a4 at' lo
      rw [e] at hO
      have hlt : L.length < 5 := by
        rcases (show L.length < 5 ∨ L.length = 5 by have := hv.1; omega) with z | z
        · exact z
        · rw [z] at e
          obtain ⟨a, b, c⟩ := tmRd_5 (T := T) (n := n) (p := p)
          rw [c] at e; cases e
      have hp' := tmRd_le hp e
      have hv' : vF (L ++ [t]) := ⟨by rw [List.length_append]; simp only [List.length_cons, List.length_nil]; omega, fun x hx => by
        rcases List.mem_append.mp hx with c | c
        · exact hv.2 x c
        · rw [List.mem_singleton.mp c]; exact tmRd_ok e⟩
      have len : (L ++ [t]).length = L.length + 1 := by rw [List.length_append]; rfl
      have hG' : gath (S'.2.2.1 1) (L ++ [t]) (L ++ [t]).length := by
        intro i x hi hx
        rw [len] at hi
        rcases (show i < L.length ∨ i = L.length by omega) with c | c
        · rw [List.getElem?_append_left c] at hx
          have z := hG i x c hx
          exact z.of (fun k hk => lo _ (by omega))
        · rw [c, List.getElem?_append_right (by omega), Nat.sub_self] at hx
          cases hx
          rw [c]; exact at'
      refine b_f (by decide) ?_
      rw [k.1, show (0 : Int32) = iI 0 from rfl, iI_eq (by unfold srt; split <;> (try split) <;> (try split) <;> omega) (by unfold srt; split <;> (try split) <;> (try split) <;> omega) (by omega) (by omega)]
      refine ⟨fun c => ?_, fun c => ?_⟩
      · simp only [if_pos c] at hO
        unfold wX1_form_50 wX1_form_51
        exact b_t rfl (m_form_end hF hd (by omega) (r1.trans r) g.bad (fun c => absurd rfl c) (fun _ => ⟨L ++ [t], hv', by rw [len]; exact a4, hG', fun S'' z => hO.2 _ S'' rfl z⟩))
      · simp only [if_neg c] at hO
        unfold wX1_form_51
        refine b_f (by decide) (m_takesSign (c := 43) k ((r1.trans r).tape hT) hp'.2 (by omega) g.1 g.2.1 g.2.2.1 (fun s S'' tq kq => ?_) (fun s => ?_))
        · rw [if_neg (fun z => z s)] at hO
          have hlt := sg_lt s
          exact m_form_18 hF hT hd m _ (L ++ [t]) S'' _ (sk_le (T := T) (n := n) (p := p' + 1) (by omega)).2 (by rw [len]; omega) hv' ((r1.trans r).trans tq.rd) kq (tq.going g) (by rw [tq.1, len]; exact a4) (by rw [tq.1]; exact hG') hO
        · rw [if_pos s] at hO
          exact m_form_end hF hd (k := 1) (p := p') (by omega) ((r1.trans r).bad _ _ _ _) (badS_bad _ _ _ _ _) (fun _ S'' t => hO.1 1 p' L.length S'' rfl t) (fun c => by omega)
theorem m_form {post : Int32 → MS → Prop} {S : MS} {F : Nat → List tm} {T : Nat → Int} {n : Nat} {a : Int} (hF : mForms S F) (hT : mTp S T n) (ha : i32 a) (h0 : ¬ (0 ≤ a ∧ a ≤ 3) → ∀ S', told S S' 0 (-1) (-1) (-1) → post (iI (-2)) S') (h1 : ∀ d : Nat, d < 4 → a = d → fmO post S F d (fmR T n)) : wX1_form post S (iI a) := by
  unfold wX1_form
  refine m_begins hT (fun S1 r e k g => ⟨iI_in (z := 4) (by omega) (by omega) (by omega), ?_⟩)
  rw [show Int32.toNatClampNeg 4 = 4 from rfl]
  have r2 : rdEq S (mA S1 0 (upd (S1.2.2.1 0) 4 (0 : Int32))) := r.A0 _ (fun q hq => upd_ne _ _ _ (by omega))
  refine m_isSlot ha (fun a0 a3 => ⟨7, ?_⟩) (fun c => ⟨1, ?_⟩)
  · obtain ⟨d, ed⟩ : ∃ d : Nat, a = d := ⟨a.toNat, by omega⟩
    rw [ed]
    exact m_form_18 hF hT (by omega) 6 (sk T n 0) [] _ 0 (sk_le (T := T) (n := n) (p := 0) (by omega)).2 rfl ⟨by decide, fun t ht => nomatch ht⟩ r2 k (g.arr _ _) (by rw [mA_at, upd_eq]; rfl) (fun i t hi => absurd hi (by simp)) (h1 d (by omega) ed)
  · unfold wX1_form_18
    exact b_t rfl (m_isRead (k := 0) (by omega) r2 g.bad (fun S' t _ _ => b_t rfl (h0 c S' t)))
