set_option maxRecDepth 100000
set_option maxHeartbeats 4000000
/-! the model reads an identity -/
def idEq (S S' : MS) : Prop := S'.2.2.2 = S.2.2.2 ∧ (∀ k, (k < 8 ∨ 20 < k) → k ≠ 36 → k ≠ 38 → k ≠ 40 → S'.1 k = S.1 k) ∧ (∀ k, 2 ≤ k → k ≠ 33 → k ≠ 34 → S'.2.2.1 k = S.2.2.1 k) ∧ (∀ q, q < 4 → S'.2.2.1 0 q = S.2.2.1 0 q) ∧ (∀ q, q < 80 → S'.2.2.1 1 q = S.2.2.1 1 q) ∧ (∀ q, q < 900 → S'.2.2.1 33 q = S.2.2.1 33 q) ∧ (∀ q, q < 900 → S'.2.2.1 34 q = S.2.2.1 34 q)
theorem rdEq.id {S S' : MS} (h : rdEq S S') : idEq S S' := ⟨h.1, fun k a _ _ _ => h.2.1 k a, fun k a _ _ => h.2.2.1 k a, h.2.2.2.1, h.2.2.2.2, fun q _ => by rw [h.2.2.1 33 (by omega)], fun q _ => by rw [h.2.2.1 34 (by omega)]⟩
theorem idEq.trans {S S' S'' : MS} (h : idEq S S') (g : idEq S' S'') : idEq S S'' := ⟨g.1.trans h.1, fun k a b c d => (g.2.1 k a b c d).trans (h.2.1 k a b c d), fun k a b c => (g.2.2.1 k a b c).trans (h.2.2.1 k a b c), fun q a => (g.2.2.2.1 q a).trans (h.2.2.2.1 q a), fun q a => (g.2.2.2.2.1 q a).trans (h.2.2.2.2.1 q a), fun q a => (g.2.2.2.2.2.1 q a).trans (h.2.2.2.2.2.1 q a), fun q a => (g.2.2.2.2.2.2 q a).trans (h.2.2.2.2.2.2 q a)⟩
theorem idEq.tape {S S' : MS} {T : Nat → Int} {n : Nat} (h : idEq S S') (hT : mTp S T n) : mTp S' T n := ⟨hT.1, by rw [h.2.1 3 (by omega) (by omega) (by omega) (by omega)]; exact hT.2.1, fun k hk => by rw [h.2.2.1 2 (by omega) (by omega) (by omega)]; exact hT.2.2 k hk⟩
theorem idEq.I {S : MS} {k : Nat} (hk : k = 36 ∨ k = 38 ∨ k = 40) (v : Int32) : idEq S (mI S k v) := ⟨rfl, fun q a b c d => by
  show va_up S.1 k v q = _
  rw [up_ne _ _ _ (by omega)], fun _ _ _ _ => rfl, fun _ _ => rfl, fun _ _ => rfl, fun _ _ => rfl, fun _ _ => rfl⟩
/-- what is read of an identity lies so -/
def mXs (S : MS) (s : xst) : Prop := S.1 36 = iI (s.2.1.length : Nat) ∧ S.1 38 = iI (s.2.2.1 : Nat) ∧ S.1 40 = iI (s.2.2.2 : Nat) ∧ ∀ i c, s.2.1[i]? = some c → S.2.2.1 34 (900 + i) = iI c.1 ∧ S.2.2.1 33 (900 + i) = iI c.2
theorem mXs.rd {S S' : MS} {s : xst} (h : mXs S s) (r : rdEq S S') : mXs S' s := by
  unfold mXs
  rw [r.2.1 36 (by omega), r.2.1 38 (by omega), r.2.1 40 (by omega), r.2.2.1 33 (by omega), r.2.2.1 34 (by omega)]
  exact h
theorem mXs.at {S : MS} {s : xst} (h : mXs S s) (p : Nat) : mXs S (p, s.2) := h
abbrev owesX (post : Int32 → MS → Prop) (S : MS) (T : Nat → Int) (n : Nat) (o : Int) (j : Nat) (R : xR) : Prop :=
  (∀ (k : Int) (q : Nat) (i : Int) (S' : MS), R = .inl (k, q, i) → mBad S' k q o i → idEq S S' → post 0 S') ∧
  (∀ (s' : xst) (S' : MS), R = .inr s' → mTok S' T n s'.1 → going S' o j → idEq S S' → mXs S' s' → post 1 S')
theorem m_x_fail {post : Int32 → MS → Prop} {S0 S : MS} {T : Nat → Int} {n p : Nat} {o : Int} {j j0 : Nat} {R : xR} (hO : owesX post S0 T n o j0 R) (hr : idEq S0 S) (hg : going S o j) (hk : mTok S T n p) (k : Int) (e : R = .inl (k, p, j)) : wX1_fails (fun r S46 => isB r ∧ post r S46) S (iI k) :=
  m_fails (p := p) hg.1 hk.2.1 hg.2.1 hg.2.2.1 ⟨isB_0, hO.1 k p j _ e (badS_bad _ _ _ _ _) (hr.trans ((rdEq.refl S).bad _ _ _ _).id)⟩
theorem m_puts {post : Unit → MS → Prop} {S : MS} {s : xst} {a b : Int} (hs : mXs S s) (hl : s.2.1.length ≤ 400) (h : ∀ S' : MS, idEq S S' → mXs S' (s.1, s.2.1 ++ [(a, b)], s.2.2) → S'.1 = va_up S.1 36 (iI ((s.2.1.length + 1 : Nat) : Int)) → S'.2.1 = S.2.1 → post () S') : wX1_puts post S (iI a) (iI b) := by
  obtain ⟨h1, h2, h3, h4⟩ := hs
  unfold wX1_puts
  rw [h1]
  simp (disch := omega) only [iLit, lLit, iI_add, iI_sub, iI_mul, iI_neg, lI_add, lI_sub, lI_mul, lI_neg, nI_i, lI_i, iI_nat]
  rw [show ((900 : Int) + (s.2.1.length : Int)).toNat = 900 + s.2.1.length by omega]
  refine ⟨iI_in (by omega) (by omega) (by omega), iI_in (by omega) (by omega) (by omega), h _ ?_ ⟨?_, h2, h3, ?_⟩ rfl rfl⟩
  · refine ⟨rfl, fun q _ b _ _ => ?_, fun q _ b c => ?_, fun _ _ => rfl, fun _ _ => rfl, fun q hq => ?_, fun q hq => ?_⟩
    · show va_up S.1 36 _ q = _
      exact up_ne _ _ _ b
    · show va_up (va_up S.2.2.1 34 _) 33 _ q = _
      rw [up_ne _ _ _ b, up_ne _ _ _ c]
    · show upd (S.2.2.1 33) _ _ q = _
      exact upd_ne _ _ _ (by omega)
    · show upd (S.2.2.1 34) _ _ q = _
      exact upd_ne _ _ _ (by omega)
  · show iI _ = iI (((s.2.1 ++ [(a, b)]).length : Nat) : Int)
    rw [len1]; rfl
  · intro i c hi
    show upd (S.2.2.1 34) _ _ (900 + i) = _ ∧ upd (S.2.2.1 33) _ _ (900 + i) = _
    have hi : (s.2.1 ++ [(a, b)])[i]? = some c := hi
    rcases (show i < s.2.1.length ∨ i = s.2.1.length ∨ s.2.1.length < i by omega) with q | q | q
    · rw [List.getElem?_append_left q] at hi
      rw [upd_ne _ _ _ (by omega), upd_ne _ _ _ (by omega)]; exact h4 i c hi
    · rw [q, List.getElem?_append_right (by omega), Nat.sub_self] at hi
      cases hi
      rw [q, upd_eq, upd_eq]; exact ⟨rfl, rfl⟩
    · rw [List.getElem?_eq_none (by rw [len1]; omega)] at hi
      cases hi
theorem lt_sg {T : Nat → Int} {n p : Nat} {c : Int} (h : sgIs T n p c) : ¬ ltAt T n p ∧ ¬ isNb T n p := ⟨fun q => by have := h.1; have := q.1; omega, fun q => by have := h.1; have := q.1; omega⟩
abbrev rcOk (rc : (Int32 → MS → Prop) → MS → Prop) (rcS : Nat → xst → xR) (S0 : MS) (T : Nat → Int) (n : Nat) (o : Int) (j : Nat) : Prop := ∀ (post : Int32 → MS → Prop) (s : xst) (S : MS), xOk n s → idEq S0 S → mTok S T n s.1 → going S o (j + 1 : Nat) → mXs S s → owesX post S0 T n o (j + 1) (rcS (j + 1) s) → rc post S
theorem keep36 {S S' : MS} {v : Int32} (h : S'.1 = va_up S.1 36 v) {o j : Int} (g : going S o j) : going S' o j := by
  unfold going
  rw [h]; exact g
theorem tok36 {S S' : MS} {v : Int32} (h : S'.1 = va_up S.1 36 v) (h2 : S'.2.1 = S.2.1) {T : Nat → Int} {n p : Nat} (g : mTok S T n p) : mTok S' T n p := by
  unfold mTok
  rw [h, h2]; exact g
