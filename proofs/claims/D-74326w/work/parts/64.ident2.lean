set_option maxRecDepth 100000
set_option maxHeartbeats 4000000
/-! how reading an identity grows -/
theorem lt_val {T : Nat → Int} {n p : Nat} (h : ltAt T n p) : 1 ≤ wrdV T n p ∧ wrdV T n p = T p - 96 := by
  obtain ⟨h1, h2, -⟩ := h
  have hv : wrdV T n p = T p - 96 := by
    unfold wrdV
    rw [if_pos h1, h2, show min 7 (p + 1 - p) = 1 by omega]
    unfold valE valE
    simp
  refine ⟨?_, hv⟩
  rw [hv]
  unfold srt at h1
  split at h1
  · omega
  split at h1
  · rename_i e
    unfold isL at e
    simp only [Bool.and_eq_true, decide_eq_true_eq] at e
    omega
  split at h1 <;> omega
theorem bit_lt {a : Nat} {k : Int} (ha : a < 64) (h1 : 0 ≤ k) (h2 : k ≤ 5) : a ||| 1 <<< k.toNat < 64 := by
  refine Nat.or_lt_two_pow (n := 6) ha ?_
  rcases (show k = 0 ∨ k = 1 ∨ k = 2 ∨ k = 3 ∨ k = 4 ∨ k = 5 by omega) with e | e | e | e | e | e <;> rw [e] <;> decide
def xGe (n : Nat) (s s' : xst) : Prop := xOk n s' ∧ s.2.2.1 ≤ s'.2.2.1 ∧ s'.2.1.length + 3 * s.2.2.1 ≤ s.2.1.length + 3 * s'.2.2.1
theorem xGe.refl {n : Nat} {s : xst} (h : xOk n s) : xGe n s s := ⟨h, by omega, by omega⟩
theorem xGe.trans {n : Nat} {s s' s'' : xst} (h : xGe n s s') (g : xGe n s' s'') : xGe n s s'' := ⟨g.1, by have := h.2.1; have := g.2.1; omega, by have := h.2.2; have := g.2.2; omega⟩
theorem xGr.ge {n e : Nat} {s s' s'' : xst} (h : xGr n e s s') (g : xGe n s' s'') : xGr n e s s'' := ⟨g.1, by have := h.2.1; have := g.2.1; omega, by have := h.2.2; have := g.2.2; omega⟩
/-- only the place moves -/
theorem xOk.at {n p : Nat} {s : xst} (h : xOk n s) (hp : p ≤ n) : xOk n (p, s.2) := ⟨hp, h.2⟩
theorem xOk.app {n : Nat} {s : xst} {c : Int × Int} (h : ∀ c ∈ s.2.1, cOk c) (hc : cOk c) : ∀ x ∈ s.2.1 ++ [c], cOk x := fun x hx => by
  rcases List.mem_append.mp hx with q | q
  · exact h x q
  · rw [List.mem_singleton.mp q]; exact hc
theorem len1 {α : Type} (l : List α) (a : α) : (l ++ [a]).length = l.length + 1 := by rw [List.length_append]; rfl
abbrev rcGr (n : Nat) (rc : Nat → xst → xR) : Prop := ∀ j s s', xOk n s → rc j s = .inr s' → xGr n 1 s s'
theorem ptR_gr {T : Nat → Int} {n : Nat} {rc : Nat → xst → xR} {j : Nat} {s s' : xst} (hrc : rcGr n rc) (hs : xOk n s) (h : ptR T n rc j s = .inr s') : xGr n 2 s s' := by
  obtain ⟨h1, h2, h3, h4, h5⟩ := hs
  have hn := (nxT_le (T := T) h1).2
  unfold ptR at h
  split at h
  · cases h
  rename_i c0
  split at h
  · cases h
  split at h
  · cases h
  rename_i c2
  split at h
  · cases e : rc (j + 1) (nxT T n s.1, s.2.1, s.2.2.1 + 1, s.2.2.2) with
    | inl x => rw [e] at h; cases h
    | inr s1 =>
      rw [e] at h
      have g := hrc (j + 1) (nxT T n s.1, s.2.1, s.2.2.1 + 1, s.2.2.2) s1 ⟨hn, by show s.2.2.1 + 1 ≤ 60; omega, by show s.2.1.length ≤ 3 * (s.2.2.1 + 1); omega, h4, h5⟩ e
      unfold ptC at h
      simp only [] at h
      split at h
      · cases h
      · cases h
        have g2 := g.2.1
        have g3 := g.2.2
        simp only [] at g2 g3
        exact ⟨g.1.at (nxT_le g.1.1).2, by show s.2.2.1 < s1.2.2.1; omega, by show s1.2.1.length + 2 + 3 * s.2.2.1 ≤ _; show _ ≤ s.2.1.length + 3 * s1.2.2.1; omega⟩
  split at h
  · rename_i c4
    cases h
    have hl := lt_val c4
    have hl6 := c4.2.2
    refine ⟨⟨hn, by show s.2.2.1 + 1 ≤ 60; omega, ?_, bit_lt h4 (by omega) (by omega), xOk.app (n := n) h5 (Or.inr (Or.inl ⟨rfl, by show 0 ≤ wrdV T n s.1 - 1; omega, by show wrdV T n s.1 - 1 ≤ 5; omega⟩))⟩, by show s.2.2.1 < s.2.2.1 + 1; omega, ?_⟩
    · show (s.2.1 ++ [_]).length ≤ 3 * (s.2.2.1 + 1)
      rw [len1]; omega
    · show (s.2.1 ++ [_]).length + 2 + 3 * s.2.2.1 ≤ s.2.1.length + 3 * (s.2.2.1 + 1)
      rw [len1]; omega
  · cases h
    have hl := numV_in (T := T) (n := n) (p := s.1)
    refine ⟨⟨hn, by show s.2.2.1 + 1 ≤ 60; omega, ?_, h4, xOk.app (n := n) h5 (Or.inl ⟨rfl, by show 0 ≤ numV T n s.1; omega, by show numV T n s.1 < 10000; omega⟩)⟩, by show s.2.2.1 < s.2.2.1 + 1; omega, ?_⟩
    · show (s.2.1 ++ [_]).length ≤ 3 * (s.2.2.1 + 1)
      rw [len1]; omega
    · show (s.2.1 ++ [_]).length + 2 + 3 * s.2.2.1 ≤ s.2.1.length + 3 * (s.2.2.1 + 1)
      rw [len1]; omega
theorem pwR_gr {T : Nat → Int} {n : Nat} {rc : Nat → xst → xR} {j : Nat} {s s' : xst} (hrc : rcGr n rc) (hs : xOk n s) (h : pwR T n rc j s = .inr s') : xGr n 1 s s' := by
  unfold pwR at h
  cases e : ptR T n rc j s with
  | inl x => rw [e] at h; cases h
  | inr s1 =>
    rw [e] at h
    have g := ptR_gr hrc hs e
    have g2 := g.2.1
    have g3 := g.2.2
    unfold pwC at h
    simp only [] at h
    split at h
    · cases h; exact ⟨g.1, g2, by omega⟩
    split at h
    · cases h
    split at h
    · cases h
    · rename_i c
      cases h
      have hl := numV_in (T := T) (n := n) (p := nxT T n s1.1)
      refine ⟨⟨(nxT_le (nxT_le g.1.1).2).2, g.1.2.1, ?_, g.1.2.2.2.1, xOk.app (n := n) g.1.2.2.2.2 (Or.inr (Or.inr (Or.inl ⟨rfl, by show 0 ≤ numV T n (nxT T n s1.1); omega, by show numV T n (nxT T n s1.1) ≤ 6; omega⟩)))⟩, g2, ?_⟩
      · show (s1.2.1 ++ [_]).length ≤ 3 * s1.2.2.1
        have := hs.2.2.1
        rw [len1]; omega
      · show (s1.2.1 ++ [_]).length + 1 + 3 * s.2.2.1 ≤ s.2.1.length + 3 * s1.2.2.1
        rw [len1]; omega
theorem xPut_ge {n : Nat} {s0 s s' : xst} {c : Int} (hs : xOk n s0) (he : s.2 = s0.2) (hc : c = 42 ∨ c = 43 ∨ c = 45) (g : xGr n 1 s s') : xGe n s0 (xPut c s') := by
  have g2 := g.2.1
  have g3 := g.2.2
  rw [he] at g2 g3
  have := hs.2.2.1
  refine ⟨⟨g.1.1, g.1.2.1, ?_, g.1.2.2.2.1, xOk.app (n := n) g.1.2.2.2.2 (Or.inr (Or.inr (Or.inr hc)))⟩, by show s0.2.2.1 ≤ s'.2.2.1; omega, ?_⟩
  · show (s'.2.1 ++ [_]).length ≤ 3 * s'.2.2.1
    rw [len1]; omega
  · show (s'.2.1 ++ [_]).length + 3 * s0.2.2.1 ≤ s0.2.1.length + 3 * s'.2.2.1
    rw [len1]; omega
theorem xBind_inr {r : xR} {f : xst → xR} {s' : xst} (h : xBind r f = .inr s') : ∃ s, r = .inr s ∧ f s = .inr s' := by
  cases r with
  | inl x => cases h
  | inr s => exact ⟨s, rfl, h⟩
theorem pdL_gr {T : Nat → Int} {n : Nat} {rc : Nat → xst → xR} {j : Nat} (hrc : rcGr n rc) : ∀ (m : Nat) (s s' : xst), xOk n s → pdL T n rc j m s = .inr s' → xGe n s s'
  | 0, s, s', hs, h => by cases h; exact .refl hs
  | m + 1, s, s', hs, h => by
    unfold pdL at h
    split at h
    · cases h; exact .refl hs
    · obtain ⟨s1, e1, e2⟩ := xBind_inr h
      have g := pwR_gr hrc (hs.at (nxT_le hs.1).2) e1
      have g2 := xPut_ge (c := 42) hs rfl (by omega) g
      exact g2.trans (pdL_gr hrc m _ _ g2.1 e2)
theorem pdR_gr {T : Nat → Int} {n : Nat} {rc : Nat → xst → xR} {j : Nat} {s s' : xst} (hrc : rcGr n rc) (hs : xOk n s) (h : pdR T n rc j s = .inr s') : xGr n 1 s s' := by
  obtain ⟨s1, e1, e2⟩ := xBind_inr h
  have g := pwR_gr hrc hs e1
  exact g.ge (pdL_gr hrc _ _ _ g.1 e2)
theorem smL_gr {T : Nat → Int} {n : Nat} {rc : Nat → xst → xR} {j : Nat} (hrc : rcGr n rc) : ∀ (m : Nat) (s s' : xst), xOk n s → smL T n rc j m s = .inr s' → xGe n s s'
  | 0, s, s', hs, h => by cases h; exact .refl hs
  | m + 1, s, s', hs, h => by
    unfold smL at h
    split at h
    · cases h; exact .refl hs
    · rename_i c
      obtain ⟨s1, e1, e2⟩ := xBind_inr h
      have g := pdR_gr hrc (hs.at (nxT_le hs.1).2) e1
      have hc : sgnV T n s.1 = 42 ∨ sgnV T n s.1 = 43 ∨ sgnV T n s.1 = 45 := by
        have c : sgIs T n s.1 43 ∨ sgIs T n s.1 45 := Classical.byContradiction c
        unfold sgnV
        rcases c with c | c
        · rw [if_pos c.1]; have := c.2; omega
        · rw [if_pos c.1]; have := c.2; omega
      have g2 := xPut_ge (c := sgnV T n s.1) hs rfl hc g
      exact g2.trans (smL_gr hrc m _ _ g2.1 e2)
theorem sxR_gr {T : Nat → Int} {n : Nat} : ∀ d, rcGr n (sxR T n d)
  | 0 => fun j s s' _ h => by cases h
  | d + 1 => fun j s s' hs h => by
    obtain ⟨s1, e1, e2⟩ := xBind_inr h
    have g := pdR_gr (sxR_gr d) hs e1
    exact g.ge (smL_gr (sxR_gr d) _ _ _ g.1 e2)
