set_option maxRecDepth 100000
set_option maxHeartbeats 4000000
/-! codes are evaluated: plain -/
/-- the pile's height behind a code -/
def hg1 (c : Int × Int) (h : Nat) : Option Nat := if c.1 = 0 ∨ c.1 = 1 then some (h + 1) else if c.1 = 94 then (if 1 ≤ h then some h else none) else (if 2 ≤ h then some (h - 1) else none)
def hgt : List (Int × Int) → Nat → Option Nat
  | [], h => some h
  | c :: C, h => (hg1 c h).bind (hgt C)
theorem hgt_app : ∀ (A B : List (Int × Int)) (h : Nat), hgt (A ++ B) h = (hgt A h).bind (hgt B)
  | [], B, h => rfl
  | c :: A, B, h => by
    show (hg1 c h).bind (hgt (A ++ B)) = ((hg1 c h).bind (hgt A)).bind (hgt B)
    cases hg1 c h with
    | none => rfl
    | some k => exact hgt_app A B k
/-- such codes push one value -/
def psh (X : List (Int × Int)) : Prop := ∀ h, hgt X h = some (h + 1)
theorem psh_one {c : Int × Int} (hc : c.1 = 0 ∨ c.1 = 1) : psh [c] := fun h => by
  show (hg1 c h).bind (hgt []) = _
  unfold hg1
  rw [if_pos hc]; rfl
theorem psh_pow {X : List (Int × Int)} {v : Int} (hX : psh X) : psh (X ++ [(94, v)]) := fun h => by
  rw [hgt_app, hX h]
  show (hg1 (94, v) (h + 1)).bind (hgt []) = _
  unfold hg1
  rw [if_neg (by simp), if_pos rfl, if_pos (by omega)]; rfl
theorem psh_op {X Y : List (Int × Int)} {c v : Int} (hX : psh X) (hY : psh Y) (hc : c = 42 ∨ c = 43 ∨ c = 45) : psh (X ++ (Y ++ [(c, v)])) := fun h => by
  rw [hgt_app, hX h, show (some (h + 1)).bind (hgt (Y ++ [(c, v)])) = hgt (Y ++ [(c, v)]) (h + 1) from rfl, hgt_app, hY]
  show (hg1 (c, v) (h + 1 + 1)).bind (hgt []) = _
  unfold hg1
  rw [if_neg (by simp only []; omega), if_neg (by simp only []; omega), if_pos (by omega)]
  rfl
/-- behind a reading: what is appended pushes one value -/
abbrev xPs (s s' : xst) : Prop := ∃ X, s'.2.1 = s.2.1 ++ X ∧ psh X
abbrev rcPs (rc : Nat → xst → xR) : Prop := ∀ j s s', rc j s = .inr s' → xPs s s'
theorem ptR_ps {T : Nat → Int} {n : Nat} {rc : Nat → xst → xR} {j : Nat} {s s' : xst} (hrc : rcPs rc) (h : ptR T n rc j s = .inr s') : xPs s s' := by
  unfold ptR at h
  split at h
  · cases h
  split at h
  · cases h
  split at h
  · cases h
  split at h
  · cases e : rc (j + 1) (nxT T n s.1, s.2.1, s.2.2.1 + 1, s.2.2.2) with
    | inl x => rw [e] at h; cases h
    | inr s1 =>
      rw [e] at h
      have g := hrc _ _ _ e
      unfold ptC at h
      simp only [] at h
      split at h
      · cases h
      · cases h; exact g
  split at h
  · cases h; exact ⟨_, rfl, psh_one (Or.inr rfl)⟩
  · cases h; exact ⟨_, rfl, psh_one (Or.inl rfl)⟩
theorem pwR_ps {T : Nat → Int} {n : Nat} {rc : Nat → xst → xR} {j : Nat} {s s' : xst} (hrc : rcPs rc) (h : pwR T n rc j s = .inr s') : xPs s s' := by
  unfold pwR at h
  cases e : ptR T n rc j s with
  | inl x => rw [e] at h; cases h
  | inr s1 =>
    rw [e] at h
    obtain ⟨X, e1, p1⟩ := ptR_ps hrc e
    unfold pwC at h
    simp only [] at h
    split at h
    · cases h; exact ⟨X, e1, p1⟩
    split at h
    · cases h
    split at h
    · cases h
    · cases h; exact ⟨X ++ [(94, _)], by show s1.2.1 ++ _ = _; rw [e1, List.append_assoc], psh_pow p1⟩
/-- the same behind a value that is there already -/
abbrev xPl (s s' : xst) : Prop := ∀ B Y, s.2.1 = B ++ Y → psh Y → ∃ X, s'.2.1 = B ++ X ∧ psh X
theorem xPl_put {s s1 : xst} {c : Int} (hc : c = 42 ∨ c = 43 ∨ c = 45) (h : ∃ X, s1.2.1 = s.2.1 ++ X ∧ psh X) : xPl s (xPut c s1) := fun B Y e p => by
  obtain ⟨X, e1, p1⟩ := h
  exact ⟨Y ++ (X ++ [(c, 0)]), by show s1.2.1 ++ [(c, 0)] = _; rw [e1, e]; simp only [List.append_assoc], psh_op p p1 hc⟩
theorem pdL_ps {T : Nat → Int} {n : Nat} {rc : Nat → xst → xR} {j : Nat} (hrc : rcPs rc) : ∀ (m : Nat) (s s' : xst), pdL T n rc j m s = .inr s' → xPl s s'
  | 0, s, s', h => by cases h; exact fun B Y e p => ⟨Y, e, p⟩
  | m + 1, s, s', h => by
    unfold pdL at h
    split at h
    · cases h; exact fun B Y e p => ⟨Y, e, p⟩
    · obtain ⟨s1, e1, e2⟩ := xBind_inr h
      have g := pwR_ps (s := (nxT T n s.1, s.2)) hrc e1
      intro B Y e p
      obtain ⟨X, e3, p3⟩ := xPl_put (s := s) (c := 42) (Or.inl rfl) g B Y e p
      exact pdL_ps hrc m (xPut 42 s1) s' e2 B X e3 p3
theorem pdR_ps {T : Nat → Int} {n : Nat} {rc : Nat → xst → xR} {j : Nat} {s s' : xst} (hrc : rcPs rc) (h : pdR T n rc j s = .inr s') : xPs s s' := by
  obtain ⟨s1, e1, e2⟩ := xBind_inr h
  obtain ⟨X, e3, p3⟩ := pwR_ps hrc e1
  exact pdL_ps hrc _ _ _ e2 _ X e3 p3
theorem smL_ps {T : Nat → Int} {n : Nat} {rc : Nat → xst → xR} {j : Nat} (hrc : rcPs rc) : ∀ (m : Nat) (s s' : xst), smL T n rc j m s = .inr s' → xPl s s'
  | 0, s, s', h => by cases h; exact fun B Y e p => ⟨Y, e, p⟩
  | m + 1, s, s', h => by
    unfold smL at h
    split at h
    · cases h; exact fun B Y e p => ⟨Y, e, p⟩
    · rename_i c
      obtain ⟨s1, e1, e2⟩ := xBind_inr h
      have hc : sgnV T n s.1 = 42 ∨ sgnV T n s.1 = 43 ∨ sgnV T n s.1 = 45 := by
        have c : sgIs T n s.1 43 ∨ sgIs T n s.1 45 := Classical.byContradiction c
        unfold sgnV
        rcases c with c | c
        · rw [if_pos c.1]; have := c.2; omega
        · rw [if_pos c.1]; have := c.2; omega
      have g := pdR_ps (s := (nxT T n s.1, s.2)) hrc e1
      intro B Y e p
      obtain ⟨X, e3, p3⟩ := xPl_put (s := s) hc g B Y e p
      exact smL_ps hrc m (xPut _ s1) s' e2 B X e3 p3
theorem sxR_ps {T : Nat → Int} {n : Nat} : ∀ d, rcPs (sxR T n d)
  | 0 => fun j s s' h => by cases h
  | d + 1 => fun j s s' h => by
    obtain ⟨s1, e1, e2⟩ := xBind_inr h
    obtain ⟨X, e3, p3⟩ := pdR_ps (sxR_ps d) e1
    exact smL_ps (sxR_ps d) _ _ _ e2 _ X e3 p3
