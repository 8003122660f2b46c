set_option maxRecDepth 100000
set_option maxHeartbeats 4000000
/-! array lists of terms -/
theorem at_ne {N N' : NM} {q z : Nat} {e : Option NE} {u : NE} (h : N' = va_up N q e) (hz : z ≠ q) (h0 : N z = some u) : N' z = some u := by rw [h, up_ne _ _ _ hz]; exact h0
theorem at_up {N N' : NM} {q : Nat} {e : NE} (h : N' = va_up N q (some e)) : N' q = some e := by rw [h]; exact up_eq _ _ _
abbrev oOu (c : Nat) (r : Int) : NE := eO 5 [va_rf (some c), va_rf none, va_rf none, va_rf none, va_rf none, .int 0, .int (iI r)]
abbrev oIn (c : Nat) (r : Int) : NE := eO 4 [va_rf (some c), va_rf none, va_rf none, va_rf none, va_rf none, .int 0, .int (iI r)]
def aI (K : Nat → Nat → Nat) (N0 N : NM) (l : Nat) (ys : List Nat) : Prop := N0 l = none ∧ ((ys = [] ∧ ∃ m : Int32, N l = some (eO 18 [.int m, va_rf (some (K 4 1)), .int 0])) ∨ ∃ (m : Int32) (v : Nat) (f : Nat → Option Nat), N0 v = none ∧ N l = some (eO 18 [.int m, va_rf (some v), .int (iI (ys.length : Nat))]) ∧ N v = some (eR 8 10 f) ∧ ∀ i y, ys[i]? = some y → f i = some y)
def aK : NE → Bool
  | .inr (18, _) => false
  | .inl (8, _, _) => false
  | _ => true
section
variable {K : Nat → Nat → Nat} {a : Nat → Nat}
theorem c_outer {post : Unit → NM → Prop} {N : NM} {y c : Nat} {r : Int} (hy : N y = some (eO 5 [va_rf none, va_rf none, va_rf none, va_rf none, va_rf none, .int 0, .int 0])) (h : post () (va_up N y (some (oOu c r)))) : wX5_init K post N y (iI r) (some c) := by
  unfold wX5_init wJ2_init_2_o wJ1_init_3_o
  refine ⟨_, _, _, _, _, _, _, hy, fun N9 e9 z12 N14 e14 z17 N19 e19 => b_t rfl (fun N23 e23 => ?_)⟩
  rw [e9, up_up] at e14
  rw [e14, up_up] at e19
  rw [e19, up_up] at e23
  unfold wJ1_init_3_o_41
  refine ⟨_, _, _, _, _, _, _, at_up e23, fun N34 e34 N37 e37 => b_t rfl (fun N41 e41 => ⟨_, _, _, _, _, _, _, at_up e41, fun N11 e11 => ?_⟩)⟩
  rw [e34, e23, up_up, up_up] at e37
  rw [e37, up_up] at e41
  rw [e41, up_up] at e11
  rw [e11]
  exact h
theorem aI.kx {N0 N N' : NM} {l x p : Nat} {b d : Int32} {ys : List Nat} (h : aI K N0 N l ys) (hx : N x = some (rdr a p b d)) (hk : kx x N N') : aI K N0 N' l ys := by
  obtain ⟨l0, h⟩ := h
  refine ⟨l0, ?_⟩
  rcases h with ⟨e, m, h1⟩ | ⟨m, v, f, v0, h1, h2, h3⟩
  · exact Or.inl ⟨e, m, hk _ _ h1 (fun c => by rw [c, hx] at h1; cases h1)⟩
  · exact Or.inr ⟨m, v, f, v0, hk _ _ h1 (fun c => by rw [c, hx] at h1; cases h1), hk _ _ h2 (fun c => by rw [c, hx] at h2; cases h2), h3⟩
theorem c_alNew {post : Unit → NM → Prop} {N : NM} {l : Nat} (hl : N l = some (eO 18 [.int 0, va_rf none, .int 0])) (h : post () (va_up N l (some (eO 18 [.int 0, va_rf (some (K 4 1)), .int 0])))) : wJ9_init K post N l := by
  unfold wJ9_init wJ8_init wJ7_init
  refine ⟨_, _, _, hl, fun N7 e7 => ⟨_, _, _, at_up e7, fun N8 e8 => ?_⟩⟩
  rw [e7, up_up] at e8
  rw [e8]
  exact h
theorem c_alAdd {post : Int32 → NM → Prop} {N0 N : NM} {l y MC MS : Nat} {ys : List Nat} {t : tm} (hA : aI K N0 N l ys) (hd : dm N0 N) (hl : ys.length < 10) (hy : N y = some (oTm K t)) (hMC : 1 ≤ MC) (hMS : 10 ≤ MS) (h : ∀ N', aI K N0 N' l (ys ++ [y]) → (∀ z e, N z = some e → (N0 z ≠ none ∨ aK e = true) → N' z = some e) → post 1 N') : wJ9_add K post MC MS N l y := by
  obtain ⟨l0, hA⟩ := hA
  rcases hA with ⟨e0, m, hl1⟩ | ⟨m, v, f, v0, hl1, hv, hf⟩
  · subst e0
    have yl : y ≠ l := fun c => by rw [c, hl1] at hy; cases hy
    unfold wJ9_add
    refine ⟨_, _, _, hl1, fun N5 e5 => ⟨_, rfl, 1, 10, hMC, hMS, ?_⟩⟩
    have l5 : N5 l = some (eO 18 [.int (m + 1), va_rf (some (K 4 1)), .int 0]) := by rw [e5]; exact up_eq _ _ _
    have e10 : (10 : Int32).toNatClampNeg = 10 := by decide
    unfold wJ9_add_2 wJ9_grow wJ9_grow_2 wJ14_max
    refine ⟨0, Or.inl ⟨rfl, rfl⟩, b_t (by decide) ⟨_, _, _, l5, 1, 10, by omega, by omega, _, _, _, l5, 1, 10, by omega, by omega, _, _, _, l5, _, rfl, 0, Or.inl ⟨rfl, rfl⟩, b_f (by decide) (b_t rfl (b_f (by decide) ⟨by decide, by decide, by omega, by decide, fun v hv N18 e18 N22 e22 => ?_⟩))⟩⟩
    rw [e10] at e18
    have vl : v ≠ l := fun c => by rw [c, l5] at hv; cases hv
    have v0 : N v = none := by rw [e5, up_ne _ _ _ vl] at hv; exact hv
    have yv : y ≠ v := fun c => by rw [c, v0] at hy; cases hy
    unfold wJ9_add_2_11
    refine ⟨10, fun _ => none, at_ne e22 vl (at_up e18), show vp_in (iI 0) 10 from iI_in (by omega) (by omega) (by omega), _, _, _, _, at_ne e22 yl (at_ne e18 yv (at_ne e5 yl hy)), fun N12 e12 => ⟨_, _, _, at_ne e12 (Ne.symm vl) (at_up e22), fun N20 e20 => ?_⟩⟩
    refine h N20 ⟨l0, Or.inr ⟨m + 1, v, va_up (fun _ => none) 0 (some y), hd.no v0, at_up e20, by rw [e20, up_ne _ _ _ vl, e12]; exact up_eq _ _ _, fun i y' hi => ?_⟩⟩ (fun z e hz q => ?_)
    · cases i with
      | zero => rw [List.nil_append] at hi; cases hi; exact up_eq _ _ _
      | succ i => rw [List.nil_append] at hi; cases hi
    · have zl : z ≠ l := fun c => by
        rw [c] at q hz
        rcases q with q | q
        · exact q l0
        · rw [hl1] at hz; cases hz; cases q
      have zv : z ≠ v := fun c => by rw [c, v0] at hz; cases hz
      rw [e20, up_ne _ _ _ zl, e12, up_ne _ _ _ zv, e22, up_ne _ _ _ zl, e18, up_ne _ _ _ zv, e5, up_ne _ _ _ zl]
      exact hz
  · have yl : y ≠ l := fun c => by rw [c, hl1] at hy; cases hy
    have vl : v ≠ l := fun c => by rw [c, hl1] at hv; cases hv
    have yv : y ≠ v := fun c => by rw [c, hv] at hy; cases hy
    unfold wJ9_add
    refine ⟨_, _, _, hl1, fun N5 e5 => ⟨_, rfl, 1, 10, hMC, hMS, ?_⟩⟩
    have v5 : N5 v = some (eR 8 10 f) := by rw [e5, up_ne _ _ _ vl]; exact hv
    unfold wJ9_add_2
    refine ⟨10, Or.inr ⟨f, v5⟩, b_f ?_ ?_⟩
    · rw [nI_i, iI_eq (by omega) (by omega) (by omega) (by omega)]; omega
    unfold wJ9_add_2_11
    refine ⟨10, f, v5, iI_in (by omega) (by omega) (by omega), _, _, _, _, at_ne e5 yl hy, fun N12 e12 => ⟨_, _, _, at_ne e12 (Ne.symm vl) (at_up e5), fun N20 e20 => ?_⟩⟩
    rw [nat_i (by omega)] at e12
    rw [show iI (ys.length : Int) + 1 = iI (((ys ++ [y]).length : Nat) : Int) by rw [show (1 : Int32) = iI 1 from rfl, iI_add, List.length_append]; rfl] at e20
    refine h N20 ⟨l0, Or.inr ⟨m + 1, v, va_up f ys.length (some y), v0, at_up e20, by rw [e20, up_ne _ _ _ vl, e12]; exact up_eq _ _ _, fun i y' hi => ?_⟩⟩ (fun z e hz q => ?_)
    · by_cases c : i < ys.length
      · rw [List.getElem?_append_left c] at hi
        rw [up_ne _ _ _ (by omega)]; exact hf i y' hi
      · have hi' := (List.getElem?_eq_some_iff.mp hi).1
        rw [List.length_append, List.length_singleton] at hi'
        have ei : i = ys.length := by omega
        rw [ei, List.getElem?_append_right (Nat.le_refl _), Nat.sub_self] at hi
        cases hi
        rw [ei]; exact up_eq _ _ _
    · have zl : z ≠ l := fun c => by
        rw [c] at q hz
        rcases q with q | q
        · exact q l0
        · rw [hl1] at hz; cases hz; cases q
      have zv : z ≠ v := fun c => by
        rw [c] at q hz
        rcases q with q | q
        · exact q v0
        · rw [hv] at hz; cases hz; cases q
      rw [e20, up_ne _ _ _ zl, e12, up_ne _ _ _ zv, e5, up_ne _ _ _ zl]
      exact hz
theorem c_alSize {post : Int32 → NM → Prop} {N0 N : NM} {l : Nat} {ys : List Nat} (hA : aI K N0 N l ys) (h : ∀ m f, N l = some (eO 18 [.int m, va_rf f, .int (iI (ys.length : Nat))]) → post (iI (ys.length : Nat)) N) : ∃ f68 f69 f70, N l = some (eO 18 [.int f68, va_rf f69, .int f70]) ∧ wJ9_size K post N l := by
  obtain ⟨l0, hA⟩ := hA
  unfold wJ9_size
  rcases hA with ⟨e0, m, hl1⟩ | ⟨m, v, f, v0, hl1, hv, hf⟩
  · subst e0
    exact ⟨_, _, _, hl1, _, _, _, hl1, h _ _ hl1⟩
  · exact ⟨_, _, _, hl1, _, _, _, hl1, h _ _ hl1⟩
theorem c_alGet {post : Option Nat → NM → Prop} {N0 N : NM} {l i y : Nat} {ys : List Nat} (hA : aI K N0 N l ys) (hl : ys.length < 10) (hi : ys[i]? = some y) (h : post (some y) N) : ∃ f97 f98 f99, N l = some (eO 18 [.int f97, va_rf f98, .int f99]) ∧ wJ9_get K post N l (iI (i : Nat)) := by
  obtain ⟨l0, hA⟩ := hA
  have hil := (List.getElem?_eq_some_iff.mp hi).1
  rcases hA with ⟨e0, m, hl1⟩ | ⟨m, v, f, v0, hl1, hv, hf⟩
  · subst e0; cases hi
  · unfold wJ9_get wJ18_checkIndex wJ17_checkIndex_g wJ9_elementData
    refine ⟨_, _, _, hl1, _, _, _, hl1, ?_⟩
    rw [show (0 : Int32) = iI 0 from rfl, iI_lt (by omega) (by omega) (by omega) (by omega), iI_lt (by omega) (by omega) (by omega) (by omega)]
    refine b_f (by omega) (b_t (by omega) ⟨_, _, _, hl1, _, _, _, hl1, _, rfl, _, _, hv, iI_in (by omega) (by omega) (by omega), ?_⟩)
    rw [nat_i (by omega), hf i y hi]
    exact h
end
