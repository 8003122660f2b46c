set_option maxRecDepth 100000
set_option maxHeartbeats 4000000
/-! text builders -/
/-- a row with a list written from the p-th place on -/
def putL (f : Nat → Int32) (p : Nat) (X : List Int) : Nat → Int32 := fun i => if p ≤ i ∧ i < p + X.length then iI (X.getD (i - p) 0) else f i
theorem putL_nil (f : Nat → Int32) (p : Nat) : putL f p [] = f := by
  funext i; unfold putL; rw [if_neg (by simp only [List.length_nil]; omega)]
theorem putL_cons (f : Nat → Int32) (p : Nat) (c : Int) (X : List Int) : upd (putL f (p + 1) X) p (iI c) = putL f p (c :: X) := by
  funext i
  by_cases e : i = p
  · rw [e, upd_eq]; unfold putL
    rw [if_pos (by simp only [List.length_cons]; omega), Nat.sub_self]; rfl
  · rw [upd_ne _ _ _ e]; unfold putL
    by_cases c2 : p + 1 ≤ i ∧ i < p + 1 + X.length
    · rw [if_pos c2, if_pos (by simp only [List.length_cons]; omega), show i - p = (i - (p + 1)) + 1 by omega, List.getD_cons_succ]
    · rw [if_neg c2, if_neg (by simp only [List.length_cons]; omega)]
/-- what an array may yet cost a builder -/
def sB (cap bc bs : Nat) : Prop := (cap = 16 ∧ 7 ≤ bc ∧ 4558 ≤ bs) ∨ (cap = 34 ∧ 6 ≤ bc ∧ 4524 ≤ bs) ∨ (cap = 70 ∧ 5 ≤ bc ∧ 4454 ≤ bs) ∨ (cap = 142 ∧ 4 ≤ bc ∧ 4312 ≤ bs) ∨ (cap = 286 ∧ 3 ≤ bc ∧ 4026 ≤ bs) ∨ (cap = 574 ∧ 2 ≤ bc ∧ 3452 ≤ bs) ∨ (cap = 1150 ∧ 1 ≤ bc ∧ 2302 ≤ bs) ∨ cap = 2302
theorem sB.in {cap bc bs : Nat} (h : sB cap bc bs) : 16 ≤ cap ∧ cap ≤ 2302 := by
  rcases h with h | h | h | h | h | h | h | h <;> omega
theorem sB.grow {cap bc bs : Nat} (h : sB cap bc bs) (hc : cap < 2302) : ∃ bc' bs', sB (2 * cap + 2) bc' bs' ∧ 1 + bc' ≤ bc ∧ (2 * cap + 2) + bs' ≤ bs := by
  rcases h with ⟨rfl, h⟩ | ⟨rfl, h⟩ | ⟨rfl, h⟩ | ⟨rfl, h⟩ | ⟨rfl, h⟩ | ⟨rfl, h⟩ | ⟨rfl, h⟩ | h
  · exact ⟨6, 4524, Or.inr (Or.inl ⟨rfl, by omega, by omega⟩), by omega, by omega⟩
  · exact ⟨5, 4454, Or.inr (Or.inr (Or.inl ⟨rfl, by omega, by omega⟩)), by omega, by omega⟩
  · exact ⟨4, 4312, Or.inr (Or.inr (Or.inr (Or.inl ⟨rfl, by omega, by omega⟩))), by omega, by omega⟩
  · exact ⟨3, 4026, Or.inr (Or.inr (Or.inr (Or.inr (Or.inl ⟨rfl, by omega, by omega⟩)))), by omega, by omega⟩
  · exact ⟨2, 3452, Or.inr (Or.inr (Or.inr (Or.inr (Or.inr (Or.inl ⟨rfl, by omega, by omega⟩))))), by omega, by omega⟩
  · exact ⟨1, 2302, Or.inr (Or.inr (Or.inr (Or.inr (Or.inr (Or.inr (Or.inl ⟨rfl, by omega, by omega⟩)))))), by omega, by omega⟩
  · exact ⟨0, 0, Or.inr (Or.inr (Or.inr (Or.inr (Or.inr (Or.inr (Or.inr (rfl))))))), by omega, by omega⟩
  · omega
/-- all cells are kept, whatever they hold -/
def dm (N0 N : NM) : Prop := ∀ z, N0 z ≠ none → N z ≠ none
/-- a text builder holds L; room for k more -/
def sBy (N0 N : NM) (x y : Nat) (L : List Int) (k bc bs : Nat) : Prop := ∃ (cap : Nat) (f : Nat → Int32) (hh : Int32), N0 x = none ∧ N0 y = none ∧ dm N0 N ∧ N x = some (eO 17 [va_rf (some y), .int 0, .int hh, .int (iI (L.length : Nat))]) ∧ N y = some (eN 3 cap f) ∧ (∀ i, i < cap → fits .byte (.int (f i)) = true) ∧ (∀ i c, L[i]? = some c → f i = iI c) ∧ (∀ c ∈ L, 0 ≤ c ∧ c ≤ 127) ∧ L.length + k ≤ cap ∧ sB cap bc bs
def sBd (N0 N : NM) (x : Nat) (L : List Int) (bc bs : Nat) : Prop := ∃ y, sBy N0 N x y L 0 bc bs
/-- what a builder's step changes -/
def fb (N0 N : NM) (x : Nat) (N' : NM) : Prop := ∃ y, N0 x = none ∧ N0 y = none ∧ (∀ e, N x = some e → fk e = 0) ∧ (∀ e, N y = some e → fk e = 0) ∧ fq x y N N'
theorem sh0 (x : Int32) : x >>> ((0 : Int32) &&& 31) = x ∧ x <<< ((0 : Int32) &&& 31) = x := by
  rw [show ((0 : Int32) &&& 31) = 0 by decide]
  exact ⟨Int32.shiftRight_zero, Int32.shiftLeft_zero⟩
section
variable {K : Nat → Nat → Nat}
theorem sBd.x {N0 N : NM} {x : Nat} {L : List Int} {bc bs : Nat} (h : sBd N0 N x L bc bs) : ∃ f1 f2 f3 f4, N x = some (eO 17 [va_rf f1, .int f2, .int f3, .int f4]) := by
  obtain ⟨y, cap, f, hh, -, -, -, h1, -⟩ := h
  exact ⟨_, _, _, _, h1⟩
theorem c_ensure {N0 N : NM} {x k bc bs : Nat} {L : List Int} (hB : sBd N0 N x L bc bs) (hk : k ≤ 10) (hl : L.length + k ≤ 2302) : ∃ uc us bc' bs', uc + bc' ≤ bc ∧ us + bs' ≤ bs ∧ ∀ (MC MS : Nat), uc ≤ MC → us ≤ MS → ∀ post : Unit → NM → Prop, (∀ N' y', sBy N0 N' x y' L k bc' bs' → fq x y' N N' → (∀ e, N y' = some e → fk e = 0) → post () N') → wJ10_ensureCapacityInternal K post MC MS N x (iI ((L.length + k : Nat) : Int)) := by
  obtain ⟨y, cap, f, hh, x0, y0, hd, h1, h2, h3, h4, h5, h6, h7⟩ := hB
  have hc := h7.in
  have hxy : x ≠ y := fun e => by rw [e, h2] at h1; cases h1
  have fx : ∀ e, N x = some e → fk e = 0 := fun e he => by rw [h1] at he; cases he; rfl
  have fy : ∀ e, N y = some e → fk e = 0 := fun e he => by rw [h2] at he; cases he; rfl
  by_cases hr : L.length + k ≤ cap
  · refine ⟨0, 0, bc, bs, by omega, by omega, fun MC MS _ _ post h => ?_⟩
    unfold wJ10_ensureCapacityInternal
    refine ⟨_, _, _, _, h1, _, rfl, _, _, h2, ?_⟩
    rw [(sh0 _).1, nI_i, iI_sub, show (0 : Int32) = iI 0 from rfl, iI_le (by omega) (by omega) (by omega) (by omega)]
    exact b_t (by omega) (h N y ⟨cap, f, hh, x0, y0, hd, h1, h2, h3, h4, h5, hr, h7⟩ (fun z e he _ _ => he) fy)
  · obtain ⟨bc', bs', g1, g2, g3⟩ := h7.grow (by omega)
    refine ⟨1, 2 * cap + 2, bc', bs', g2, g3, fun MC MS hMC hMS post h => ?_⟩
    unfold wJ10_ensureCapacityInternal
    refine ⟨_, _, _, _, h1, _, rfl, _, _, h2, ?_⟩
    rw [(sh0 _).1, nI_i, iI_sub, show (0 : Int32) = iI 0 from rfl, iI_le (by omega) (by omega) (by omega) (by omega)]
    refine b_f (by omega) ?_
    unfold wJ10_newCapacity wJ13_newLength wJ14_max
    refine ⟨_, _, _, _, h1, _, rfl, _, _, h2, ?_⟩
    rw [(sh0 _).2, (sh0 _).2, nI_i, iI_sub, show (2 : Int32) = iI 2 from rfl, iI_add, iI_lt (by omega) (by omega) (by omega) (by omega)]
    refine b_t (by omega) ?_
    dsimp only
    rw [iI_add, show (cap : Int) + (cap + 2) = ((2 * cap + 2 : Nat) : Int) by omega, show (0 : Int32) = iI 0 from rfl, show (2147483639 : Int32) = iI 2147483639 from rfl, show (2147483647 : Int32) = iI 2147483647 from rfl, iI_le (by omega) (by omega) (by omega) (by omega), iI_lt (by omega) (by omega) (by omega) (by omega), iI_eq (by omega) (by omega) (by omega) (by omega)]
    refine b_f (by omega) (b_f (by omega) (b_f (by omega) ?_))
    rw [show iI 0 = (0 : Int32) from rfl, (sh0 _).1]
    refine ⟨_, _, _, _, h1, MC, MS, Nat.le_refl _, Nat.le_refl _, ?_⟩
    rw [(sh0 _).2]
    unfold wJ15_copyOf wJ14_min
    refine ⟨_, _, h2, ?_⟩
    have e0 : (0 : Int32).toNatClampNeg = 0 := by decide
    have hneg : ∀ n : Nat, n ≤ 10000 → ¬ iI (n : Int) < 0 := fun n hn => by
      rw [show (0 : Int32) = iI 0 from rfl, iI_lt (by omega) (by omega) (by omega) (by omega)]; omega
    rw [nI_i, iI_eq (by omega) (by omega) (by omega) (by omega), nat_i (by omega)]
    refine b_f (by omega) ⟨hneg _ (by omega), by omega, hMC, hMS, fun nq hnq N11 e11 => ?_⟩
    subst e11
    rw [iI_lt (by omega) (by omega) (by omega) (by omega), e0]
    refine b_f (by omega) ⟨by decide, by decide, hneg _ (by omega), by rw [nat_i (by omega)]; omega, by rw [nat_i (by omega)]; omega, fun i hi => ?_, fun N22 e22 => ?_⟩
    · rw [nat_i (by omega)] at hi
      rw [Nat.zero_add]; exact h3 i hi
    · rw [up_up, nat_i (by omega)] at e22
      subst e22
      have n1 : x ≠ nq := fun e => by rw [e, hnq] at h1; cases h1
      have nq0 : N0 nq = none := Classical.byContradiction fun e => hd nq e hnq
      refine ⟨_, _, _, _, by rw [up_ne _ _ _ n1]; exact h1, fun N30 e30 => ?_⟩
      subst e30
      refine h _ nq ⟨2 * cap + 2, _, hh, x0, nq0, fun z hz => ?_, up_eq _ _ _, by rw [up_ne _ _ _ (Ne.symm n1)]; exact up_eq _ _ _, fun i hi => ?_, fun i c hic => ?_, h5, by omega, g1⟩ (fun z e he z1 z2 => ?_) (fun e he => by rw [hnq] at he; cases he)
      · by_cases c1 : z = x
        · rw [c1, up_eq]; exact fun e => by cases e
        · rw [up_ne _ _ _ c1]
          by_cases c2 : z = nq
          · rw [c2, up_eq]; exact fun e => by cases e
          · rw [up_ne _ _ _ c2]; exact hd z hz
      · unfold va_cpy
        by_cases c : 0 ≤ i ∧ i < 0 + cap
        · rw [if_pos c, show 0 + (i - 0) = i by omega]; exact h3 i (by omega)
        · rw [if_neg c]; exact fit8 (x := 0) (by omega)
      · unfold va_cpy
        have hi := (List.getElem?_eq_some_iff.mp hic).1
        rw [if_pos (by omega), show 0 + (i - 0) = i by omega]
        exact h4 i c hic
      · rw [up_ne _ _ _ z1, up_ne _ _ _ z2]; exact he
theorem c_latin {post : Int32 → NM → Prop} {N0 N : NM} {x y k bc bs : Nat} {L : List Int} (hB : sBy N0 N x y L k bc bs) (h : post 1 N) : wJ10_isLatin1 K post N x := by
  obtain ⟨cap, f, hh, x0, y0, hd, h1, -⟩ := hB
  unfold wJ10_isLatin1
  exact ⟨fun e => absurd e (by decide), fun _ => ⟨_, _, _, _, h1, fun _ => h, fun e => absurd rfl e⟩⟩
end
