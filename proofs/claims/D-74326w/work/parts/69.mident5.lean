set_option maxRecDepth 100000
set_option maxHeartbeats 4000000
/-! the model takes an identity over -/
theorem mA_comm (S : MS) {j k : Nat} (h : j ≠ k) {f g : Nat → Int32} : mA (mA S j f) k g = mA (mA S k g) j f := by
  unfold mA
  congr 3
  funext q
  show va_up (va_up S.2.2.1 j f) k g q = va_up (va_up S.2.2.1 k g) j f q
  unfold va_up
  by_cases a : q = j
  · by_cases b : q = k
    · omega
    · simp [a, h]
  · by_cases b : q = k
    · simp [b, Ne.symm h]
    · simp [a, b]
def btN : Nat → Nat → Nat
  | 0, _ => 0
  | m + 1, a => if a = 0 then 0 else a % 2 + btN m (a / 2)
/-- an identity in force: where its left side's codes end, all codes, parts, letters -/
def mIdn (S : MS) (e : Nat) (C : List (Int × Int)) (p l : Nat) : Prop := S.1 41 = iI 1 ∧ S.1 37 = iI p ∧ S.1 39 = iI l ∧ S.2.2.1 35 0 = iI e ∧ S.2.2.1 35 1 = iI (C.length : Nat) ∧ ∀ i c, C[i]? = some c → S.2.2.1 34 i = iI c.1 ∧ S.2.2.1 33 i = iI c.2
theorem m_id_87 {post : Int32 → MS → Prop} {S0 : MS} {len : Nat} (hl : len ≤ 400) (h36 : S0.1 36 = iI len) (h : ∀ f g : Nat → Int32, (∀ i, i < len → f i = S0.2.2.1 33 (900 + i) ∧ g i = S0.2.2.1 34 (900 + i)) → wX1_bits (fun r => post r (mA (mA S0 33 f) 34 g)) (S0.1 39)) : ∀ (m i : Nat) (f g : Nat → Int32), i + m = len → (∀ q, 900 ≤ q → f q = S0.2.2.1 33 q ∧ g q = S0.2.2.1 34 q) → (∀ q, q < i → f q = S0.2.2.1 33 (900 + q) ∧ g q = S0.2.2.1 34 (900 + q)) → wX1_identity_87 post (m + 1) (iI i) (mA (mA S0 33 f) 34 g) := by
  intro m
  induction m with
  | zero =>
    intro i f g hi h9 hq
    unfold wX1_identity_87
    refine b_t ?_ (h f g (fun q a => hq q (by omega)))
    show S0.1 36 ≤ _
    rw [h36, iI_le (by omega) (by omega) (by omega) (by omega)]; omega
  | succ m ih =>
    intro i f g hi h9 hq
    unfold wX1_identity_87
    refine b_f ?_ ?_
    · show ¬ S0.1 36 ≤ _
      rw [h36, iI_le (by omega) (by omega) (by omega) (by omega)]; omega
    simp (disch := omega) only [iLit, lLit, iI_add, iI_sub, iI_mul, iI_neg, lI_add, lI_sub, lI_mul, lI_neg, nI_i, lI_i, iI_nat]
    refine ⟨iI_in (by omega) (by omega) (by omega), iI_in (by omega) (by omega) (by omega), iI_in (by omega) (by omega) (by omega), iI_in (by omega) (by omega) (by omega), ?_⟩
    rw [show ((900 : Int) + (i : Int)).toNat = 900 + i by omega, show (i : Int).toNat = i by omega]
    have e34 : (mA (mA S0 33 f) 34 g).2.2.1 34 = g := mA_at _ _ _
    have e33 : (mA (mA S0 33 f) 34 g).2.2.1 33 = f := mA_at S0 33 f
    rw [e34, e33]
    have eS : mA (mA (mA (mA S0 33 f) 34 g) 33 (upd f i (f (900 + i)))) 34 (upd g i (g (900 + i))) = mA (mA S0 33 (upd f i (f (900 + i)))) 34 (upd g i (g (900 + i))) := by
      rw [mA_comm (mA S0 33 f) (show 34 ≠ 33 by omega), mA_mA, mA_mA]
    rw [eS]
    refine ih (i + 1) _ _ (by omega) (fun q hq9 => ?_) (fun q hqi => ?_)
    · rw [upd_ne _ _ _ (by omega), upd_ne _ _ _ (by omega)]; exact h9 q hq9
    · rcases (show q < i ∨ q = i by omega) with c | c
      · rw [upd_ne _ _ _ (by omega), upd_ne _ _ _ (by omega)]; exact hq q c
      · rw [c, upd_eq, upd_eq]; exact h9 (900 + i) (by omega)
theorem iI_div2 {a : Int} (h1 : 0 ≤ a) (h2 : a < 2147483648) : iI a / iI 2 = iI (a.tdiv 2) :=
  (Int32.ofInt_tdiv (a := a) (b := 2) (by show (-2147483648 : Int) ≤ a; omega) (by show a ≤ 2147483647; omega) (by decide) (by decide)).symm
theorem m_bits_4 {post : Int32 → Prop} : ∀ (m a x : Nat), a < 2 ^ m → m ≤ 6 → post (iI ((x + btN m a : Nat) : Int)) → wX1_bits_4 post (m + 1) (iI x) (iI a)
  | 0, a, x, ha, _, h => by
    have : a = 0 := by simp at ha; omega
    unfold wX1_bits_4
    rw [this]
    exact b_t (by decide) h
  | m + 1, a, x, ha, hm, h => by
    have h64 : (2 : Nat) ^ (m + 1) ≤ 2 ^ 6 := Nat.pow_le_pow_right (by omega) hm
    unfold wX1_bits_4
    unfold btN at h
    rw [show (0 : Int32) = iI 0 from rfl, iI_le (by omega) (by omega) (by omega) (by omega)]
    refine ⟨fun c => ?_, fun c => ?_⟩
    · rw [if_pos (by omega)] at h; exact h
    · rw [if_neg (by omega)] at h
      rw [show (2 : Int32) = iI 2 from rfl, iI_rem (by omega) (by omega), iI_div2 (by omega) (by omega), iI_add]
      rw [show (a : Int).tmod 2 = ((a % 2 : Nat) : Int) from rfl, show (a : Int).tdiv 2 = ((a / 2 : Nat) : Int) from rfl]
      have e : (x : Int) + ((a % 2 : Nat) : Int) = ((x + a % 2 : Nat) : Int) := by omega
      rw [e]
      refine m_bits_4 m (a / 2) (x + a % 2) ?_ (by omega) (by rw [Nat.add_assoc]; exact h)
      rw [Nat.pow_succ] at ha
      omega
theorem m_bits {post : Int32 → Prop} {a : Nat} (ha : a < 64) (h : post (iI (btN 6 a : Nat))) : wX1_bits post (iI a) := ⟨7, m_bits_4 6 a 0 ha (by omega) (by rw [Nat.zero_add]; exact h)⟩
/-- behind an identity's reading: faults told; what is in force -/
abbrev toldI (S S' : MS) (k p o i : Int) : Prop := S'.2.2.2 = S.2.2.2 ∧ (∀ q, (q < 3 ∨ 20 < q) → q ≠ 36 → q ≠ 37 → q ≠ 38 → q ≠ 39 → q ≠ 40 → q ≠ 41 → S'.1 q = S.1 q) ∧ (∀ q, 2 ≤ q → q ≠ 33 → q ≠ 34 → q ≠ 35 → S'.2.2.1 q = S.2.2.1 q) ∧ (∀ q, q < 4 → S'.2.2.1 0 q = S.2.2.1 0 q) ∧ (∀ q, q < 80 → S'.2.2.1 1 q = S.2.2.1 1 q) ∧ S'.1 3 = iI 0 ∧ S'.1 4 = iI k ∧ S'.1 5 = iI p ∧ S'.1 6 = iI o ∧ S'.1 7 = iI i
/-- an identity that was in force stays so -/
abbrev keptI (S S' : MS) : Prop := S'.1 41 = S.1 41 ∧ S'.1 37 = S.1 37 ∧ S'.1 39 = S.1 39 ∧ (∀ q, q < 2 → S'.2.2.1 35 q = S.2.2.1 35 q) ∧ (∀ q, q < 900 → S'.2.2.1 33 q = S.2.2.1 33 q ∧ S'.2.2.1 34 q = S.2.2.1 34 q)
theorem m_isReadI {post : Int32 → MS → Prop} {S S' : MS} {k p o i : Int} (hr : idE2 S S') (hb : mBad S' k p o i) (h : ∀ (r : Int32) (S'' : MS), toldI S S'' k p o i → keptI S S'' → S''.2 = S'.2 → (∀ q, 35 ≤ q → S''.1 q = S'.1 q) → post r S'') : wX1_isRead post S' := by
  have g : ∀ q, (q < 3 ∨ 7 < q) → (mI (mI (mI (mI (mI S' 3 (0 : Int32)) 4 (S'.1 8)) 5 (S'.1 9)) 6 (S'.1 10)) 7 (S'.1 11)).1 q = S'.1 q := fun q hq => by
    show va_up (va_up (va_up (va_up (va_up S'.1 3 _) 4 _) 5 _) 6 _) 7 _ q = _
    rw [up_ne _ _ _ (by omega), up_ne _ _ _ (by omega), up_ne _ _ _ (by omega), up_ne _ _ _ (by omega), up_ne _ _ _ (by omega)]
  have all : ∀ r, post r (mI (mI (mI (mI (mI S' 3 (0 : Int32)) 4 (S'.1 8)) 5 (S'.1 9)) 6 (S'.1 10)) 7 (S'.1 11)) := fun r => by
    refine h r _ ⟨hr.1, fun q a b _ c _ d _ => (g q (by omega)).trans (hr.2.1 q (by omega) b c d), hr.2.2.1, hr.2.2.2.1, hr.2.2.2.2.1, rfl, hb.1, hb.2.1, hb.2.2.1, hb.2.2.2⟩ ⟨(g 41 (by omega)).trans (hr.2.1 41 (by omega) (by omega) (by omega) (by omega)), (g 37 (by omega)).trans (hr.2.1 37 (by omega) (by omega) (by omega) (by omega)), (g 39 (by omega)).trans (hr.2.1 39 (by omega) (by omega) (by omega) (by omega)), hr.2.2.2.2.2.2.2, fun q hq => ⟨hr.2.2.2.2.2.1 q hq, hr.2.2.2.2.2.2.1 q hq⟩⟩ rfl (fun q hq => g q (by omega))
  unfold wX1_isRead
  exact ⟨fun _ => all 1, fun _ => all 0⟩
