set_option maxRecDepth 100000
set_option maxHeartbeats 4000000
/-! the tape's tokens, plain; the model's lexer -/
def chr (T : Nat → Int) (n p : Nat) : Int := if p < n then T p else -1
def isW (c : Int) : Bool := c == 32 || c == 10
def isL (c : Int) : Bool := 97 ≤ c && c ≤ 122
def isD (c : Int) : Bool := 48 ≤ c && c ≤ 57
/-- the end of a run of signs of a kind -/
def runE (P : Int → Bool) (T : Nat → Int) (n : Nat) : Nat → Nat → Nat
  | 0, p => p
  | m + 1, p => if P (chr T n p) then runE P T n m (p + 1) else p
def sk (T : Nat → Int) (n p : Nat) : Nat := runE isW T n (n - p) p
def srt (T : Nat → Int) (n p : Nat) : Int := if n ≤ p then 0 else if isL (T p) then 1 else if isD (T p) then 2 else 3
def ende (T : Nat → Int) (n p : Nat) : Nat := if n ≤ p then p else if isL (T p) then runE isL T n (n - p) p else if isD (T p) then runE isD T n (n - p) p else p + 1
/-- a run's first k signs as a number -/
def valE (b o : Int) (T : Nat → Int) (p : Nat) : Nat → Int
  | 0 => 0
  | k + 1 => b * valE b o T p k + (T (p + k) - o)
def wrdV (T : Nat → Int) (n p : Nat) : Int := if srt T n p = 1 then valE 32 96 T p (min 7 (ende T n p - p)) else 0
def numV (T : Nat → Int) (n p : Nat) : Int := if srt T n p = 2 then valE 10 48 T p (min 4 (ende T n p - p)) else 0
def sgnV (T : Nat → Int) (n p : Nat) : Int := if srt T n p = 3 then T p else 0
theorem runE_le (P : Int → Bool) (T : Nat → Int) (n : Nat) : ∀ m p, p ≤ runE P T n m p ∧ runE P T n m p ≤ p + m
  | 0, p => ⟨Nat.le_refl _, Nat.le_refl _⟩
  | m + 1, p => by
    unfold runE
    split
    · have := runE_le P T n m (p + 1); omega
    · omega
theorem runE_all (P : Int → Bool) (T : Nat → Int) (n : Nat) : ∀ m p q, p ≤ q → q < runE P T n m p → P (chr T n q) = true
  | 0, p, q, h1, h2 => by unfold runE at h2; omega
  | m + 1, p, q, h1, h2 => by
    unfold runE at h2
    split at h2
    · rename_i e
      by_cases c : q = p
      · rw [c]; exact e
      · exact runE_all P T n m (p + 1) q (by omega) h2
    · omega
theorem runE_stop (P : Int → Bool) (T : Nat → Int) (n : Nat) (hP : P (-1) = false) : ∀ m p, n ≤ p + m → P (chr T n (runE P T n m p)) = false
  | 0, p, h => by unfold runE chr; rw [if_neg (by omega)]; exact hP
  | m + 1, p, h => by
    unfold runE
    by_cases e : P (chr T n p) = true
    · rw [if_pos e]; exact runE_stop P T n hP m (p + 1) (by omega)
    · rw [if_neg e]; exact Bool.eq_false_iff.mpr e
theorem sk_le {T : Nat → Int} {n p : Nat} (h : p ≤ n) : p ≤ sk T n p ∧ sk T n p ≤ n := by
  have := runE_le isW T n (n - p) p
  unfold sk; omega
/-- the model's tape, by numbers -/
def mTp (S : MS) (T : Nat → Int) (n : Nat) : Prop := n ≤ 800 ∧ S.1 3 = iI n ∧ ∀ k, k < n → S.2.2.1 2 k = iI (T k) ∧ 0 ≤ T k ∧ T k ≤ 255
theorem chr_in {S : MS} {T : Nat → Int} {n : Nat} (h : mTp S T n) (p : Nat) : -1 ≤ chr T n p ∧ chr T n p ≤ 255 := by
  unfold chr
  split
  · have := h.2.2 p (by assumption); omega
  · omega
theorem m_see {post : Int32 → MS → Prop} {S : MS} {T : Nat → Int} {n p : Nat} (hT : mTp S T n) (hp : p ≤ 2000) (h : post (iI (chr T n p)) S) : wX1_see post S (iI p) := by
  have := hT.1
  unfold wX1_see
  rw [hT.2.1]
  unfold chr at h
  simp (disch := omega) only [iLit, lLit, iI_add, iI_sub, iI_mul, iI_neg, lI_add, lI_sub, lI_mul, lI_neg, nI_i, lI_i, iI_le, iI_nat]
  refine ⟨fun e => by rw [if_neg (by omega)] at h; exact h, fun e => ?_⟩
  rw [if_pos (by omega)] at h
  refine ⟨iI_in (by omega) (by omega) (by omega), ?_⟩
  rw [show ((p : Int)).toNat = p by omega, (hT.2.2 p (by omega)).1]
  exact h
/-- what next may change -/
def tokEq (S S' : MS) : Prop := S'.2.2 = S.2.2 ∧ ∀ k, (k < 12 ∨ 17 < k) → S'.1 k = S.1 k
theorem tokEq.rfl' (S : MS) : tokEq S S := ⟨rfl, fun _ _ => rfl⟩
theorem tokEq.I {S S' : MS} (h : tokEq S S') (k : Nat) (hk : 12 ≤ k ∧ k ≤ 17) (v : Int32) : tokEq S (mI S' k v) := ⟨h.1, fun j hj => by
  show va_up S'.1 k v j = _
  rw [up_ne _ _ _ (by omega)]; exact h.2 j hj⟩
theorem tokEq.L {S S' : MS} (h : tokEq S S') (k : Nat) (v : Int64) : tokEq S (mL S' k v) := ⟨h.1, h.2⟩
theorem tokEq.tape {S S' : MS} {T : Nat → Int} {n : Nat} (h : tokEq S S') (hT : mTp S T n) : mTp S' T n := ⟨hT.1, by rw [h.2 3 (by omega)]; exact hT.2.1, fun k hk => by rw [h.1]; exact hT.2.2 k hk⟩
/-- the token at p -/
def mTok (S : MS) (T : Nat → Int) (n p : Nat) : Prop := S.1 12 = iI (srt T n p) ∧ S.1 13 = iI p ∧ S.1 14 = iI (ende T n p) ∧ S.2.1 15 = lI (wrdV T n p) ∧ S.1 16 = iI (numV T n p) ∧ S.1 17 = iI (sgnV T n p)
theorem lI_shl_or {w c : Int} (hw : 0 ≤ w ∧ w < 144115188075855872) (hc : 0 ≤ c ∧ c < 32) : (lI w <<< ((5 : Int32).toInt64 &&& 63)) ||| lI c = lI (32 * w + c) := by
  obtain ⟨a, rfl⟩ : ∃ a : Nat, w = a := ⟨w.toNat, by omega⟩
  obtain ⟨b, rfl⟩ : ∃ b : Nat, c = b := ⟨c.toNat, by omega⟩
  apply Int64.toBitVec.inj
  have e1 : ((5 : Int32).toInt64 &&& 63) = 5 := by decide
  rw [e1]
  apply BitVec.eq_of_toNat_eq
  have ha : (lI (a : Int)).toBitVec.toNat = a := by
    show (BitVec.ofInt 64 (a : Int)).toNat = a
    rw [BitVec.toNat_ofInt]; omega
  have hb : (lI (b : Int)).toBitVec.toNat = b := by
    show (BitVec.ofInt 64 (b : Int)).toNat = b
    rw [BitVec.toNat_ofInt]; omega
  have hc' : (lI (32 * (a : Int) + (b : Int))).toBitVec.toNat = 32 * a + b := by
    show (BitVec.ofInt 64 (32 * (a : Int) + (b : Int))).toNat = _
    rw [BitVec.toNat_ofInt]; omega
  rw [hc', Int64.toBitVec_or, BitVec.toNat_or, hb]
  have hs : (lI (a : Int) <<< (5 : Int64)).toBitVec.toNat = a <<< 5 := by
    show ((lI (a : Int)).toBitVec <<< ((5 : Int64).toBitVec.smod 64#64)).toNat = _
    rw [show (5 : Int64).toBitVec.smod 64#64 = 5#64 by decide]
    rw [show (lI (a : Int)).toBitVec <<< (5#64) = (lI (a : Int)).toBitVec <<< (5#64).toNat from rfl, BitVec.toNat_shiftLeft, ha]
    show a <<< 5 % 2 ^ 64 = _
    rw [Nat.shiftLeft_eq]; omega
  rw [hs, Nat.shiftLeft_eq, show a * 2 ^ 5 = 2 ^ 5 * a by omega]
  rw [← Nat.two_pow_add_eq_or_of_lt (show b < 2 ^ 5 by omega)]
