set_option maxRecDepth 100000
set_option maxHeartbeats 4000000
/-! bytes; the component's tape is fed -/
def sgB (x : Int) : Int := if x < 128 then x else x - 256
theorem by255 (y : Int32) : y &&& 255 = iI (y.toInt % 256) := by
  apply Int32.toBitVec_inj.mp
  apply BitVec.eq_of_toNat_eq
  rw [Int32.toBitVec_and]
  have h1 : (y.toBitVec &&& (255 : Int32).toBitVec).toNat = y.toBitVec.toNat % 256 := by
    rw [BitVec.toNat_and]
    exact Nat.and_two_pow_sub_one_eq_mod y.toBitVec.toNat 8
  rw [h1]
  have h2 : (iI (y.toInt % 256)).toBitVec.toNat = (y.toInt % 256).toNat := by
    show (BitVec.ofInt 32 (y.toInt % 256)).toNat = _
    rw [BitVec.toNat_ofInt]
    have := Int.emod_nonneg y.toInt (show (256 : Int) ≠ 0 by omega)
    have := Int.emod_lt_of_pos y.toInt (show (0 : Int) < 256 by omega)
    congr 1
    omega
  rw [h2]
  have h3 : y.toInt = y.toBitVec.toInt := rfl
  rw [h3, BitVec.toInt_eq_toNat_cond]
  have h4 : y.toBitVec.toNat < 4294967296 := y.toBitVec.isLt
  split <;> omega
theorem by8 (y : Int32) : y.toInt8.toInt32 = iI (sgB (y.toInt % 256)) := by
  apply Int32.toInt_inj.mp
  rw [Int8.toInt_toInt32, Int32.toInt_toInt8]
  have h0 := Int.emod_nonneg y.toInt (show (256 : Int) ≠ 0 by omega)
  have h1 := Int.emod_lt_of_pos y.toInt (show (0 : Int) < 256 by omega)
  have h2 : y.toInt.bmod (2 ^ 8) = sgB (y.toInt % 256) := by
    unfold Int.bmod sgB
    rfl
  rw [h2, iI_toInt]
  · unfold sgB; split <;> omega
  · unfold sgB; split <;> omega
theorem sgB_in {x : Int} (h : 0 ≤ x ∧ x ≤ 255) : -128 ≤ sgB x ∧ sgB x ≤ 127 := by
  unfold sgB; split <;> omega
theorem sgB_255 {x : Int} (h : 0 ≤ x ∧ x ≤ 255) : iI (sgB x) &&& 255 = iI x := by
  have hb := sgB_in h
  rw [by255, iI_toInt (by omega) (by omega)]
  congr 1
  unfold sgB; split <;> omega
theorem nar8 {x : Int} (h : -128 ≤ x ∧ x ≤ 127) : vp_nar .byte (iI x) = iI x := by
  show (iI x).toInt8.toInt32 = iI x
  rw [by8, iI_toInt (by omega) (by omega)]
  congr 1
  unfold sgB; split <;> omega
theorem fit8 {x : Int} (h : -128 ≤ x ∧ x ≤ 127) : fits .byte (.int (iI x)) = true := by
  show (decide ((-128 : Int32) ≤ iI x) && decide (iI x ≤ (127 : Int32))) = true
  rw [Bool.and_eq_true, decide_eq_true_eq, decide_eq_true_eq, show (-128 : Int32) = iI (-128) from rfl, show (127 : Int32) = iI 127 from rfl, iI_le (by omega) (by omega) (by omega) (by omega), iI_le (by omega) (by omega) (by omega) (by omega)]
  exact h
/-- a word's k-th byte -/
def bz (x : Int32) (k : Nat) : Int := (x >>> (iI (24 - 8 * k) &&& 31)).toInt % 256
theorem bz_in (x : Int32) (k : Nat) : 0 ≤ bz x k ∧ bz x k ≤ 255 := by
  unfold bz
  have h0 := Int.emod_nonneg (x >>> (iI (24 - 8 * k) &&& 31)).toInt (show (256 : Int) ≠ 0 by omega)
  have h1 := Int.emod_lt_of_pos (x >>> (iI (24 - 8 * k) &&& 31)).toInt (show (0 : Int) < 256 by omega)
  omega
theorem bx_bz (x : Int32) (k : Nat) : bx x k = iI (bz x k) := by255 _
/-- twenty bytes more, by numbers -/
def fdZ (T : Nat → Int) (n : Nat) (w : Nat → Int32) : Nat → Int := fun q => if n ≤ q ∧ q < n + 20 then bz (w ((q - n) / 4)) ((q - n) % 4) else T q
theorem mTp.tape {S : MS} {T : Nat → Int} {n : Nat} (h : mTp S T n) : mTape S (fun k => iI (T k)) n := ⟨h.1, h.2.1, fun k hk => (h.2.2 k hk).1⟩
theorem mTp.of {S : MS} {T : Nat → Int} {n : Nat} (h : mTape S (fun k => iI (T k)) n) (hT : ∀ k, k < n → 0 ≤ T k ∧ T k ≤ 255) : mTp S T n := ⟨h.1, h.2.1, fun k hk => ⟨h.2.2 k hk, hT k hk⟩⟩
theorem fdT_fdZ (T : Nat → Int) (n : Nat) (w : Nat → Int32) : fdT (fun k => iI (T k)) n w = fun k => iI (fdZ T n w k) := by
  funext q
  unfold fdT fdZ
  split
  · exact bx_bz _ _
  · rfl
theorem fdZ_in {T : Nat → Int} {n : Nat} {w : Nat → Int32} (h : ∀ k, k < n → 0 ≤ T k ∧ T k ≤ 255) : ∀ k, k < n + 20 → 0 ≤ fdZ T n w k ∧ fdZ T n w k ≤ 255 := fun k hk => by
  unfold fdZ
  split
  · exact bz_in _ _
  · exact h k (by omega)
/-- the model is fed -/
theorem m_feedZ {post : Int32 → MS → Prop} {S : MS} {T : Nat → Int} {n : Nat} {w : Nat → Int32} (hT : mTp S T n) (h0 : ¬ n + 20 ≤ 800 → post (iI (-1)) S) (h1 : ∀ f : Nat → Int32, n + 20 ≤ 800 → mTp (mI (mA S 2 f) 3 (iI (n + 20 : Nat))) (fdZ T n w) (n + 20) → post (iI (n + 20 : Nat)) (mI (mA S 2 f) 3 (iI (n + 20 : Nat)))) : wX1_feed post S (w 0) (w 1) (w 2) (w 3) (w 4) := by
  refine m_feed hT.tape h0 (fun f h8 ht => h1 f h8 ?_)
  rw [fdT_fdZ] at ht
  exact mTp.of ht (fdZ_in (fun k hk => (hT.2.2 k hk).2))
/-- the component's tape -/
def cTape (S : CS) (T : Nat → Int) (n : Nat) : Prop := n ≤ 800 ∧ S.1.2 13 = iI n ∧ ∀ k, k < n → S.2.2.1 k = iI (sgB (T k)) ∧ 0 ≤ T k ∧ T k ≤ 255
section
variable {K : Nat → Nat → Nat} {a : Nat → Nat}
theorem c_feed_36 {post : Int32 → NM → Prop} {S : CS} {N0 : NM} {T : Nat → Int} {n nb nw_ mc ms : Nat} {w : Nat → Int32} {g : Nat → Int32} (hT : cTape S T n) (hb0 : N0 nb = none) (hbo : ∀ i, i < 28 → nb ≠ a i) (hne : nb ≠ nw_) (hmc : 3 ≤ mc) (hms : 410 ≤ ms) (hg : ∀ j, j < 5 → g j = w j) (h0 : ¬ n + 20 ≤ 800 → ∀ N', cL K a S N' → kp a N0 N' → post (iI (-1)) N') (h1 : ∀ f N', n + 20 ≤ 800 → cL K a (cN (cTp S f) 13 (iI (n + 20 : Nat))) N' → kp a N0 N' → cTape (cN (cTp S f) 13 (iI (n + 20 : Nat))) (fdZ T n w) (n + 20) → post (iI (n + 20 : Nat)) N') : ∀ (m k : Nat) (f : Nat → Int32) (N : NM), k + m = 20 → cL K a S N → kp a N0 N → N nb = some (eN 3 20 f) → N nw_ = some (eN 0 5 g) → (∀ j, j < k → f j = iI (sgB (bz (w (j / 4)) (j % 4)))) → wX0_feed_36 K post (m + 1) (a 0) nb nw_ (iI k) mc ms N := by
  obtain ⟨t1, t2, t3⟩ := hT
  have e0 : (0 : Int32).toNatClampNeg = 0 := by decide
  have e20 : (iI (20 : Nat)).toNatClampNeg = 20 := by decide
  intro m
  induction m with
  | zero =>
    intro k f N hk hL hkp hB hW hf
    unfold wX0_feed_36
    refine ⟨20, f, hB, b_t (by simp (disch := omega) only [iLit, lLit, iI_add, iI_sub, iI_mul, iI_neg, lI_add, lI_sub, lI_mul, lI_neg, nI_i, lI_i, iI_l, iI_nat, iI_lt, iI_le, iI_eq, lI_lt, lI_le, lI_eq] <;> omega) ⟨_, _, _, _, _, _, _, _, _, _, _, _, _, _, _, _, _, _, _, hL.obj, a 6, rfl, _, _, hL.tape, by decide, ?_, by decide, ?_⟩⟩
    · rw [t2, show (0 : Int32) = iI 0 from rfl, iI_lt (by omega) (by omega) (by omega) (by omega)]; omega
    rw [e0, t2, nat_i (by omega), nI_i, e20]
    refine ⟨by omega, fun hfit => ⟨fun i hi => ?_, fun N78 e78 => ?_⟩, fun hfit => ⟨by omega, hmc, hms, fun _ => h0 hfit N hL hkp⟩⟩
    · have hbz := bz_in (w (i / 4)) (i % 4)
      rw [Nat.zero_add, hf i (by omega)]
      exact fit8 (sgB_in hbz)
    · generalize hf2 : va_cpy f S.2.2.1 0 n 20 = f2 at e78
      subst e78
      have hL2 := hL.setTp f2
      have hk2 := hkp.at (i := 6) (by omega) (eN 3 800 f2)
      refine ⟨20, f, by rw [up_ne _ _ _ (hbo 6 (by omega))]; exact hB, fun N85 e85 => ?_⟩
      have en : iI (n : Int) + iI (20 : Nat) = iI (n + 20 : Nat) := iI_add _ _
      rw [nI_i, en] at e85
      rw [nI_i, en]
      have e85 : N85 = va_up (va_up N (a 6) (some (eN 3 800 f2))) (a 0) (some (oT a (cN (cTp S f2) 13 (iI (n + 20 : Nat))))) := e85
      subst e85
      have hL3 : cL K a (cN (cTp S f2) 13 (iI (n + 20 : Nat))) (va_up (va_up N (a 6) (some (eN 3 800 f2))) (a 0) (some (oT a (cN (cTp S f2) 13 (iI (n + 20 : Nat)))))) := hL2.setV rfl
      refine h1 f2 _ hfit hL3 (hk2.at (i := 0) (by omega) _) ⟨hfit, up_eq S.1.2 13 (iI (n + 20 : Nat)), fun q hq => ?_⟩
      show f2 q = _ ∧ _
      rw [← hf2]
      unfold va_cpy fdZ
      by_cases c : n ≤ q ∧ q < n + 20
      · rw [if_pos c, if_pos c, Nat.zero_add, hf (q - n) (by omega)]
        exact ⟨rfl, bz_in _ _⟩
      · rw [if_neg c, if_neg c]
        exact t3 q (by omega)
  | succ m ih =>
    intro k f N hk hL hkp hB hW hf
    have k4 : iI (k : Int) / (4 : Int32) = iI ((k / 4 : Nat) : Int) := by
      rw [show (4 : Int32) = iI 4 from rfl, iI_div (by omega) (by omega)]; congr 1
    have km : iI (k : Int) - iI (k : Int) / (4 : Int32) * (4 : Int32) = iI ((k % 4 : Nat) : Int) := by
      rw [show (4 : Int32) = iI 4 from rfl, iI_rem (by omega) (by omega), Int.tmod_eq_emod_of_nonneg (by omega)]; congr 1
    have es : (24 : Int32) - (8 : Int32) * iI ((k % 4 : Nat) : Int) = iI (24 - 8 * ((k % 4 : Nat) : Int)) := by
      rw [show (8 : Int32) = iI 8 from rfl, iI_mul, show (24 : Int32) = iI 24 from rfl, iI_sub]
    have hbz := bz_in (w (k / 4)) (k % 4)
    unfold wX0_feed_36
    refine ⟨20, f, hB, b_f (by simp (disch := omega) only [iLit, lLit, iI_add, iI_sub, iI_mul, iI_neg, lI_add, lI_sub, lI_mul, lI_neg, nI_i, lI_i, iI_l, iI_nat, iI_lt, iI_le, iI_eq, lI_lt, lI_le, lI_eq] <;> omega) ⟨5, g, hW, ?_⟩⟩
    rw [km, es, k4]
    refine ⟨iI_in (by omega) (by omega) (by omega), iI_in (by omega) (by omega) (by omega), fun N95 e95 => ?_⟩
    rw [nat_i (by omega), nat_i (by omega), hg (k / 4) (by omega), by8] at e95
    have e95 : N95 = va_up N nb (some (eN 3 20 (upd f k (vp_nar .byte (iI (sgB (bz (w (k / 4)) (k % 4)))))))) := e95
    rw [nar8 (sgB_in hbz)] at e95
    subst e95
    rw [show iI (k : Int) + 1 = iI ((k + 1 : Nat) : Int) from iI_add k 1]
    refine ih (k + 1) _ _ (by omega) (hL.off hbo _) (hkp.new hb0 _) (up_eq _ _ _) (by rw [up_ne _ _ _ (Ne.symm hne)]; exact hW) (fun j hj => ?_)
    by_cases e : j = k
    · rw [e, upd_eq]
    · rw [upd_ne _ _ _ e]; exact hf j (by omega)
theorem c_feed {post : Int32 → NM → Prop} {MC MS : Nat} {S : CS} {N : NM} {T : Nat → Int} {n : Nat} {w : Nat → Int32} (hL : cL K a S N) (hT : cTape S T n) (hMC : 10 ≤ MC) (hMS : 500 ≤ MS) (h0 : ¬ n + 20 ≤ 800 → ∀ N', cL K a S N' → kp a N N' → post (iI (-1)) N') (h1 : ∀ f N', n + 20 ≤ 800 → cL K a (cN (cTp S f) 13 (iI (n + 20 : Nat))) N' → kp a N N' → cTape (cN (cTp S f) 13 (iI (n + 20 : Nat))) (fdZ T n w) (n + 20) → post (iI (n + 20 : Nat)) N') : wX0_feed K post MC MS N (a 0) (w 0) (w 1) (w 2) (w 3) (w 4) := by
  have e5 : (5 : Int32).toNatClampNeg = 5 := by decide
  have e20 : (20 : Int32).toNatClampNeg = 20 := by decide
  have v5 : ∀ z : Int, 0 ≤ z → z < 5 → vp_in (iI z) 5 := fun z q1 q2 => iI_in q1 (by omega) (by omega)
  unfold wX0_feed
  rw [e20, e5]
  refine ⟨by decide, by omega, by omega, by omega, fun nb hnb N7 e7 => ⟨by decide, by omega, by omega, by omega, fun nq hnq N16 e16 => ⟨v5 0 (by omega) (by omega), fun N20 e20 => ⟨v5 1 (by omega) (by omega), fun N24 e24 => ⟨v5 2 (by omega) (by omega), fun N28 e28 => ⟨v5 3 (by omega) (by omega), fun N32 e32 => ⟨v5 4 (by omega) (by omega), fun N36 e36 => ⟨21, ?_⟩⟩⟩⟩⟩⟩⟩⟩
  subst e7 e16 e20 e24 e28 e32 e36
  simp only [up_up]
  have hqN : N nq = none := ((nw.refl N).new hnb _).none hnq
  have hne : nb ≠ nq := fun e => by rw [← e, up_eq] at hnq; cases hnq
  generalize hg : upd (upd (upd (upd (upd (fun _ => 0) (0 : Int32).toNatClampNeg (w 0)) (1 : Int32).toNatClampNeg (w 1)) (2 : Int32).toNatClampNeg (w 2)) (3 : Int32).toNatClampNeg (w 3)) (4 : Int32).toNatClampNeg (w 4) = g
  have hgw : ∀ j, j < 5 → g j = w j := fun j hj => by
    rw [← hg]
    rcases (show j = 0 ∨ j = 1 ∨ j = 2 ∨ j = 3 ∨ j = 4 by omega) with q | q | q | q | q <;> subst q <;> rfl
  have n2 : nw N (va_up (va_up N nb (some (eN 3 20 (fun _ => 0)))) nq (some (eN 0 5 g))) := ((nw.refl N).new hnb _).new hqN _
  refine c_feed_36 (g := g) hT hnb (hL.outN hnb) hne (by omega) (by omega) hgw h0 h1 20 0 (fun _ => 0) _ (by omega) (hL.nw n2) (n2.kp a) (by rw [up_ne _ _ _ hne]; exact up_eq _ _ _) (up_eq _ _ _) (fun j hj => by omega)
end
