set_option maxRecDepth 100000
set_option maxHeartbeats 4000000
/-- how a full queue's array grows -/
def qG (cap : Nat) : Nat := if cap < 64 then 2 * cap + 2 else cap + cap / 2
/-- all but the two cells of a queue stays -/
def fq (x ar : Nat) (N N' : NM) : Prop := ∀ z e, N z = some e → z ≠ x → z ≠ ar → N' z = some e
theorem fq.trans {x ar : Nat} {N N1 N2 : NM} (h : fq x ar N N1) (g : fq x ar N1 N2) : fq x ar N N2 := fun z e a b c => g z e (h z e a b c) b c
section
variable {K : Nat → Nat → Nat}
def kDr (z w κ : Int) : Prop := 0 ≤ w ∧ w < 9223372036854775808 ∧ κ = z - w * 65536
def kDn (z w κ : Int) : Prop := 0 ≤ w ∧ w ≤ 40000 ∧ κ = w * 65536 + z
/-- the key of a queued object -/
def kYr (N : NM) (x : Nat) (κ : Int) : Prop := ∃ z w : Int, N x = some (eO 15 [.int (iI z), .long (lI w)]) ∧ -15000 ≤ z ∧ z ≤ 15000 ∧ kDr z w κ
def kYn (N : NM) (x : Nat) (κ : Int) : Prop := ∃ z w : Int, N x = some (eO 14 [.int (iI z), .int (iI w)]) ∧ -15000 ≤ z ∧ z ≤ 15000 ∧ kDn z w κ
theorem c_cmpr {post : Int32 → NM → Prop} {N : NM} {x y : Nat} {κ κ' : Int} (hx : kYr N x κ) (hy : kYr N y κ') (h : ∀ r : Int32, (r < 0 ↔ κ < κ') → (0 < r ↔ κ' < κ) → post r N) : wX16_compareTo K post N x y := by
  obtain ⟨z, w, h1, h2, h3, h4, h5, h6⟩ := hx
  obtain ⟨z', w', g1, g2, g3, g4, g5, g6⟩ := hy
  unfold wX16_compareTo wX16_compareTo_2
  refine ⟨_, _, g1, _, _, h1, _, _, h1, _, _, g1, ?_⟩
  rw [lI_eq (by omega) (by omega) (by omega) (by omega), lI_le (by omega) (by omega) (by omega) (by omega), iI_sub]
  refine ⟨fun c => h _ ?_ ?_, fun c => ⟨fun d => h _ ?_ ?_, fun d => h _ ?_ ?_⟩⟩
  · rw [show (0 : Int32) = iI 0 from rfl, iI_lt (by omega) (by omega) (by omega) (by omega)]; omega
  · rw [show (0 : Int32) = iI 0 from rfl, iI_lt (by omega) (by omega) (by omega) (by omega)]; omega
  · exact ⟨fun e => absurd e (by decide), fun e => by omega⟩
  · exact ⟨fun e => by omega, fun e => by decide⟩
  · exact ⟨fun e => by omega, fun e => by decide⟩
  · exact ⟨fun e => absurd e (by decide), fun e => by omega⟩
theorem c_cmpn {post : Int32 → NM → Prop} {N : NM} {x y : Nat} {κ κ' : Int} (hx : kYn N x κ) (hy : kYn N y κ') (h : ∀ r : Int32, (r < 0 ↔ κ < κ') → (0 < r ↔ κ' < κ) → post r N) : wX15_compareTo K post N x y := by
  obtain ⟨z, w, h1, h2, h3, h4, h5, h6⟩ := hx
  obtain ⟨z', w', g1, g2, g3, g4, g5, g6⟩ := hy
  unfold wX15_compareTo wX15_compareTo_2
  refine ⟨_, _, g1, _, _, h1, _, _, h1, _, _, g1, ?_⟩
  rw [iI_eq (by omega) (by omega) (by omega) (by omega), iI_sub, iI_sub]
  refine ⟨fun c => h _ ?_ ?_, fun c => h _ ?_ ?_⟩
  all_goals rw [show (0 : Int32) = iI 0 from rfl, iI_lt (by omega) (by omega) (by omega) (by omega)]; omega
end
