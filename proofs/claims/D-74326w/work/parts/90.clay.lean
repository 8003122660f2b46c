set_option maxRecDepth 100000
set_option maxHeartbeats 4000000
/-! the component's cells: how they lie, what stays of all others -/
/-- refs by field, ints by field, slots, tape, long rows (0..5 from, 6..11 layers, 12 classes, 13 next), rows of can -/
abbrev CS : Type := ((Nat → Option Nat) × (Nat → Int32)) × (Nat → Option Nat) × (Nat → Int32) × (Nat → Nat → Int64) × (Nat → Nat → Int32)
abbrev oT (a : Nat → Nat) (S : CS) : NE := eO 1 [va_rf (some (a 1)), va_rf (some (a 2)), va_rf (some (a 3)), va_rf (some (a 4)), va_rf (some (a 5)), va_rf (S.1.1 5), va_rf (S.1.1 6), va_rf (S.1.1 7), va_rf (S.1.1 8), .int (S.1.2 9), .int (S.1.2 10), va_rf (S.1.1 11), va_rf (some (a 6)), .int (S.1.2 13), va_rf (some (a 7)), va_rf (some (a 8)), va_rf (some (a 9)), va_rf (S.1.1 17), va_rf (S.1.1 18)]
def rfA (N : NM) (x k n : Nat) (y : Nat → Nat) : Prop := ∃ f, N x = some (eR k n f) ∧ ∀ i, i < n → f i = some (y i)
/-- how the component's cells lie: the object, its arrays -/
def cL (K : Nat → Nat → Nat) (a : Nat → Nat) (S : CS) (N : NM) : Prop :=
  N (a 0) = some (oT a S) ∧ N (a 3) = some (eR 4 4 S.2.1) ∧ N (a 6) = some (eN 3 800 S.2.2.1) ∧ N (a 7) = some (eL 1 60 (S.2.2.2.1 12)) ∧ N (a 8) = some (eL 1 60 (S.2.2.2.1 13)) ∧
  (∀ k, k < 12 → N (a (10 + k)) = some (eL 1 30001 (S.2.2.2.1 k))) ∧ (∀ k, k < 6 → N (a (22 + k)) = some (eN 2 60 (S.2.2.2.2 k))) ∧
  rfA N (a 1) 9 5 (K 2) ∧ rfA N (a 2) 10 5 (K 0) ∧ rfA N (a 4) 6 6 (fun i => a (10 + i)) ∧ rfA N (a 5) 6 6 (fun i => a (16 + i)) ∧ rfA N (a 9) 7 6 (fun i => a (22 + i)) ∧
  ∀ i j, i < 28 → j < 28 → a i = a j → i = j
def cR (S : CS) (k : Nat) (v : Option Nat) : CS := ((va_up S.1.1 k v, S.1.2), S.2)
def cN (S : CS) (k : Nat) (v : Int32) : CS := ((S.1.1, va_up S.1.2 k v), S.2)
def cSl (S : CS) (f : Nat → Option Nat) : CS := (S.1, f, S.2.2)
def cTp (S : CS) (f : Nat → Int32) : CS := (S.1, S.2.1, f, S.2.2.2)
def cG (S : CS) (k : Nat) (f : Nat → Int64) : CS := (S.1, S.2.1, S.2.2.1, va_up S.2.2.2.1 k f, S.2.2.2.2)
def cB (S : CS) (k : Nat) (f : Nat → Int32) : CS := (S.1, S.2.1, S.2.2.1, S.2.2.2.1, va_up S.2.2.2.2 k f)
/-- all that lies elsewhere stays -/
def kp (a : Nat → Nat) (N N' : NM) : Prop := ∀ q e, N q = some e → (∀ i, i < 28 → q ≠ a i) → N' q = some e
theorem kp.refl (a : Nat → Nat) (N : NM) : kp a N N := fun _ _ h _ => h
theorem kp.trans {a : Nat → Nat} {N N1 N2 : NM} (h : kp a N N1) (g : kp a N1 N2) : kp a N N2 := fun q e h1 h2 => g q e (h q e h1 h2) h2
theorem kp.at {a : Nat → Nat} {N N' : NM} (h : kp a N N') {i : Nat} (hi : i < 28) (e : NE) : kp a N (va_up N' (a i) (some e)) := fun q x h1 h2 => by
  rw [up_ne _ _ _ (h2 i hi)]; exact h q x h1 h2
/-- a new cell, or one that is new since N -/
theorem kp.new {a : Nat → Nat} {N N' : NM} (h : kp a N N') {q : Nat} (hq : N q = none) (e : NE) : kp a N (va_up N' q (some e)) := fun z x h1 h2 => by
  rw [up_ne _ _ _ (fun w => by rw [w, hq] at h1; cases h1)]; exact h z x h1 h2
section
variable {K : Nat → Nat → Nat} {a : Nat → Nat} {S : CS} {N : NM}
theorem cL.inj (h : cL K a S N) {i j : Nat} (hi : i < 28) (hj : j < 28) (hn : i ≠ j) : a i ≠ a j := fun e => hn (h.2.2.2.2.2.2.2.2.2.2.2.2 i j hi hj e)
theorem cL.obj (h : cL K a S N) : N (a 0) = some (oT a S) := h.1
theorem cL.slots (h : cL K a S N) : N (a 3) = some (eR 4 4 S.2.1) := h.2.1
theorem cL.tape (h : cL K a S N) : N (a 6) = some (eN 3 800 S.2.2.1) := h.2.2.1
theorem cL.cls (h : cL K a S N) : N (a 7) = some (eL 1 60 (S.2.2.2.1 12)) := h.2.2.2.1
theorem cL.nxt (h : cL K a S N) : N (a 8) = some (eL 1 60 (S.2.2.2.1 13)) := h.2.2.2.2.1
theorem cL.row (h : cL K a S N) {k : Nat} (hk : k < 12) : N (a (10 + k)) = some (eL 1 30001 (S.2.2.2.1 k)) := h.2.2.2.2.2.1 k hk
theorem cL.can (h : cL K a S N) {k : Nat} (hk : k < 6) : N (a (22 + k)) = some (eN 2 60 (S.2.2.2.2 k)) := h.2.2.2.2.2.2.1 k hk
theorem cL.kinds (h : cL K a S N) : rfA N (a 1) 9 5 (K 2) := h.2.2.2.2.2.2.2.1
theorem cL.words (h : cL K a S N) : rfA N (a 2) 10 5 (K 0) := h.2.2.2.2.2.2.2.2.1
theorem cL.frm (h : cL K a S N) : rfA N (a 4) 6 6 (fun i => a (10 + i)) := h.2.2.2.2.2.2.2.2.2.1
theorem cL.layers (h : cL K a S N) : rfA N (a 5) 6 6 (fun i => a (16 + i)) := h.2.2.2.2.2.2.2.2.2.2.1
theorem cL.cans (h : cL K a S N) : rfA N (a 9) 7 6 (fun i => a (22 + i)) := h.2.2.2.2.2.2.2.2.2.2.2.1
theorem rfA.up {x k n q : Nat} {y : Nat → Nat} {e : Option NE} (h : rfA N x k n y) (hq : x ≠ q) : rfA (va_up N q e) x k n y := by
  obtain ⟨f, h1, h2⟩ := h
  exact ⟨f, by rw [up_ne _ _ _ hq]; exact h1, h2⟩
/-- a cell elsewhere changes -/
theorem cL.off (h : cL K a S N) {q : Nat} (hq : ∀ i, i < 28 → q ≠ a i) (e : Option NE) : cL K a S (va_up N q e) := by
  have n : ∀ i, i < 28 → a i ≠ q := fun i hi z => hq i hi z.symm
  refine ⟨?_, ?_, ?_, ?_, ?_, fun k hk => ?_, fun k hk => ?_, h.kinds.up (n 1 (by omega)), h.words.up (n 2 (by omega)), h.frm.up (n 4 (by omega)), h.layers.up (n 5 (by omega)), h.cans.up (n 9 (by omega)), h.2.2.2.2.2.2.2.2.2.2.2.2⟩
  · rw [up_ne _ _ _ (n 0 (by omega))]; exact h.obj
  · rw [up_ne _ _ _ (n 3 (by omega))]; exact h.slots
  · rw [up_ne _ _ _ (n 6 (by omega))]; exact h.tape
  · rw [up_ne _ _ _ (n 7 (by omega))]; exact h.cls
  · rw [up_ne _ _ _ (n 8 (by omega))]; exact h.nxt
  · rw [up_ne _ _ _ (n _ (by omega))]; exact h.row hk
  · rw [up_ne _ _ _ (n _ (by omega))]; exact h.can hk
/-- the object's fields change -/
theorem cL.setV (h : cL K a S N) {S' : CS} (hS : S'.2 = S.2) : cL K a S' (va_up N (a 0) (some (oT a S'))) := by
  have n : ∀ i, i < 28 → i ≠ 0 → a i ≠ a 0 := fun i hi h0 => h.inj hi (by omega) h0
  refine ⟨up_eq _ _ _, ?_, ?_, ?_, ?_, fun k hk => ?_, fun k hk => ?_, h.kinds.up (n 1 (by omega) (by omega)), h.words.up (n 2 (by omega) (by omega)), h.frm.up (n 4 (by omega) (by omega)), h.layers.up (n 5 (by omega) (by omega)), h.cans.up (n 9 (by omega) (by omega)), h.2.2.2.2.2.2.2.2.2.2.2.2⟩
  · rw [up_ne _ _ _ (n 3 (by omega) (by omega)), hS]; exact h.slots
  · rw [up_ne _ _ _ (n 6 (by omega) (by omega)), hS]; exact h.tape
  · rw [up_ne _ _ _ (n 7 (by omega) (by omega)), hS]; exact h.cls
  · rw [up_ne _ _ _ (n 8 (by omega) (by omega)), hS]; exact h.nxt
  · rw [up_ne _ _ _ (n _ (by omega) (by omega)), hS]; exact h.row hk
  · rw [up_ne _ _ _ (n _ (by omega) (by omega)), hS]; exact h.can hk
theorem cL.setSl (h : cL K a S N) (f : Nat → Option Nat) : cL K a (cSl S f) (va_up N (a 3) (some (eR 4 4 f))) := by
  have n : ∀ i, i < 28 → i ≠ 3 → a i ≠ a 3 := fun i hi h0 => h.inj hi (by omega) h0
  refine ⟨?_, up_eq _ _ _, ?_, ?_, ?_, fun k hk => ?_, fun k hk => ?_, h.kinds.up (n 1 (by omega) (by omega)), h.words.up (n 2 (by omega) (by omega)), h.frm.up (n 4 (by omega) (by omega)), h.layers.up (n 5 (by omega) (by omega)), h.cans.up (n 9 (by omega) (by omega)), h.2.2.2.2.2.2.2.2.2.2.2.2⟩
  · rw [up_ne _ _ _ (n 0 (by omega) (by omega))]; exact h.obj
  · rw [up_ne _ _ _ (n 6 (by omega) (by omega))]; exact h.tape
  · rw [up_ne _ _ _ (n 7 (by omega) (by omega))]; exact h.cls
  · rw [up_ne _ _ _ (n 8 (by omega) (by omega))]; exact h.nxt
  · rw [up_ne _ _ _ (n _ (by omega) (by omega))]; exact h.row hk
  · rw [up_ne _ _ _ (n _ (by omega) (by omega))]; exact h.can hk
theorem cL.setTp (h : cL K a S N) (f : Nat → Int32) : cL K a (cTp S f) (va_up N (a 6) (some (eN 3 800 f))) := by
  have n : ∀ i, i < 28 → i ≠ 6 → a i ≠ a 6 := fun i hi h0 => h.inj hi (by omega) h0
  refine ⟨?_, ?_, up_eq _ _ _, ?_, ?_, fun k hk => ?_, fun k hk => ?_, h.kinds.up (n 1 (by omega) (by omega)), h.words.up (n 2 (by omega) (by omega)), h.frm.up (n 4 (by omega) (by omega)), h.layers.up (n 5 (by omega) (by omega)), h.cans.up (n 9 (by omega) (by omega)), h.2.2.2.2.2.2.2.2.2.2.2.2⟩
  · rw [up_ne _ _ _ (n 0 (by omega) (by omega))]; exact h.obj
  · rw [up_ne _ _ _ (n 3 (by omega) (by omega))]; exact h.slots
  · rw [up_ne _ _ _ (n 7 (by omega) (by omega))]; exact h.cls
  · rw [up_ne _ _ _ (n 8 (by omega) (by omega))]; exact h.nxt
  · rw [up_ne _ _ _ (n _ (by omega) (by omega))]; exact h.row hk
  · rw [up_ne _ _ _ (n _ (by omega) (by omega))]; exact h.can hk
theorem cL.setRow (h : cL K a S N) {r : Nat} (hr : r < 12) (f : Nat → Int64) : cL K a (cG S r f) (va_up N (a (10 + r)) (some (eL 1 30001 f))) := by
  have n : ∀ i, i < 28 → i ≠ 10 + r → a i ≠ a (10 + r) := fun i hi h0 => h.inj hi (by omega) h0
  refine ⟨?_, ?_, ?_, ?_, ?_, fun k hk => ?_, fun k hk => ?_, h.kinds.up (n 1 (by omega) (by omega)), h.words.up (n 2 (by omega) (by omega)), h.frm.up (n 4 (by omega) (by omega)), h.layers.up (n 5 (by omega) (by omega)), h.cans.up (n 9 (by omega) (by omega)), h.2.2.2.2.2.2.2.2.2.2.2.2⟩
  · rw [up_ne _ _ _ (n 0 (by omega) (by omega))]; exact h.obj
  · rw [up_ne _ _ _ (n 3 (by omega) (by omega))]; exact h.slots
  · rw [up_ne _ _ _ (n 6 (by omega) (by omega))]; exact h.tape
  · rw [up_ne _ _ _ (n 7 (by omega) (by omega)), show (cG S r f).2.2.2.1 12 = S.2.2.2.1 12 from up_ne _ _ _ (by omega)]; exact h.cls
  · rw [up_ne _ _ _ (n 8 (by omega) (by omega)), show (cG S r f).2.2.2.1 13 = S.2.2.2.1 13 from up_ne _ _ _ (by omega)]; exact h.nxt
  · by_cases e : k = r
    · rw [e, up_eq, show (cG S r f).2.2.2.1 r = f from up_eq _ _ _]
    · rw [up_ne _ _ _ (n _ (by omega) (by omega)), show (cG S r f).2.2.2.1 k = S.2.2.2.1 k from up_ne _ _ _ e]; exact h.row hk
  · rw [up_ne _ _ _ (n _ (by omega) (by omega))]; exact h.can hk
theorem cL.setCl (h : cL K a S N) {r : Nat} (hr : r = 12 ∨ r = 13) (f : Nat → Int64) : cL K a (cG S r f) (va_up N (a (r - 5)) (some (eL 1 60 f))) := by
  have n : ∀ i, i < 28 → i ≠ r - 5 → a i ≠ a (r - 5) := fun i hi h0 => h.inj hi (by omega) h0
  refine ⟨?_, ?_, ?_, ?_, ?_, fun k hk => ?_, fun k hk => ?_, h.kinds.up (n 1 (by omega) (by omega)), h.words.up (n 2 (by omega) (by omega)), h.frm.up (n 4 (by omega) (by omega)), h.layers.up (n 5 (by omega) (by omega)), h.cans.up (n 9 (by omega) (by omega)), h.2.2.2.2.2.2.2.2.2.2.2.2⟩
  · rw [up_ne _ _ _ (n 0 (by omega) (by omega))]; exact h.obj
  · rw [up_ne _ _ _ (n 3 (by omega) (by omega))]; exact h.slots
  · rw [up_ne _ _ _ (n 6 (by omega) (by omega))]; exact h.tape
  · rcases hr with e | e
    · subst e
      rw [show a 7 = a (12 - 5) from rfl, up_eq, show (cG S 12 f).2.2.2.1 12 = f from up_eq S.2.2.2.1 12 f]
    · rw [up_ne _ _ _ (n 7 (by omega) (by omega)), show (cG S r f).2.2.2.1 12 = S.2.2.2.1 12 from up_ne _ _ _ (by omega)]; exact h.cls
  · rcases hr with e | e
    · rw [up_ne _ _ _ (n 8 (by omega) (by omega)), show (cG S r f).2.2.2.1 13 = S.2.2.2.1 13 from up_ne _ _ _ (by omega)]; exact h.nxt
    · subst e
      rw [show a 8 = a (13 - 5) from rfl, up_eq, show (cG S 13 f).2.2.2.1 13 = f from up_eq S.2.2.2.1 13 f]
  · rw [up_ne _ _ _ (n _ (by omega) (by omega)), show (cG S r f).2.2.2.1 k = S.2.2.2.1 k from up_ne _ _ _ (by omega)]; exact h.row hk
  · rw [up_ne _ _ _ (n _ (by omega) (by omega))]; exact h.can hk
theorem cL.setCan (h : cL K a S N) {r : Nat} (hr : r < 6) (f : Nat → Int32) : cL K a (cB S r f) (va_up N (a (22 + r)) (some (eN 2 60 f))) := by
  have n : ∀ i, i < 28 → i ≠ 22 + r → a i ≠ a (22 + r) := fun i hi h0 => h.inj hi (by omega) h0
  refine ⟨?_, ?_, ?_, ?_, ?_, fun k hk => ?_, fun k hk => ?_, h.kinds.up (n 1 (by omega) (by omega)), h.words.up (n 2 (by omega) (by omega)), h.frm.up (n 4 (by omega) (by omega)), h.layers.up (n 5 (by omega) (by omega)), h.cans.up (n 9 (by omega) (by omega)), h.2.2.2.2.2.2.2.2.2.2.2.2⟩
  · rw [up_ne _ _ _ (n 0 (by omega) (by omega))]; exact h.obj
  · rw [up_ne _ _ _ (n 3 (by omega) (by omega))]; exact h.slots
  · rw [up_ne _ _ _ (n 6 (by omega) (by omega))]; exact h.tape
  · rw [up_ne _ _ _ (n 7 (by omega) (by omega))]; exact h.cls
  · rw [up_ne _ _ _ (n 8 (by omega) (by omega))]; exact h.nxt
  · rw [up_ne _ _ _ (n _ (by omega) (by omega))]; exact h.row hk
  · by_cases e : k = r
    · rw [e, up_eq, show (cB S r f).2.2.2.2 r = f from up_eq _ _ _]
    · rw [up_ne _ _ _ (n _ (by omega) (by omega)), show (cB S r f).2.2.2.2 k = S.2.2.2.2 k from up_ne _ _ _ e]; exact h.can hk
/-- what kind of cell lies at the k-th place -/
def atK : NE → Nat
  | .inr (1, _) => 1
  | .inl (4, _, _) => 1
  | .inl (3, _, _) => 2
  | .inl (1, _, _) => 1
  | .inl (2, _, _) => 1
  | .inl (9, _, _) => 1
  | .inl (10, _, _) => 1
  | .inl (6, _, _) => 1
  | .inl (7, _, _) => 1
  | _ => 0
theorem cL.kind (h : cL K a S N) {i : Nat} (hi : i < 28) : ∃ e, N (a i) = some e ∧ (atK e = 1 ∨ (atK e = 2 ∧ i = 6)) := by
  by_cases h10 : i < 10
  · rcases (show i = 0 ∨ i = 1 ∨ i = 2 ∨ i = 3 ∨ i = 4 ∨ i = 5 ∨ i = 6 ∨ i = 7 ∨ i = 8 ∨ i = 9 by omega) with e | e | e | e | e | e | e | e | e | e <;> subst e
    · exact ⟨_, h.obj, Or.inl rfl⟩
    · obtain ⟨f, h1, -⟩ := h.kinds; exact ⟨_, h1, Or.inl rfl⟩
    · obtain ⟨f, h1, -⟩ := h.words; exact ⟨_, h1, Or.inl rfl⟩
    · exact ⟨_, h.slots, Or.inl rfl⟩
    · obtain ⟨f, h1, -⟩ := h.frm; exact ⟨_, h1, Or.inl rfl⟩
    · obtain ⟨f, h1, -⟩ := h.layers; exact ⟨_, h1, Or.inl rfl⟩
    · exact ⟨_, h.tape, Or.inr ⟨rfl, rfl⟩⟩
    · exact ⟨_, h.cls, Or.inl rfl⟩
    · exact ⟨_, h.nxt, Or.inl rfl⟩
    · obtain ⟨f, h1, -⟩ := h.cans; exact ⟨_, h1, Or.inl rfl⟩
  · by_cases h22 : i < 22
    · have := h.row (k := i - 10) (by omega)
      rw [show 10 + (i - 10) = i by omega] at this
      exact ⟨_, this, Or.inl rfl⟩
    · have := h.can (k := i - 22) (by omega)
      rw [show 22 + (i - 22) = i by omega] at this
      exact ⟨_, this, Or.inl rfl⟩
/-- a cell of another kind lies elsewhere -/
theorem cL.out (h : cL K a S N) {q : Nat} {e : NE} (hq : N q = some e) (hk : atK e = 0) : ∀ i, i < 28 → q ≠ a i := fun i hi z => by
  obtain ⟨e', h1, h2⟩ := h.kind hi
  rw [← z, hq] at h1
  cases h1
  omega
theorem cL.outB (h : cL K a S N) {q : Nat} {e : NE} (hq : N q = some e) (hk : atK e = 2) (h6 : q ≠ a 6) : ∀ i, i < 28 → q ≠ a i := fun i hi z => by
  obtain ⟨e', h1, h2⟩ := h.kind hi
  rw [← z, hq] at h1
  cases h1
  rcases h2 with h2 | ⟨-, h2⟩
  · omega
  · rw [h2] at z; exact h6 z
theorem cL.outN (h : cL K a S N) {q : Nat} (hq : N q = none) : ∀ i, i < 28 → q ≠ a i := fun i hi z => by
  obtain ⟨e', h1, -⟩ := h.kind hi
  rw [← z, hq] at h1
  cases h1
/-! terms and forms -/
def kOk (K : Nat → Nat → Nat) : Prop := ∀ i j, i < 5 → j < 5 → K 2 i = K 2 j → i = j
abbrev oTm (K : Nat → Nat → Nat) (t : tm) : NE := eO 6 [.int (iI t.1), .int (iI t.2.2.1), .int (iI t.2.2.2), va_rf (some (K 2 t.2.1.toNat))]
def cF (K : Nat → Nat → Nat) (N : NM) (q : Nat) (ts : List tm) : Prop := ∃ y f, N q = some (eO 7 [va_rf (some y)]) ∧ N y = some (eR 5 ts.length f) ∧ ∀ i t, ts[i]? = some t → ∃ z, f i = some z ∧ N z = some (oTm K t)
theorem cF.kp (h : cL K a S N) {q : Nat} {ts : List tm} (hf : cF K N q ts) {N' : NM} (hk : kp a N N') : cF K N' q ts := by
  obtain ⟨y, f, h1, h2, h3⟩ := hf
  refine ⟨y, f, hk q _ h1 (h.out h1 rfl), hk y _ h2 (h.out h2 rfl), fun i t ht => ?_⟩
  obtain ⟨z, h4, h5⟩ := h3 i t ht
  exact ⟨z, h4, hk z _ h5 (h.out h5 rfl)⟩
theorem oTm_inj (hK : kOk K) {t u : tm} (ht : vT t) (hu : vT u) (e : oTm K t = oTm K u) : t = u := by
  have e := Sum.inr.inj e
  have e := (Prod.mk.inj e).2
  simp only [List.cons.injEq, Value.int.injEq, and_true] at e
  obtain ⟨e1, e2, e3, e4⟩ := e
  obtain ⟨a1, a2, a3, a4⟩ := t
  obtain ⟨b1, b2, b3, b4⟩ := u
  have c1 := ht.1
  have c2 := ht.2.1
  have c3 := ht.2.2.1
  have c4 := ht.2.2.2.1
  have c5 := ht.lo
  have d1 := hu.1
  have d2 := hu.2.1
  have d3 := hu.2.2.1
  have d4 := hu.2.2.2.1
  have d5 := hu.lo
  simp only [] at *
  rw [iI_eq (by omega) (by omega) (by omega) (by omega)] at e1 e2 e3
  have e4 : K 2 a2.toNat = K 2 b2.toNat := by
    unfold va_rf at e4
    simp only [Value.ref.injEq] at e4
    exact e4
  have := hK _ _ (by omega) (by omega) e4
  have : a2 = b2 := by omega
  subst e1 e2 e3 this
  rfl
theorem cF.inj (hK : kOk K) {q : Nat} {ts us : List tm} (h1 : cF K N q ts) (h2 : cF K N q us) (v1 : ∀ t ∈ ts, vT t) (v2 : ∀ t ∈ us, vT t) : ts = us := by
  obtain ⟨y, f, a1, a2, a3⟩ := h1
  obtain ⟨y', f', b1, b2, b3⟩ := h2
  rw [a1] at b1
  have e := Option.some.inj b1
  have e := (Prod.mk.inj (Sum.inr.inj e)).2
  simp only [List.cons.injEq, and_true] at e
  unfold va_rf at e
  simp only [Value.ref.injEq] at e
  subst e
  rw [a2] at b2
  have e := Option.some.inj b2
  have e := (Prod.mk.inj (Sum.inl.inj e)).2
  have el := (Prod.mk.inj e).1
  have ef := (Prod.mk.inj e).2
  have ef : f = f' := Sum.inr.inj (Sum.inr.inj (Sum.inr.inj (Sum.inr.inj ef)))
  subst ef
  refine List.ext_getElem? (fun i => ?_)
  cases hi : ts[i]? with
  | none =>
    rw [List.getElem?_eq_none_iff] at hi
    rw [List.getElem?_eq_none (by omega)]
  | some t =>
    have hl := (List.getElem?_eq_some_iff.mp hi).1
    obtain ⟨u, hu⟩ : ∃ u, us[i]? = some u := ⟨_, List.getElem?_eq_getElem (by omega)⟩
    obtain ⟨z, z1, z2⟩ := a3 i t hi
    obtain ⟨z', z3, z4⟩ := b3 i u hu
    rw [z1] at z3
    cases z3
    rw [z2] at z4
    rw [hu, oTm_inj hK (v1 t (List.mem_of_getElem? hi)) (v2 u (List.mem_of_getElem? hu)) (Option.some.inj z4)]
end
