set_option maxRecDepth 100000
set_option maxHeartbeats 4000000
/-! the model evaluates a side -/
abbrev sdS (S : MS) (g : Nat → Int64) (x : Int32) : MS := mI (mB S 43 g) 44 x
theorem lI_of (r : Int64) : ∃ z, i64 z ∧ r = lI z := by
  refine ⟨r.toInt, ⟨?_, ?_⟩, ?_⟩
  · have := r.le_toInt; omega
  · have := r.toInt_lt; omega
  · exact (Int64.ofInt_toInt r).symm
/-- what the pile holds: a stack, or (beyond) nothing that counts -/
def pI (o : Option (List Int)) (g : Nat → Int64) (x : Int32) (h : Nat) : Prop := match o with
  | some stk => x = iI 0 ∧ stk.length = h ∧ ∀ i v, stk[i]? = some v → g (h - 1 - i) = lI v ∧ i64 v
  | none => x = iI 1
theorem updL_eq (g : Nat → Int64) (k : Nat) (x : Int64) : vp_updL g k x k = x := if_pos rfl
theorem updL_ne (g : Nat → Int64) (k : Nat) (x : Int64) {j : Nat} (h : j ≠ k) : vp_updL g k x j = g j := if_neg h
theorem pI_push {o : Option (List Int)} {g : Nat → Int64} {x : Int32} {h : Nat} {w : Int} (hw : i64 w) (hp : pI o g x h) : pI (o.map (fun s => w :: s)) (vp_updL g h (lI w)) x (h + 1) := by
  cases o with
  | none => exact hp
  | some stk =>
    obtain ⟨h1, h2, h3⟩ := hp
    refine ⟨h1, by rw [List.length_cons, h2], fun i v hi => ?_⟩
    cases i with
    | zero =>
      cases hi
      rw [show h + 1 - 1 - 0 = h by omega, updL_eq]; exact ⟨rfl, hw⟩
    | succ i =>
      have hi : stk[i]? = some v := hi
      have hil := (List.getElem?_eq_some_iff.mp hi).1
      rw [show h + 1 - 1 - (i + 1) = h - 1 - i by omega, updL_ne _ _ _ (by omega)]
      exact h3 i v hi
/-- the top is set -/
theorem pI_set {x0 : Int} {r : List Int} {g : Nat → Int64} {x : Int32} {h : Nat} {w : Int} (hw : i64 w) (hp : pI (some (x0 :: r)) g x h) : pI (some (w :: r)) (vp_updL g (h - 1) (lI w)) x h := by
  obtain ⟨h1, h2, h3⟩ := hp
  rw [List.length_cons] at h2
  refine ⟨h1, by rw [List.length_cons]; exact h2, fun i v hi => ?_⟩
  cases i with
  | zero =>
    cases hi
    rw [show h - 1 - 0 = h - 1 by omega, updL_eq]; exact ⟨rfl, hw⟩
  | succ i =>
    have hi' : r[i]? = some v := hi
    have hil := (List.getElem?_eq_some_iff.mp hi').1
    rw [updL_ne _ _ _ (by omega)]
    exact h3 (i + 1) v hi
/-- the top is dropped -/
theorem pI_pop {x0 : Int} {r : List Int} {g : Nat → Int64} {x : Int32} {h : Nat} (hp : pI (some (x0 :: r)) g x h) : pI (some r) g x (h - 1) := by
  obtain ⟨h1, h2, h3⟩ := hp
  rw [List.length_cons] at h2
  refine ⟨h1, by omega, fun i v hi => ?_⟩
  rw [show h - 1 - 1 - i = h - 1 - (i + 1) by omega]
  exact h3 (i + 1) v hi
