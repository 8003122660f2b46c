set_option maxRecDepth 100000
set_option maxHeartbeats 4000000
/-! what the constructors leave -/
/-- the state at the start -/
def sg0 : PS := (fun _ => [], (fun _ => 0, 0), (0, -1, -1, -1), none, [])
def cs0 (K : Nat → Nat → Nat) : CS := ((fun k => if k = 17 then some (K 0 5) else none, fun _ => 0), fun _ => none, fun _ => 0, fun _ _ => 0, fun _ _ => 0)
theorem iX0.cRt {G : gG} {x0 : Nat} {N : NM} (h : iX0 G x0 N) : ∃ a : Nat → Nat, a 0 = x0 ∧ cRt (gC G) a sg0 [] (cs0 (gC G)) N := by
  obtain ⟨q1, q2, q3, q4, q5, q6, q7, q8, q9, hC⟩ := h
  have hp : ∀ i, i < 28 → ∀ j, j < 28 → ([0, 1, 2, 3, 4, 11, 18, 19, 20, 21, 5, 6, 7, 8, 9, 10, 12, 13, 14, 15, 16, 17, 22, 23, 24, 25, 26, 27] : List Nat).getD i 0 = ([0, 1, 2, 3, 4, 11, 18, 19, 20, 21, 5, 6, 7, 8, 9, 10, 12, 13, 14, 15, 16, 17, 22, 23, 24, 25, 26, 27] : List Nat).getD j 0 → i = j := by decide
  refine ⟨fun i => ([x0, q1, q2, q3, q4, q5, q6, q7, q8, q9, q4 + 1, q4 + 2, q4 + 3, q4 + 4, q4 + 5, q4 + 6, q5 + 1, q5 + 2, q5 + 3, q5 + 4, q5 + 5, q5 + 6, q9 + 1, q9 + 2, q9 + 3, q9 + 4, q9 + 5, q9 + 6] : List Nat).getD i 0, rfl, ⟨hC.at (k := 0) rfl, hC.at (k := 3) rfl, hC.at (k := 18) rfl, hC.at (k := 19) rfl, hC.at (k := 20) rfl, fun k hk => ?_, fun k hk => ?_, ⟨_, hC.at (k := 1) rfl, fun i hi => ?_⟩, ⟨_, hC.at (k := 2) rfl, fun i hi => ?_⟩, ⟨_, hC.at (k := 4) rfl, fun i hi => ?_⟩, ⟨_, hC.at (k := 11) rfl, fun i hi => ?_⟩, ⟨_, hC.at (k := 21) rfl, fun i hi => ?_⟩, fun i j hi hj e => ?_⟩, fun s _ => ⟨⟨Nat.zero_le _, fun t ht => by cases ht⟩, Or.inl ⟨rfl, rfl⟩⟩, tape0 rfl, Or.inl rfl, Or.inl rfl, fL.no, Or.inl ⟨rfl, rfl, rfl, rfl⟩, ⟨gC G 0 5, rfl, Or.inl ⟨rfl, rfl⟩⟩⟩
  · match k, hk with
    | 0, _ => exact hC.at (k := 5) rfl
    | 1, _ => exact hC.at (k := 6) rfl
    | 2, _ => exact hC.at (k := 7) rfl
    | 3, _ => exact hC.at (k := 8) rfl
    | 4, _ => exact hC.at (k := 9) rfl
    | 5, _ => exact hC.at (k := 10) rfl
    | 6, _ => exact hC.at (k := 12) rfl
    | 7, _ => exact hC.at (k := 13) rfl
    | 8, _ => exact hC.at (k := 14) rfl
    | 9, _ => exact hC.at (k := 15) rfl
    | 10, _ => exact hC.at (k := 16) rfl
    | 11, _ => exact hC.at (k := 17) rfl
    | k + 12, hk => exact absurd hk (by omega)
  · match k, hk with
    | 0, _ => exact hC.at (k := 22) rfl
    | 1, _ => exact hC.at (k := 23) rfl
    | 2, _ => exact hC.at (k := 24) rfl
    | 3, _ => exact hC.at (k := 25) rfl
    | 4, _ => exact hC.at (k := 26) rfl
    | 5, _ => exact hC.at (k := 27) rfl
    | k + 6, hk => exact absurd hk (by omega)
  · match i, hi with
    | 0, _ => exact rfl
    | 1, _ => exact rfl
    | 2, _ => exact rfl
    | 3, _ => exact rfl
    | 4, _ => exact rfl
    | i + 5, hi => exact absurd hi (by omega)
  · match i, hi with
    | 0, _ => exact rfl
    | 1, _ => exact rfl
    | 2, _ => exact rfl
    | 3, _ => exact rfl
    | 4, _ => exact rfl
    | i + 5, hi => exact absurd hi (by omega)
  · match i, hi with
    | 0, _ => exact rfl
    | 1, _ => exact rfl
    | 2, _ => exact rfl
    | 3, _ => exact rfl
    | 4, _ => exact rfl
    | 5, _ => exact rfl
    | i + 6, hi => exact absurd hi (by omega)
  · match i, hi with
    | 0, _ => exact rfl
    | 1, _ => exact rfl
    | 2, _ => exact rfl
    | 3, _ => exact rfl
    | 4, _ => exact rfl
    | 5, _ => exact rfl
    | i + 6, hi => exact absurd hi (by omega)
  · match i, hi with
    | 0, _ => exact rfl
    | 1, _ => exact rfl
    | 2, _ => exact rfl
    | 3, _ => exact rfl
    | 4, _ => exact rfl
    | 5, _ => exact rfl
    | i + 6, hi => exact absurd hi (by omega)
  · have at1 : ∀ i, i < 28 → ([x0, q1, q2, q3, q4, q4 + 1, q4 + 2, q4 + 3, q4 + 4, q4 + 5, q4 + 6, q5, q5 + 1, q5 + 2, q5 + 3, q5 + 4, q5 + 5, q5 + 6, q6, q7, q8, q9, q9 + 1, q9 + 2, q9 + 3, q9 + 4, q9 + 5, q9 + 6] : List Nat)[([0, 1, 2, 3, 4, 11, 18, 19, 20, 21, 5, 6, 7, 8, 9, 10, 12, 13, 14, 15, 16, 17, 22, 23, 24, 25, 26, 27] : List Nat).getD i 0]? = some (([x0, q1, q2, q3, q4, q5, q6, q7, q8, q9, q4 + 1, q4 + 2, q4 + 3, q4 + 4, q4 + 5, q4 + 6, q5 + 1, q5 + 2, q5 + 3, q5 + 4, q5 + 5, q5 + 6, q9 + 1, q9 + 2, q9 + 3, q9 + 4, q9 + 5, q9 + 6] : List Nat).getD i 0) := fun i hi => by
      match i, hi with
      | 0, _ => rfl
      | 1, _ => rfl
      | 2, _ => rfl
      | 3, _ => rfl
      | 4, _ => rfl
      | 5, _ => rfl
      | 6, _ => rfl
      | 7, _ => rfl
      | 8, _ => rfl
      | 9, _ => rfl
      | 10, _ => rfl
      | 11, _ => rfl
      | 12, _ => rfl
      | 13, _ => rfl
      | 14, _ => rfl
      | 15, _ => rfl
      | 16, _ => rfl
      | 17, _ => rfl
      | 18, _ => rfl
      | 19, _ => rfl
      | 20, _ => rfl
      | 21, _ => rfl
      | 22, _ => rfl
      | 23, _ => rfl
      | 24, _ => rfl
      | 25, _ => rfl
      | 26, _ => rfl
      | 27, _ => rfl
      | i + 28, hi => exact absurd hi (by omega)
    exact hp i hi j hj (hC.2 _ _ _ (at1 i hi) (by rw [show (([x0, q1, q2, q3, q4, q5, q6, q7, q8, q9, q4 + 1, q4 + 2, q4 + 3, q4 + 4, q4 + 5, q4 + 6, q5 + 1, q5 + 2, q5 + 3, q5 + 4, q5 + 5, q5 + 6, q9 + 1, q9 + 2, q9 + 3, q9 + 4, q9 + 5, q9 + 6] : List Nat).getD i 0) = (([x0, q1, q2, q3, q4, q5, q6, q7, q8, q9, q4 + 1, q4 + 2, q4 + 3, q4 + 4, q4 + 5, q4 + 6, q5 + 1, q5 + 2, q5 + 3, q5 + 4, q5 + 5, q5 + 6, q9 + 1, q9 + 2, q9 + 3, q9 + 4, q9 + 5, q9 + 6] : List Nat).getD j 0) from e]; exact at1 j hj))
def mst0 : MS := (fun k => if k = 5 ∨ k = 6 ∨ k = 7 ∨ k = 21 ∨ k = 23 then -1 else 0, fun _ => 0, fun _ _ => 0, fun _ _ => 0)
theorem mst0_R : mRs sg0 mst0 := ⟨fun s _ => ⟨rfl, ⟨Nat.zero_le _, fun t ht => by cases ht⟩, fun i t ht => by cases ht⟩, ⟨Nat.zero_le _, rfl, fun k hk => by cases hk⟩, ⟨rfl, rfl, rfl, rfl⟩, Or.inl rfl, Or.inl rfl, Or.inl ⟨rfl, rfl, rfl, rfl⟩, ⟨Nat.zero_le _, rfl, fun k c hc => by cases hc⟩⟩
theorem iX1.cells (G : gG) {x0 : Nat} {N0 N : NM} (h : iX1 x0 N0 N) : ∃ (ad : Nat → Nat) (w : List (Nat × NE)), cD x0 N0 N w ∧ w.map (nQ G) = mW G x0 ad mst0 ∧ w.map (fun q => q.1) = mAs x0 ad := by
  obtain ⟨q1, q2, q3, q4, q5, q6, q7, q8, q9, q10, q11, q12, q13, q14, q15, q16, q17, q18, q19, q20, hC⟩ := h
  exact ⟨fun k => match k with | 0 => q1 | 1 => q2 | 2 => q3 | 22 => q4 | 24 => q5 | 25 => q6 | 26 => q7 | 27 => q8 | 28 => q9 | 30 => q10 | 31 => q11 | 33 => q12 | 34 => q13 | 35 => q14 | 42 => q15 | 43 => q16 | 45 => q17 | 46 => q18 | 47 => q19 | 48 => q20 | _ => 0, _, hC, rfl, rfl⟩
/-- cells go over to the list of those at known places -/
theorem cBw.over {G : gG} {A : Nat → Prop} {N : NM} {H : Heap} {w : List (Nat × NE)} (h : cBw G A [] N H) (hC : cC N w) : cBw G A (w.map (nQ G)) (fun q => if q ∈ w.map (fun x => x.1) then none else N q) H := by
  obtain ⟨v, h1, h2, h3⟩ := h
  have av : ∀ y ∈ v, va_at (gD G) vwCl (nQ G y) H ∧ A y.1 := fun y hy => by
    obtain ⟨i, hi⟩ := List.getElem?_of_mem hy
    have hx : ([] ++ v.map (nQ G))[i]? = some (nQ G y) := by rw [List.nil_append, List.getElem?_map, hi]; rfl
    exact ⟨h1 i _ hx, h2.2 i (nQ G y) hx⟩
  have wv : ∀ y ∈ w, y ∈ v := fun y hy => (h3 y.1 y.2).mp (hC.1 y hy)
  have pv : v.Pairwise (fun x y => x.1 ≠ y.1) := by
    rw [List.pairwise_iff_getElem]
    intro i j hi hj hij e
    have := h2.1 i j (nQ G v[i]) (nQ G v[j]) (by rw [List.nil_append, List.getElem?_map, List.getElem?_eq_getElem hi]; rfl) (by rw [List.nil_append, List.getElem?_map, List.getElem?_eq_getElem hj]; rfl) e
    omega
  have pf : (v.filter (fun x => decide (x.1 ∉ w.map (fun x => x.1)))).Pairwise (fun x y => x.1 ≠ y.1) := pv.sublist List.filter_sublist
  have inf : ∀ y, y ∈ v.filter (fun x => decide (x.1 ∉ w.map (fun x => x.1))) ↔ y ∈ v ∧ y.1 ∉ w.map (fun x => x.1) := fun y => by rw [List.mem_filter]; simp
  generalize v.filter (fun x => decide (x.1 ∉ w.map (fun x => x.1))) = f at pf inf
  have spl : ∀ (k : Nat) (x : Nat × va_E), (w.map (nQ G) ++ f.map (nQ G))[k]? = some x → (∃ y, w[k]? = some y ∧ x = nQ G y) ∨ ∃ (i : Nat) (y : Nat × NE), f[i]? = some y ∧ x = nQ G y ∧ k = w.length + i := fun k x hx => by
    by_cases hk : k < (w.map (nQ G)).length
    · rw [List.getElem?_append_left hk, List.getElem?_map] at hx
      cases hy : w[k]? with
      | none => rw [hy] at hx; cases hx
      | some y => rw [hy] at hx; exact Or.inl ⟨y, rfl, (Option.some.inj hx).symm⟩
    · rw [List.getElem?_append_right (by omega), List.getElem?_map] at hx
      rw [List.length_map] at hx hk
      cases hy : f[k - w.length]? with
      | none => rw [hy] at hx; cases hx
      | some y => rw [hy] at hx; exact Or.inr ⟨_, y, hy, (Option.some.inj hx).symm, by omega⟩
  refine ⟨f, fun k x hx => ?_, ⟨fun i j x y hi hj hxy => ?_, fun k x hx => ?_⟩, fun q e => ?_⟩
  · rcases spl k x hx with ⟨y, z1, z2⟩ | ⟨i, y, z1, z2, -⟩
    · rw [z2]; exact (av y (wv y (List.mem_of_getElem? z1))).1
    · rw [z2]; exact (av y ((inf y).mp (List.mem_of_getElem? z1)).1).1
  · rcases spl i x hi with ⟨x', z1, z2⟩ | ⟨i', x', z1, z2, z3⟩
    · rcases spl j y hj with ⟨y', u1, u2⟩ | ⟨j', y', u1, u2, u3⟩
      · rw [z2, u2] at hxy
        exact hC.2 i j x'.1 (by rw [List.getElem?_map, z1]; rfl) (by rw [List.getElem?_map, u1]; exact congrArg some hxy.symm)
      · rw [z2, u2] at hxy
        exact absurd (show y'.1 ∈ w.map (fun x => x.1) by rw [show y'.1 = x'.1 from hxy.symm]; exact List.mem_map_of_mem (List.mem_of_getElem? z1)) ((inf y').mp (List.mem_of_getElem? u1)).2
    · rcases spl j y hj with ⟨y', u1, u2⟩ | ⟨j', y', u1, u2, u3⟩
      · rw [z2, u2] at hxy
        exact absurd (show x'.1 ∈ w.map (fun x => x.1) by rw [show x'.1 = y'.1 from hxy]; exact List.mem_map_of_mem (List.mem_of_getElem? u1)) ((inf x').mp (List.mem_of_getElem? z1)).2
      · rw [z2, u2] at hxy
        obtain ⟨l1, g1⟩ := List.getElem?_eq_some_iff.mp z1
        obtain ⟨l2, g2⟩ := List.getElem?_eq_some_iff.mp u1
        rw [List.pairwise_iff_getElem] at pf
        rcases Nat.lt_trichotomy i' j' with c | c | c
        · exact absurd (by rw [g1, g2]; exact hxy) (pf i' j' l1 l2 c)
        · omega
        · exact absurd (by rw [g1, g2]; exact hxy.symm) (pf j' i' l2 l1 c)
  · rcases spl k x hx with ⟨y, z1, z2⟩ | ⟨i, y, z1, z2, -⟩
    · rw [z2]; exact (av y (wv y (List.mem_of_getElem? z1))).2
    · rw [z2]; exact (av y ((inf y).mp (List.mem_of_getElem? z1)).1).2
  · rw [inf (q, e), ← h3 q e]
    show (if q ∈ w.map (fun x => x.1) then none else N q) = some e ↔ _
    split
    · rename_i c
      constructor
      · intro z; cases z
      · intro z; exact absurd c z.2
    · rename_i c
      exact ⟨fun z => ⟨z, c⟩, fun z => z.1⟩
