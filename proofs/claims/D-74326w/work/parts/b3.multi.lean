set_option maxRecDepth 100000
set_option maxHeartbeats 4000000
/-! arrays of arrays; cells that are made one after the other -/
theorem arrV_eq {c : ClassId} {n : Nat} {f g : Nat → Value} (h : ∀ j, j < n → f j = g j) : arrV c n f = arrV c n g := by
  unfold arrV
  have e : (fun j : Fin n => f j.val) = fun j : Fin n => g j.val := funext (fun j => h j.val j.isLt)
  show ({ cls := c, slots := Array.ofFn (fun j : Fin n => f j.val) } : Cell) = { cls := c, slots := Array.ofFn (fun j : Fin n => g j.val) }
  rw [e]
theorem outer_arrV (c : ClassId) (n h0 : Nat) : ∀ i, Multi.outerC c n h0 i = arrV c n (fun j => if j < i then .ref (h0 + 1 + j) else .null)
  | 0 => by
    rw [show Multi.outerC c n h0 0 = { cls := c, slots := Array.replicate n .null, vm := .none } from rfl, arrV_new]
    exact arrV_eq (fun j _ => (if_neg (Nat.not_lt_zero j)).symm)
  | i + 1 => by
    rw [show Multi.outerC c n h0 (i + 1) = (Multi.outerC c n h0 i).setSlot i (.ref (h0 + 1 + i)) from rfl, outer_arrV c n h0 i, arrV_store]
    refine arrV_eq (fun j _ => ?_)
    unfold updV
    by_cases e : j = i
    · subst e; simp
    · rw [if_neg e]
      show (if j < i then Value.ref (h0 + 1 + j) else Value.null) = _
      by_cases hj : j < i
      · rw [if_pos hj, if_pos (by omega)]
      · rw [if_neg hj, if_neg (by omega)]
theorem ao_moved {ty : FieldType} {A B : Array Value} {u U : State} (hvm : u.vm.Alike U.vm) (h : (Cond.arrayOver ty).before A u = true) : (Cond.arrayOver ty).before B U = true := by
  have h1 := Cond.arrayOver_setVmC (args := A) hvm ty
  rw [h] at h1
  exact h1
/-- new cells behind all others -/
theorem cBw.grow {G : gG} {A : Nat → Prop} {L : va_W} {N N1 : NM} {H H1 : Heap} {news : List (Nat × NE)} (h : cBw G A L N H) (hold : ∀ q : Nat, q < H.size → H1[q]? = H[q]?) (hat : ∀ x ∈ news, va_at (gD G) vwCl (nQ G x) H1) (hge : ∀ x ∈ news, H.size ≤ x.1 ∧ A x.1) (hd : ∀ (i j : Nat) (x y : Nat × NE), news[i]? = some x → news[j]? = some y → x.1 = y.1 → i = j)
    (hN : ∀ q e, N1 q = some e ↔ N q = some e ∨ (q, e) ∈ news) : cBw G A L N1 H1 := by
  obtain ⟨w, h1, h2, h3⟩ := h
  have old : ∀ (k : Nat) (x : Nat × va_E), (L ++ w.map (nQ G))[k]? = some x → x.1 < H.size := fun k x hx => (h1 k x hx).lt
  have spl : ∀ (k : Nat) (x : Nat × va_E), (L ++ (w ++ news).map (nQ G))[k]? = some x → (L ++ w.map (nQ G))[k]? = some x ∨ ∃ (i : Nat) (y : Nat × NE), news[i]? = some y ∧ x = nQ G y ∧ k = (L ++ w.map (nQ G)).length + i := fun k x hx => by
    rw [List.map_append, ← List.append_assoc] at hx
    by_cases hk : k < (L ++ w.map (nQ G)).length
    · rw [List.getElem?_append_left hk] at hx
      exact Or.inl hx
    · rw [List.getElem?_append_right (by omega), List.getElem?_map] at hx
      cases hy : news[k - (L ++ w.map (nQ G)).length]? with
      | none => rw [hy] at hx; cases hx
      | some y =>
        rw [hy] at hx
        exact Or.inr ⟨_, y, hy, (Option.some.inj hx).symm, by omega⟩
  refine ⟨w ++ news, fun k x hx => ?_, ⟨fun i j x y hi hj hxy => ?_, fun k x hx => ?_⟩, fun q e => ?_⟩
  · rcases spl k x hx with z | ⟨i, y, z1, z2, -⟩
    · exact (h1 k x z).kept (hold x.1 (old k x z))
    · rw [z2]; exact hat y (List.mem_of_getElem? z1)
  · rcases spl i x hi with z | ⟨i', x', z1, z2, z3⟩
    · rcases spl j y hj with u | ⟨j', y', u1, u2, u3⟩
      · exact h2.1 i j x y z u hxy
      · have a1 := old i x z
        have a2 := (hge y' (List.mem_of_getElem? u1)).1
        rw [hxy, u2] at a1
        exact absurd a1 (Nat.not_lt.mpr a2)
    · rcases spl j y hj with u | ⟨j', y', u1, u2, u3⟩
      · have a1 := old j y u
        have a2 := (hge x' (List.mem_of_getElem? z1)).1
        rw [← hxy, z2] at a1
        exact absurd a1 (Nat.not_lt.mpr a2)
      · have := hd i' j' x' y' z1 u1 (by rw [z2, u2] at hxy; exact hxy)
        omega
  · rcases spl k x hx with z | ⟨i, y, z1, z2, -⟩
    · exact h2.2 k x z
    · rw [z2]; exact (hge y (List.mem_of_getElem? z1)).2
  · rw [hN, h3 q e, List.mem_append]
/-- an array of n arrays -/
def mN (N : NM) (q n : Nat) (e0 e1 : NE) : NM := fun x => if x = q then some e0 else if q < x ∧ x ≤ q + n then some e1 else N x
section MU
variable {p : Program} {l : Launch} {e : Env} {R : Room} {s : State} {m : MethodId} {args : Array Value} {below : List Frame} {meth : Method} {c : Code} {H : Heap} {locs : List Loc} {cells slots : Nat} {Q : State → Prop} {cc : ByteArray} {pc : Nat} {ls : Array Slot} {rest : List Value}
variable {G : gG} {A : Nat → Prop} {own : String} {nL : Nat} {L : va_W} {N : NM}
theorem c_multi (X : cX G A own p s m args c cc nL) (hw : cH G A s L N H locs) {ty : FieldType} {C : String} {index : Nat} (ko ki : Nat) {n M : Nat} {n' k' : Int32} {a0 : vp_A} (hC : C = "[" ++ (FieldType.array ty).toString) (hcl : Cond.classLink own index C ∈ lw_all) (hov : Cond.arrayOver (.array ty) ∈ lw_tbl) (harr : Cond.arrayClass ty ∈ lw_all) (hto : (gT G)[ko]? = some (gA G ko, .array ty)) (hti : (gT G)[ki]? = some (gA G ki, ty)) (hra : ∀ (U : State) (cA : ClassId), va_RA U cA ty → U.vm.findClass (FieldType.array ty).toString = some cA)
    (ha0 : ∀ cA : ClassId, vp_cell cA a0 = arrV cA M (fun _ => defaultValue ty)) (hn : ¬ n' < 0) (hk : ¬ k' < 0) (en : n'.toNatClampNeg = n) (ek : k'.toNatClampNeg = M) (hb1 : n * 4 ≤ 536870912) (hb2 : M * componentBytes ty ≤ 536870912) (hb3 : M ≤ 536870912) (hdf : fits ty (defaultValue ty) = true) (hdd : (defaultValue ty).isDefault = true) (hcells : cells + (1 + n) ≤ R.cells) (hslots : slots + (n + n * M) ≤ R.slots) (d : decode cc pc = .ok (.multianewarray index 2, 4))
    (kk : ∀ (q : Nat) (H1 : Heap), (∀ x, q ≤ x → N x = none) → cH G A s L (mN N q n (eR ko n (fun i => some (q + 1 + i))) (.inl (ki, a0))) H1 locs → W p l e R s m args below meth c H1 locs (cells + 1 + n) (slots + n + n * M) Q (F0 m (pc + 4) ls (.ref q :: rest))) : W p l e R s m args below meth c H locs cells slots Q (F0 m pc ls (.int k' :: .int n' :: rest)) := by
  subst hC
  subst en
  subst ek
  intro T hT Y
  obtain ⟨vm₁, cA, comp, hWm, hfA, hfC, -, -, X1, step⟩ := Y.multianewarray2F X.1.1 (own := own) (index := index) (ty := ty) X.1.2.2.2.1 (X.1.2.2.2.2 _ hcl) (ao_moved X.2.2.2.1.1.alike (X.2.2.1.1 _ hov)) (X.1.2.2.2.2 _ harr) (g := F0 m pc ls (.int k' :: .int n' :: rest)) rfl (by rw [X.1.2.1]; exact d) rfl hn hk hb1 hb2 hb3 hdf hdd hcells hslots
  have hcA : cA = gA G ko := Option.some.inj (hfA.symm.trans (X.2.1.2 ko _ hto).2)
  have hco : comp = gA G ki := Option.some.inj (hfC.symm.trans (hra s _ (X.2.1.2 ki _ hti).2))
  subst hcA
  subst hco
  generalize hF : Multi.fill (T.setVm vm₁) (gA G ko) (gA G ki) n'.toNatClampNeg k'.toNatClampNeg (defaultValue ty) n'.toNatClampNeg = F at X1 step
  have hsz : (T.setVm vm₁).heap.size = H.size := by rw [← hT]; rfl
  have f1 : F.heap.size = H.size + 1 + n'.toNatClampNeg := by rw [← hF, (Multi.fill_facts _ _ _ _ _ _ _).1, hsz]
  have f2 : F.heap[H.size]? = some (Multi.outerC (gA G ko) n'.toNatClampNeg H.size n'.toNatClampNeg) := by
    have := (Multi.fill_facts (T.setVm vm₁) (gA G ko) (gA G ki) n'.toNatClampNeg k'.toNatClampNeg (defaultValue ty) n'.toNatClampNeg).2.1
    rw [hF, hsz] at this
    exact this
  have f3 : ∀ j, j < n'.toNatClampNeg → F.heap[H.size + 1 + j]? = some (Multi.innerC (gA G ki) k'.toNatClampNeg (defaultValue ty)) := fun j hj => by
    have := Multi.fill_inner (T.setVm vm₁) (gA G ko) (gA G ki) n'.toNatClampNeg k'.toNatClampNeg (defaultValue ty) n'.toNatClampNeg j hj
    rw [hF, hsz] at this
    exact this
  have f4 : ∀ q : Nat, q < H.size → F.heap[q]? = H[q]? := fun q hq => by
    have := Multi.fill_old (T.setVm vm₁) (gA G ko) (gA G ki) n'.toNatClampNeg k'.toNatClampNeg (defaultValue ty) (a := q) (by rw [hsz]; exact hq) n'.toNatClampNeg
    rw [hF] at this
    rw [this, ← hT]; rfl
  have hno : ∀ x, H.size ≤ x → N x = none := fun x hx => by
    cases e : N x with
    | none => rfl
    | some v => exact absurd (hw.1.inA (a := x) (by rw [e]; simp)).2.1 (Nat.not_lt.mpr hx)
  have hA : ∀ x, H.size ≤ x → A x := fun x hx => X.2.2.2.2.1 x (Nat.le_trans hw.2.1 hx)
  have hw1 : cH G A s L (mN N H.size n'.toNatClampNeg (eR ko n'.toNatClampNeg (fun i => some (H.size + 1 + i))) (.inl (ki, a0))) F.heap locs := by
    refine ⟨hw.1.grow (news := (H.size, eR ko n'.toNatClampNeg (fun i => some (H.size + 1 + i))) :: (List.range n'.toNatClampNeg).map (fun j => (H.size + 1 + j, (.inl (ki, a0) : NE)))) f4 (fun x hx => ?_) (fun x hx => ?_) (fun i j x y hi hj hxy => ?_) (fun q v => ?_), Nat.le_trans hw.2.1 (by rw [f1]; omega), fun q h1 h2 => (f4 q (Nat.lt_of_lt_of_le h1 hw.2.1)).trans (hw.2.2.1 q h1 h2), hw.2.2.2⟩
    · rcases List.mem_cons.mp hx with z | z
      · subst z
        show F.heap[H.size]? = some (vp_cell (gA G ko) _)
        rw [f2, vp_cell_q, outer_arrV]
        exact congrArg some (arrV_eq (fun j hj => if_pos hj))
      · obtain ⟨j, hj, rfl⟩ := List.mem_map.mp z
        show F.heap[H.size + 1 + j]? = some (vp_cell (gA G ki) a0)
        rw [f3 j (List.mem_range.mp hj), ha0, ← arrV_new]
        rfl
    · rcases List.mem_cons.mp hx with z | z
      · subst z; exact ⟨Nat.le_refl _, hA _ (Nat.le_refl _)⟩
      · obtain ⟨j, hj, rfl⟩ := List.mem_map.mp z
        exact ⟨by show H.size ≤ H.size + 1 + j; omega, hA _ (by omega)⟩
    · have adr : ∀ (i : Nat) (x : Nat × NE), ((H.size, eR ko n'.toNatClampNeg (fun i => some (H.size + 1 + i))) :: (List.range n'.toNatClampNeg).map (fun j => (H.size + 1 + j, (.inl (ki, a0) : NE))))[i]? = some x → x.1 = H.size + i := fun i x hx => by
        cases i with
        | zero => cases hx; rfl
        | succ i =>
          rw [List.getElem?_cons_succ, List.getElem?_map] at hx
          cases hr : (List.range n'.toNatClampNeg)[i]? with
          | none => rw [hr] at hx; cases hx
          | some r =>
            rw [hr] at hx
            cases hx
            have : r = i := by
              obtain ⟨h1, h2⟩ := List.getElem?_eq_some_iff.mp hr
              rw [List.getElem_range] at h2
              exact h2.symm
            subst this
            show H.size + 1 + r = _
            omega
      have h1 := adr i x hi
      have h2 := adr j y hj
      omega
    · show (mN N H.size n'.toNatClampNeg _ _) q = some v ↔ _
      unfold mN
      rw [List.mem_cons, List.mem_map]
      by_cases c1 : q = H.size
      · rw [if_pos c1]
        subst c1
        rw [hno H.size (Nat.le_refl _)]
        constructor
        · intro h; cases h; exact Or.inr (Or.inl rfl)
        · rintro (h | h | ⟨j, hj, h⟩)
          · cases h
          · cases h; rfl
          · have := congrArg (fun x : Nat × NE => x.1) h
            have this : H.size + 1 + j = H.size := this
            omega
      · rw [if_neg c1]
        by_cases c2 : H.size < q ∧ q ≤ H.size + n'.toNatClampNeg
        · rw [if_pos c2, hno q (by omega)]
          constructor
          · intro h; cases h
            exact Or.inr (Or.inr ⟨q - H.size - 1, List.mem_range.mpr (by omega), by rw [show H.size + 1 + (q - H.size - 1) = q by omega]⟩)
          · rintro (h | h | ⟨j, hj, h⟩)
            · cases h
            · exact absurd (congrArg (fun x : Nat × NE => x.1) h) c1
            · cases h; rfl
        · rw [if_neg c2]
          constructor
          · intro h; exact Or.inl h
          · rintro (h | h | ⟨j, hj, h⟩)
            · exact h
            · exact absurd (congrArg (fun x : Nat × NE => x.1) h) c1
            · have := congrArg (fun x : Nat × NE => x.1) h
              have this : H.size + 1 + j = q := this
              have hj := List.mem_range.mp hj
              exact absurd ⟨by omega, by omega⟩ c2
  obtain ⟨t, a1, b1⟩ := kk H.size F.heap hno hw1 F rfl X1
  refine ⟨t, step t ?_, b1⟩
  rw [hT]
  exact a1
end MU
/-- cells made, all apart -/
def cC (N : NM) (w : List (Nat × NE)) : Prop := (∀ x ∈ w, N x.1 = some x.2) ∧ ∀ i j a : Nat, (w.map (fun q => q.1))[i]? = some a → (w.map (fun q => q.1))[j]? = some a → i = j
theorem cC.at {N : NM} {w : List (Nat × NE)} (h : cC N w) {k q : Nat} {e : NE} (hk : w[k]? = some (q, e)) : N q = some e := h.1 _ (List.mem_of_getElem? hk)
theorem cC.one {N : NM} {q : Nat} {e : NE} (h : N q = some e) : cC N [(q, e)] := by
  refine ⟨fun x hx => by rw [List.mem_singleton.mp hx]; exact h, fun i j a hi hj => ?_⟩
  have h1 := (List.getElem?_eq_some_iff.mp hi).1
  have h2 := (List.getElem?_eq_some_iff.mp hj).1
  simp at h1 h2
  omega
theorem cC.new {N : NM} {w : List (Nat × NE)} (h : cC N w) {q : Nat} (hq : N q = none) (e : NE) : cC (va_up N q (some e)) (w ++ [(q, e)]) := by
  have ne : ∀ x ∈ w, x.1 ≠ q := fun x hx z => by have := h.1 x hx; rw [z, hq] at this; cases this
  refine ⟨fun x hx => ?_, fun i j a hi hj => ?_⟩
  · rcases List.mem_append.mp hx with z | z
    · rw [up_ne _ _ _ (ne x z)]; exact h.1 x z
    · rw [List.mem_singleton.mp z]; exact up_eq _ _ _
  · rw [List.map_append] at hi hj
    have last : ∀ k, ¬ k < (w.map (fun q => q.1)).length → ∀ a, (w.map (fun q => q.1) ++ [(q, e)].map (fun q => q.1))[k]? = some a → k = (w.map (fun q => q.1)).length ∧ a = q := fun k hk a ha => by
      rw [List.getElem?_append_right (by omega)] at ha
      have := (List.getElem?_eq_some_iff.mp ha).1
      simp at this
      have e0 : k - (w.map (fun q => q.1)).length = 0 := by rw [List.length_map] at *; omega
      rw [e0] at ha
      cases ha
      exact ⟨by omega, rfl⟩
    have inw : ∀ k a, (w.map (fun q => q.1))[k]? = some a → a ≠ q := fun k a ha => by
      obtain ⟨x, hx, rfl⟩ := List.mem_map.mp (List.mem_of_getElem? ha)
      exact ne x hx
    by_cases ci : i < (w.map (fun q => q.1)).length
    · rw [List.getElem?_append_left ci] at hi
      by_cases cj : j < (w.map (fun q => q.1)).length
      · rw [List.getElem?_append_left cj] at hj
        exact h.2 i j a hi hj
      · exact absurd (last j cj a hj).2 (inw i a hi)
    · by_cases cj : j < (w.map (fun q => q.1)).length
      · rw [List.getElem?_append_left cj] at hj
        exact absurd (last i ci a hi).2 (inw j a hj)
      · exact (last i ci a hi).1.trans (last j cj a hj).1.symm
theorem cC.set {N : NM} {w : List (Nat × NE)} (h : cC N w) {k q : Nat} {e0 : NE} (hk : w[k]? = some (q, e0)) (e : NE) : cC (va_up N q (some e)) (w.set k (q, e)) := by
  have hl := (List.getElem?_eq_some_iff.mp hk).1
  have hm : (w.set k (q, e)).map (fun q => q.1) = w.map (fun q => q.1) := by
    rw [List.map_set]
    refine List.ext_getElem? (fun i => ?_)
    rw [List.getElem?_set]
    split
    · rename_i e1
      subst e1
      rw [List.getElem?_map, hk, List.length_map, if_pos hl]; rfl
    · rfl
  refine ⟨fun x hx => ?_, by rw [hm]; exact h.2⟩
  obtain ⟨i, hi⟩ := List.getElem?_of_mem hx
  by_cases c : k = i
  · subst c
    rw [List.getElem?_set_self hl] at hi
    cases hi
    exact up_eq _ _ _
  · rw [List.getElem?_set_ne c] at hi
    have : x.1 ≠ q := fun z => c (h.2 k i q (by rw [List.getElem?_map, hk]; rfl) (by rw [List.getElem?_map, hi]; exact congrArg some z))
    rw [up_ne _ _ _ this]
    exact h.1 x (List.mem_of_getElem? hi)
theorem cC.eq {N N1 : NM} {w : List (Nat × NE)} (h : cC N w) (e : ∀ x ∈ w, N1 x.1 = N x.1) : cC N1 w := ⟨fun x hx => (e x hx).trans (h.1 x hx), h.2⟩
theorem cC.multi {N : NM} {w : List (Nat × NE)} (h : cC N w) {q : Nat} (hq : ∀ x, q ≤ x → N x = none) (e0 e1 : NE) : cC (mN N q 6 e0 e1) (w ++ [(q, e0)] ++ [(q + 1, e1)] ++ [(q + 2, e1)] ++ [(q + 3, e1)] ++ [(q + 4, e1)] ++ [(q + 5, e1)] ++ [(q + 6, e1)]) := by
  have n : ∀ {x y : Nat} {M : NM} {v : Option NE}, M x = none → x ≠ y → va_up M y v x = none := fun h1 h2 => by rw [up_ne _ _ _ h2]; exact h1
  have hh := ((((((h.new (hq q (by omega)) e0).new (q := q + 1) (n (hq _ (by omega)) (by omega)) e1).new (q := q + 2) (n (n (hq _ (by omega)) (by omega)) (by omega)) e1).new (q := q + 3) (n (n (n (hq _ (by omega)) (by omega)) (by omega)) (by omega)) e1).new (q := q + 4) (n (n (n (n (hq _ (by omega)) (by omega)) (by omega)) (by omega)) (by omega)) e1).new (q := q + 5) (n (n (n (n (n (hq _ (by omega)) (by omega)) (by omega)) (by omega)) (by omega)) (by omega)) e1).new (q := q + 6) (n (n (n (n (n (n (hq _ (by omega)) (by omega)) (by omega)) (by omega)) (by omega)) (by omega)) (by omega)) e1
  refine hh.eq (fun x _ => ?_)
  generalize x.1 = y
  unfold mN va_up
  by_cases c0 : y = q
  · rw [if_pos c0]
    rw [if_neg (by omega), if_neg (by omega), if_neg (by omega), if_neg (by omega), if_neg (by omega), if_neg (by omega), if_pos c0]
  rw [if_neg c0]
  by_cases c : q < y ∧ y ≤ q + 6
  · rw [if_pos c]
    repeat' split
    all_goals first | rfl | omega
  · rw [if_neg c]
    rw [if_neg (by omega), if_neg (by omega), if_neg (by omega), if_neg (by omega), if_neg (by omega), if_neg (by omega), if_neg c0]
/-- the same, with what lies elsewhere -/
def cD (x0 : Nat) (N0 N : NM) (w : List (Nat × NE)) : Prop := cC N w ∧ N x0 ≠ none ∧ (∀ z e, N0 z = some e → z ≠ x0 → N z = some e) ∧ ∀ x ∈ w, x.1 ≠ x0 → N0 x.1 = none
theorem cD.at {x0 : Nat} {N0 N : NM} {w : List (Nat × NE)} (h : cD x0 N0 N w) {k q : Nat} {e : NE} (hk : w[k]? = some (q, e)) : N q = some e := h.1.at hk
theorem cD.one {N : NM} {q : Nat} {e : NE} (h : N q = some e) : cD q N N [(q, e)] := ⟨cC.one h, by rw [h]; simp, fun _ _ a _ => a, fun x hx hn => absurd (by rw [List.mem_singleton.mp hx]) hn⟩
theorem cD.new {x0 : Nat} {N0 N : NM} {w : List (Nat × NE)} (h : cD x0 N0 N w) {q : Nat} (hq : N q = none) (e : NE) : cD x0 N0 (va_up N q (some e)) (w ++ [(q, e)]) := by
  have n0 : q ≠ x0 := fun z => h.2.1 (by rw [← z]; exact hq)
  refine ⟨h.1.new hq e, by rw [up_ne _ _ _ (Ne.symm n0)]; exact h.2.1, fun z v a b => ?_, fun x hx hn => ?_⟩
  · have := h.2.2.1 z v a b
    rw [up_ne _ _ _ (fun c => by rw [c, hq] at this; cases this)]
    exact this
  · rcases List.mem_append.mp hx with z | z
    · exact h.2.2.2 x z hn
    · rw [List.mem_singleton.mp z]
      cases c : N0 q with
      | none => rfl
      | some v => have := h.2.2.1 q v c n0; rw [hq] at this; cases this
theorem cD.set {x0 : Nat} {N0 N : NM} {w : List (Nat × NE)} (h : cD x0 N0 N w) {k : Nat} {e0 : NE} (hk : w[k]? = some (x0, e0)) (e : NE) : cD x0 N0 (va_up N x0 (some e)) (w.set k (x0, e)) := by
  refine ⟨h.1.set hk e, by rw [up_eq]; simp, fun z v a b => by rw [up_ne _ _ _ b]; exact h.2.2.1 z v a b, fun x hx hn => ?_⟩
  rcases List.mem_or_eq_of_mem_set hx with z | z
  · exact h.2.2.2 x z hn
  · rw [z] at hn; exact absurd rfl hn
